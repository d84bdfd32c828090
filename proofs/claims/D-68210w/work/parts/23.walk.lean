set_option maxRecDepth 100000
theorem V.dX20_at_0 : decode cX20_at 0 = .ok (.aload_n 0, 1) := by decide +kernel
theorem V.dX20_at_1 : decode cX20_at 1 = .ok (.getfield 147, 3) := by decide +kernel
theorem V.dX20_at_4 : decode cX20_at 4 = .ok (.iload_n 1, 1) := by decide +kernel
theorem V.dX20_at_5 : decode cX20_at 5 = .ok (.baload, 1) := by decide +kernel
theorem V.dX20_at_6 : decode cX20_at 6 = .ok (.sipush 255, 3) := by decide +kernel
theorem V.dX20_at_9 : decode cX20_at 9 = .ok (.iand, 1) := by decide +kernel
theorem V.dX20_at_10 : decode cX20_at 10 = .ok (.ireturn, 1) := by decide +kernel
theorem V.fdX20_147 : FD RX20 147 20 0 2 := ⟨(RX20, TX20, 58), tyX20, rfl, rfl, in_X20, by decide, Or.inl q3359, rfl⟩
/-! ModuleEngineModel$Plan.at(I)I -/
def V.Pln_at (σ : HS) (x0 : Nat) (x1 : Int32) : Option (Int32 × HS) :=
  ck (tg σ x0 = 21) <|
  ck (tg σ (gR σ x0 0) = 102 ∧ inb x1 (ln σ (gR σ x0 0))) <|
  some ((gI σ (gR σ x0 0) (ix x1)) &&& (255 : Int32), σ)
theorem V.ctX20_at (x0 : Nat) (x1 : Int32) : Ct yX20_at  cX20_at 2 (some .int) 0 0 eI [av x0, iv x1] (fun σ => Pln_at σ x0 x1) := by
  refine Ct.of (own := RX20) (nm := "at") (desc := "(I)I") rfl (by decide) (Nat.le_of_ble_eq_true rfl) (by decide) (fun X σ => ?_)
  show G X RX20 "at" cX20_at 2 (some .int) 0 0 enI 0 [(0, av x0), (1, iv x1)] [] σ (Pln_at σ x0 x1)
  unfold Pln_at
  refine g_aload_n 0 0 dX20_at_0 rfl rfl ?_
  refine g_getR fdX20_147 dX20_at_1 ?_
  refine g_iload_n 1 1 dX20_at_4 rfl rfl ?_
  refine g_baload dX20_at_5 ?_
  refine g_sipush (v := 255) dX20_at_6 (by decide) ?_
  refine g_iand dX20_at_9 ?_
  exact g_ireturn rfl dX20_at_10
theorem V.dX20_imported_0 : decode cX20_imported 0 = .ok (.iconst 0, 1) := by decide +kernel
theorem V.dX20_imported_1 : decode cX20_imported 1 = .ok (.istore_n 2, 1) := by decide +kernel
theorem V.dX20_imported_2 : decode cX20_imported 2 = .ok (.iconst 0, 1) := by decide +kernel
theorem V.dX20_imported_3 : decode cX20_imported 3 = .ok (.istore_n 3, 1) := by decide +kernel
theorem V.dX20_imported_4 : decode cX20_imported 4 = .ok (.iload_n 3, 1) := by decide +kernel
theorem V.dX20_imported_5 : decode cX20_imported 5 = .ok (.aload_n 0, 1) := by decide +kernel
theorem V.dX20_imported_6 : decode cX20_imported 6 = .ok (.getfield 160, 3) := by decide +kernel
theorem V.dX20_imported_9 : decode cX20_imported 9 = .ok (.if_icmp .ge 27, 3) := by decide +kernel
theorem V.dX20_imported_12 : decode cX20_imported 12 = .ok (.iload_n 2, 1) := by decide +kernel
theorem V.dX20_imported_13 : decode cX20_imported 13 = .ok (.aload_n 0, 1) := by decide +kernel
theorem V.dX20_imported_14 : decode cX20_imported 14 = .ok (.getfield 28, 3) := by decide +kernel
theorem V.dX20_imported_17 : decode cX20_imported 17 = .ok (.iload_n 3, 1) := by decide +kernel
theorem V.dX20_imported_18 : decode cX20_imported 18 = .ok (.iaload, 1) := by decide +kernel
theorem V.dX20_imported_19 : decode cX20_imported 19 = .ok (.iload_n 1, 1) := by decide +kernel
theorem V.dX20_imported_20 : decode cX20_imported 20 = .ok (.if_icmp .ne 7, 3) := by decide +kernel
theorem V.dX20_imported_23 : decode cX20_imported 23 = .ok (.iconst 1, 1) := by decide +kernel
theorem V.dX20_imported_24 : decode cX20_imported 24 = .ok (.goto 4, 3) := by decide +kernel
theorem V.dX20_imported_27 : decode cX20_imported 27 = .ok (.iconst 0, 1) := by decide +kernel
theorem V.dX20_imported_28 : decode cX20_imported 28 = .ok (.iadd, 1) := by decide +kernel
theorem V.dX20_imported_29 : decode cX20_imported 29 = .ok (.istore_n 2, 1) := by decide +kernel
theorem V.dX20_imported_30 : decode cX20_imported 30 = .ok (.iinc 3 1, 3) := by decide +kernel
theorem V.dX20_imported_33 : decode cX20_imported 33 = .ok (.goto (-29), 3) := by decide +kernel
theorem V.dX20_imported_36 : decode cX20_imported 36 = .ok (.iload_n 2, 1) := by decide +kernel
theorem V.dX20_imported_37 : decode cX20_imported 37 = .ok (.ireturn, 1) := by decide +kernel
theorem V.fdX20_160 : FD RX20 160 20 8 0 := ⟨(RX20, TX20, 58), tyX20, rfl, rfl, in_X20, by decide, Or.inl q3375, rfl⟩
theorem V.fdX20_28 : FD RX20 28 20 9 2 := ⟨(RX20, TX20, 58), tyX20, rfl, rfl, in_X20, by decide, Or.inl q3377, rfl⟩
/-! ModuleEngineModel$Plan.imported(I)I -/
def V.Pln_imported_p28 (rec4 : HS → Nat → Int32 → Int32 → Int32 → Option (Int32 × HS)) (σ : HS) (x0 : Nat) (x1 : Int32) (x3 : Int32) (s0 : Int32) (s1 : Int32) : Option (Int32 × HS) :=
  bn (s1 + s0) fun y1 =>
  bn (x3 + (1 : Int32)) fun y2 =>
  rec4 σ x0 x1 y1 y2
theorem V.gX20_imported_p28 {X : CX} (rec4 : HS → Nat → Int32 → Int32 → Int32 → Option (Int32 × HS)) (hrec4 : ∀ (σ : HS) (x0 : Nat) (x1 : Int32) (x2 : Int32) (x3 : Int32), G X RX20 "imported" cX20_imported 4 (some .int) 0 0 enI 4 [(0, av x0), (1, iv x1), (2, iv x2), (3, iv x3)] [] σ (rec4 σ x0 x1 x2 x3)) (σ : HS) (x0 : Nat) (x1 : Int32) (x3 : Int32) (s0 : Int32) (s1 : Int32) : G X RX20 "imported" cX20_imported 4 (some .int) 0 0 enI 28 [(0, av x0), (1, iv x1), (3, iv x3)] [iv s0, iv s1] σ (Pln_imported_p28 rec4 σ x0 x1 x3 s0 s1) := by
  unfold Pln_imported_p28
  refine g_iadd dX20_imported_28 ?_
  refine g_nmI (fun y1 => ?_)
  refine g_istore_n 2 dX20_imported_29 rfl (by decide) rfl ?_
  refine g_iincB (w := 1) 3 dX20_imported_30 rfl (by decide) (by decide) (fun _ => rfl) (fun y2 => ?_)
  refine g_goto 4 dX20_imported_33 (by decide) ?_
  refine G.sub [2, 3, 1, 0] rfl ?_
  exact hrec4 _ _ _ _ _
def V.Pln_imported_p4  : Nat → HS → Nat → Int32 → Int32 → Int32 → Option (Int32 × HS)
  | 0, _, _, _, _, _ => none
  | n + 1, σ, x0, x1, x2, x3 =>
    ck (tg σ x0 = 21) <|
    if (gI σ x0 8) ≤ x3 then (
      some (x2, σ))
    else (
      ck (tg σ x0 = 21) <|
      ck (tg σ (gR σ x0 9) = 100 ∧ inb x3 (ln σ (gR σ x0 9))) <|
      if (gI σ (gR σ x0 9) (ix x3)) = x1 then (
        Pln_imported_p28 (Pln_imported_p4 n) σ x0 x1 x3 (1 : Int32) x2)
      else (
        Pln_imported_p28 (Pln_imported_p4 n) σ x0 x1 x3 (0 : Int32) x2))
theorem V.gX20_imported_p4 {X : CX}  : ∀ (n : Nat) (σ : HS) (x0 : Nat) (x1 : Int32) (x2 : Int32) (x3 : Int32), G X RX20 "imported" cX20_imported 4 (some .int) 0 0 enI 4 [(0, av x0), (1, iv x1), (2, iv x2), (3, iv x3)] [] σ (Pln_imported_p4 n σ x0 x1 x2 x3)
  | 0, σ, x0, x1, x2, x3 => by rw [Pln_imported_p4]; exact G.nul
  | n + 1, σ, x0, x1, x2, x3 => by
    rw [Pln_imported_p4]
    refine g_iload_n 3 3 dX20_imported_4 rfl rfl ?_
    refine g_aload_n 0 0 dX20_imported_5 rfl rfl ?_
    refine g_getI fdX20_160 dX20_imported_6 ?_
    refine g_icmp_ge 36 dX20_imported_9 (by decide) ?_ ?_
    · refine g_iload_n 2 2 dX20_imported_36 rfl rfl ?_
      exact g_ireturn rfl dX20_imported_37
    · refine g_iload_n 2 2 dX20_imported_12 rfl rfl ?_
      refine g_aload_n 0 0 dX20_imported_13 rfl rfl ?_
      refine g_getR fdX20_28 dX20_imported_14 ?_
      refine g_iload_n 3 3 dX20_imported_17 rfl rfl ?_
      refine g_iaload dX20_imported_18 ?_
      refine g_iload_n 1 1 dX20_imported_19 rfl rfl ?_
      refine g_icmp_ne 27 dX20_imported_20 (by decide) ?_ ?_
      · refine g_iconst (v := 0) dX20_imported_27 (by decide) ?_
        refine G.sub [0, 1, 3] rfl ?_
        exact gX20_imported_p28 (Pln_imported_p4 n) (gX20_imported_p4 n) _ _ _ _ _ _
      · refine g_iconst (v := 1) dX20_imported_23 (by decide) ?_
        refine g_goto 28 dX20_imported_24 (by decide) ?_
        refine G.sub [0, 1, 3] rfl ?_
        exact gX20_imported_p28 (Pln_imported_p4 n) (gX20_imported_p4 n) _ _ _ _ _ _
def V.Pln_imported (σ : HS) (x0 : Nat) (x1 : Int32) : Option (Int32 × HS) :=
  Pln_imported_p4 FU σ x0 x1 (0 : Int32) (0 : Int32)
theorem V.ctX20_imported (x0 : Nat) (x1 : Int32) : Ct yX20_imported  cX20_imported 4 (some .int) 0 0 eI [av x0, iv x1] (fun σ => Pln_imported σ x0 x1) := by
  refine Ct.of (own := RX20) (nm := "imported") (desc := "(I)I") rfl (by decide) (Nat.le_of_ble_eq_true rfl) (by decide) (fun X σ => ?_)
  show G X RX20 "imported" cX20_imported 4 (some .int) 0 0 enI 0 [(0, av x0), (1, iv x1)] [] σ (Pln_imported σ x0 x1)
  unfold Pln_imported
  refine g_iconst (v := 0) dX20_imported_0 (by decide) ?_
  refine g_istore_n 2 dX20_imported_1 rfl (by decide) rfl ?_
  refine g_iconst (v := 0) dX20_imported_2 (by decide) ?_
  refine g_istore_n 3 dX20_imported_3 rfl (by decide) rfl ?_
  refine G.sub [2, 3, 1, 0] rfl ?_
  exact gX20_imported_p4 FU _ _ _ _ _
theorem V.dX20_all_0 : decode cX20_all 0 = .ok (.aload_n 0, 1) := by decide +kernel
theorem V.dX20_all_1 : decode cX20_all 1 = .ok (.iload_n 1, 1) := by decide +kernel
theorem V.dX20_all_2 : decode cX20_all 2 = .ok (.invokevirtual 193, 3) := by decide +kernel
theorem V.dX20_all_5 : decode cX20_all 5 = .ok (.iload_n 1, 1) := by decide +kernel
theorem V.dX20_all_6 : decode cX20_all 6 = .ok (.ifCond .ne 10, 3) := by decide +kernel
theorem V.dX20_all_9 : decode cX20_all 9 = .ok (.aload_n 0, 1) := by decide +kernel
theorem V.dX20_all_10 : decode cX20_all 10 = .ok (.getfield 166, 3) := by decide +kernel
theorem V.dX20_all_13 : decode cX20_all 13 = .ok (.goto 31, 3) := by decide +kernel
theorem V.dX20_all_16 : decode cX20_all 16 = .ok (.iload_n 1, 1) := by decide +kernel
theorem V.dX20_all_17 : decode cX20_all 17 = .ok (.iconst 1, 1) := by decide +kernel
theorem V.dX20_all_18 : decode cX20_all 18 = .ok (.if_icmp .ne 10, 3) := by decide +kernel
theorem V.dX20_all_21 : decode cX20_all 21 = .ok (.aload_n 0, 1) := by decide +kernel
theorem V.dX20_all_22 : decode cX20_all 22 = .ok (.getfield 169, 3) := by decide +kernel
theorem V.dX20_all_25 : decode cX20_all 25 = .ok (.goto 19, 3) := by decide +kernel
theorem V.dX20_all_28 : decode cX20_all 28 = .ok (.iload_n 1, 1) := by decide +kernel
theorem V.dX20_all_29 : decode cX20_all 29 = .ok (.iconst 2, 1) := by decide +kernel
theorem V.dX20_all_30 : decode cX20_all 30 = .ok (.if_icmp .ne 10, 3) := by decide +kernel
theorem V.dX20_all_33 : decode cX20_all 33 = .ok (.aload_n 0, 1) := by decide +kernel
theorem V.dX20_all_34 : decode cX20_all 34 = .ok (.getfield 172, 3) := by decide +kernel
theorem V.dX20_all_37 : decode cX20_all 37 = .ok (.goto 7, 3) := by decide +kernel
theorem V.dX20_all_40 : decode cX20_all 40 = .ok (.aload_n 0, 1) := by decide +kernel
theorem V.dX20_all_41 : decode cX20_all 41 = .ok (.getfield 175, 3) := by decide +kernel
theorem V.dX20_all_44 : decode cX20_all 44 = .ok (.iadd, 1) := by decide +kernel
theorem V.dX20_all_45 : decode cX20_all 45 = .ok (.ireturn, 1) := by decide +kernel
theorem V.mdX20_193 : MD RX20 193 yX20_imported cX20_imported 4 (some .int) 1 := ⟨Or.inl q3783, q385, q3786, by decide, by decide, by decide +kernel⟩
theorem V.fdX20_175 : FD RX20 175 20 24 0 := ⟨(RX20, TX20, 58), tyX20, rfl, rfl, in_X20, by decide, Or.inl q3407, rfl⟩
theorem V.fdX20_172 : FD RX20 172 20 21 0 := ⟨(RX20, TX20, 58), tyX20, rfl, rfl, in_X20, by decide, Or.inl q3401, rfl⟩
theorem V.fdX20_169 : FD RX20 169 20 17 0 := ⟨(RX20, TX20, 58), tyX20, rfl, rfl, in_X20, by decide, Or.inl q3393, rfl⟩
theorem V.fdX20_166 : FD RX20 166 20 15 0 := ⟨(RX20, TX20, 58), tyX20, rfl, rfl, in_X20, by decide, Or.inl q3389, rfl⟩
/-! ModuleEngineModel$Plan.all(I)I -/
def V.Pln_all_p44  (σ : HS) (s0 : Int32) (s1 : Int32) : Option (Int32 × HS) :=
  some (s1 + s0, σ)
theorem V.gX20_all_p44 {X : CX}  (σ : HS) (s0 : Int32) (s1 : Int32) : G X RX20 "all" cX20_all 2 (some .int) 1 23 enI 44 [] [iv s0, iv s1] σ (Pln_all_p44 σ s0 s1) := by
  unfold Pln_all_p44
  refine g_iadd dX20_all_44 ?_
  exact g_ireturn rfl dX20_all_45
def V.Pln_all (σ : HS) (x0 : Nat) (x1 : Int32) : Option (Int32 × HS) :=
  ck (tg σ x0 = 21) <| cl (Pln_imported σ x0 x1) fun r2 σ1 =>
  if x1 = 0 then (
    ck (tg σ1 x0 = 21) <|
    Pln_all_p44 σ1 (gI σ1 x0 15) r2)
  else (
    if x1 = (1 : Int32) then (
      ck (tg σ1 x0 = 21) <|
      Pln_all_p44 σ1 (gI σ1 x0 17) r2)
    else (
      if x1 = (2 : Int32) then (
        ck (tg σ1 x0 = 21) <|
        Pln_all_p44 σ1 (gI σ1 x0 21) r2)
      else (
        ck (tg σ1 x0 = 21) <|
        Pln_all_p44 σ1 (gI σ1 x0 24) r2)))
theorem V.ctX20_all (x0 : Nat) (x1 : Int32) : Ct yX20_all  cX20_all 2 (some .int) 1 23 eI [av x0, iv x1] (fun σ => Pln_all σ x0 x1) := by
  refine Ct.of (own := RX20) (nm := "all") (desc := "(I)I") rfl (by decide) (Nat.le_of_ble_eq_true rfl) (by decide) (fun X σ => ?_)
  show G X RX20 "all" cX20_all 2 (some .int) 1 23 enI 0 [(0, av x0), (1, iv x1)] [] σ (Pln_all σ x0 x1)
  unfold Pln_all
  refine g_aload_n 0 0 dX20_all_0 rfl rfl ?_
  refine g_iload_n 1 1 dX20_all_1 rfl rfl ?_
  refine g_callV (fc := fun sς => Pln_imported sς x0 x1) (ci := 20) (as := [iv x1]) rfl rfl rfl q3784 q3785 mdX20_193 (ctX20_imported x0 x1) rfl (Nat.le_of_ble_eq_true rfl) (Nat.le_of_ble_eq_true rfl) (Nat.le_of_ble_eq_true rfl) pu_I dX20_all_2 (fun r2 σ1 => ?_)
  refine g_iload_n 1 1 dX20_all_5 rfl rfl ?_
  refine g_if_ne 16 dX20_all_6 (by decide) ?_ ?_
  · refine g_iload_n 1 1 dX20_all_16 rfl rfl ?_
    refine g_iconst (v := 1) dX20_all_17 (by decide) ?_
    refine g_icmp_ne 28 dX20_all_18 (by decide) ?_ ?_
    · refine g_iload_n 1 1 dX20_all_28 rfl rfl ?_
      refine g_iconst (v := 2) dX20_all_29 (by decide) ?_
      refine g_icmp_ne 40 dX20_all_30 (by decide) ?_ ?_
      · refine g_aload_n 0 0 dX20_all_40 rfl rfl ?_
        refine g_getI fdX20_175 dX20_all_41 ?_
        refine G.sub [] rfl ?_
        exact gX20_all_p44 _ _ _
      · refine g_aload_n 0 0 dX20_all_33 rfl rfl ?_
        refine g_getI fdX20_172 dX20_all_34 ?_
        refine g_goto 44 dX20_all_37 (by decide) ?_
        refine G.sub [] rfl ?_
        exact gX20_all_p44 _ _ _
    · refine g_aload_n 0 0 dX20_all_21 rfl rfl ?_
      refine g_getI fdX20_169 dX20_all_22 ?_
      refine g_goto 44 dX20_all_25 (by decide) ?_
      refine G.sub [] rfl ?_
      exact gX20_all_p44 _ _ _
  · refine g_aload_n 0 0 dX20_all_9 rfl rfl ?_
    refine g_getI fdX20_166 dX20_all_10 ?_
    refine g_goto 44 dX20_all_13 (by decide) ?_
    refine G.sub [] rfl ?_
    exact gX20_all_p44 _ _ _
theorem V.dX20_importOf_0 : decode cX20_importOf 0 = .ok (.iload_n 2, 1) := by decide +kernel
theorem V.dX20_importOf_1 : decode cX20_importOf 1 = .ok (.istore_n 3, 1) := by decide +kernel
theorem V.dX20_importOf_2 : decode cX20_importOf 2 = .ok (.iconst 0, 1) := by decide +kernel
theorem V.dX20_importOf_3 : decode cX20_importOf 3 = .ok (.istore 4, 2) := by decide +kernel
theorem V.dX20_importOf_5 : decode cX20_importOf 5 = .ok (.iload 4, 2) := by decide +kernel
theorem V.dX20_importOf_7 : decode cX20_importOf 7 = .ok (.aload_n 0, 1) := by decide +kernel
theorem V.dX20_importOf_8 : decode cX20_importOf 8 = .ok (.getfield 160, 3) := by decide +kernel
theorem V.dX20_importOf_11 : decode cX20_importOf 11 = .ok (.if_icmp .ge 46, 3) := by decide +kernel
theorem V.dX20_importOf_14 : decode cX20_importOf 14 = .ok (.aload_n 0, 1) := by decide +kernel
theorem V.dX20_importOf_15 : decode cX20_importOf 15 = .ok (.getfield 28, 3) := by decide +kernel
theorem V.dX20_importOf_18 : decode cX20_importOf 18 = .ok (.iload 4, 2) := by decide +kernel
theorem V.dX20_importOf_20 : decode cX20_importOf 20 = .ok (.iaload, 1) := by decide +kernel
theorem V.dX20_importOf_21 : decode cX20_importOf 21 = .ok (.iload_n 1, 1) := by decide +kernel
theorem V.dX20_importOf_22 : decode cX20_importOf 22 = .ok (.if_icmp .ne 10, 3) := by decide +kernel
theorem V.dX20_importOf_25 : decode cX20_importOf 25 = .ok (.iload_n 3, 1) := by decide +kernel
theorem V.dX20_importOf_26 : decode cX20_importOf 26 = .ok (.ifCond .ne 6, 3) := by decide +kernel
theorem V.dX20_importOf_29 : decode cX20_importOf 29 = .ok (.iload 4, 2) := by decide +kernel
theorem V.dX20_importOf_31 : decode cX20_importOf 31 = .ok (.ireturn, 1) := by decide +kernel
theorem V.dX20_importOf_32 : decode cX20_importOf 32 = .ok (.iload_n 3, 1) := by decide +kernel
theorem V.dX20_importOf_33 : decode cX20_importOf 33 = .ok (.aload_n 0, 1) := by decide +kernel
theorem V.dX20_importOf_34 : decode cX20_importOf 34 = .ok (.getfield 28, 3) := by decide +kernel
theorem V.dX20_importOf_37 : decode cX20_importOf 37 = .ok (.iload 4, 2) := by decide +kernel
theorem V.dX20_importOf_39 : decode cX20_importOf 39 = .ok (.iaload, 1) := by decide +kernel
theorem V.dX20_importOf_40 : decode cX20_importOf 40 = .ok (.iload_n 1, 1) := by decide +kernel
theorem V.dX20_importOf_41 : decode cX20_importOf 41 = .ok (.if_icmp .ne 7, 3) := by decide +kernel
theorem V.dX20_importOf_44 : decode cX20_importOf 44 = .ok (.iconst 1, 1) := by decide +kernel
theorem V.dX20_importOf_45 : decode cX20_importOf 45 = .ok (.goto 4, 3) := by decide +kernel
theorem V.dX20_importOf_48 : decode cX20_importOf 48 = .ok (.iconst 0, 1) := by decide +kernel
theorem V.dX20_importOf_49 : decode cX20_importOf 49 = .ok (.isub, 1) := by decide +kernel
theorem V.dX20_importOf_50 : decode cX20_importOf 50 = .ok (.istore_n 3, 1) := by decide +kernel
theorem V.dX20_importOf_51 : decode cX20_importOf 51 = .ok (.iinc 4 1, 3) := by decide +kernel
theorem V.dX20_importOf_54 : decode cX20_importOf 54 = .ok (.goto (-49), 3) := by decide +kernel
theorem V.dX20_importOf_57 : decode cX20_importOf 57 = .ok (.iconst 0, 1) := by decide +kernel
theorem V.dX20_importOf_58 : decode cX20_importOf 58 = .ok (.ireturn, 1) := by decide +kernel
/-! ModuleEngineModel$Plan.importOf(II)I -/
def V.Pln_importOf_p49 (rec5 : HS → Nat → Int32 → Int32 → Int32 → Option (Int32 × HS)) (σ : HS) (x0 : Nat) (x1 : Int32) (x4 : Int32) (s0 : Int32) (s1 : Int32) : Option (Int32 × HS) :=
  bn (s1 - s0) fun y1 =>
  bn (x4 + (1 : Int32)) fun y2 =>
  rec5 σ x0 x1 y1 y2
theorem V.gX20_importOf_p49 {X : CX} (rec5 : HS → Nat → Int32 → Int32 → Int32 → Option (Int32 × HS)) (hrec5 : ∀ (σ : HS) (x0 : Nat) (x1 : Int32) (x3 : Int32) (x4 : Int32), G X RX20 "importOf" cX20_importOf 5 (some .int) 0 0 enI 5 [(0, av x0), (1, iv x1), (3, iv x3), (4, iv x4)] [] σ (rec5 σ x0 x1 x3 x4)) (σ : HS) (x0 : Nat) (x1 : Int32) (x4 : Int32) (s0 : Int32) (s1 : Int32) : G X RX20 "importOf" cX20_importOf 5 (some .int) 0 0 enI 49 [(0, av x0), (1, iv x1), (4, iv x4)] [iv s0, iv s1] σ (Pln_importOf_p49 rec5 σ x0 x1 x4 s0 s1) := by
  unfold Pln_importOf_p49
  refine g_isub dX20_importOf_49 ?_
  refine g_nmI (fun y1 => ?_)
  refine g_istore_n 3 dX20_importOf_50 rfl (by decide) rfl ?_
  refine g_iincB (w := 1) 3 dX20_importOf_51 rfl (by decide) (by decide) (fun _ => rfl) (fun y2 => ?_)
  refine g_goto 5 dX20_importOf_54 (by decide) ?_
  refine G.sub [2, 3, 1, 0] rfl ?_
  exact hrec5 _ _ _ _ _
def V.Pln_importOf_p32 (rec5 : HS → Nat → Int32 → Int32 → Int32 → Option (Int32 × HS)) (σ : HS) (x0 : Nat) (x1 : Int32) (x3 : Int32) (x4 : Int32) : Option (Int32 × HS) :=
  ck (tg σ x0 = 21) <|
  ck (tg σ (gR σ x0 9) = 100 ∧ inb x4 (ln σ (gR σ x0 9))) <|
  if (gI σ (gR σ x0 9) (ix x4)) = x1 then (
    Pln_importOf_p49 rec5 σ x0 x1 x4 (1 : Int32) x3)
  else (
    Pln_importOf_p49 rec5 σ x0 x1 x4 (0 : Int32) x3)
theorem V.gX20_importOf_p32 {X : CX} (rec5 : HS → Nat → Int32 → Int32 → Int32 → Option (Int32 × HS)) (hrec5 : ∀ (σ : HS) (x0 : Nat) (x1 : Int32) (x3 : Int32) (x4 : Int32), G X RX20 "importOf" cX20_importOf 5 (some .int) 0 0 enI 5 [(0, av x0), (1, iv x1), (3, iv x3), (4, iv x4)] [] σ (rec5 σ x0 x1 x3 x4)) (σ : HS) (x0 : Nat) (x1 : Int32) (x3 : Int32) (x4 : Int32) : G X RX20 "importOf" cX20_importOf 5 (some .int) 0 0 enI 32 [(0, av x0), (1, iv x1), (3, iv x3), (4, iv x4)] [] σ (Pln_importOf_p32 rec5 σ x0 x1 x3 x4) := by
  unfold Pln_importOf_p32
  refine g_iload_n 3 2 dX20_importOf_32 rfl rfl ?_
  refine g_aload_n 0 0 dX20_importOf_33 rfl rfl ?_
  refine g_getR fdX20_28 dX20_importOf_34 ?_
  refine g_iload 3 dX20_importOf_37 rfl ?_
  refine g_iaload dX20_importOf_39 ?_
  refine g_iload_n 1 1 dX20_importOf_40 rfl rfl ?_
  refine g_icmp_ne 48 dX20_importOf_41 (by decide) ?_ ?_
  · refine g_iconst (v := 0) dX20_importOf_48 (by decide) ?_
    refine G.sub [0, 1, 3] rfl ?_
    exact gX20_importOf_p49 rec5 hrec5 _ _ _ _ _ _
  · refine g_iconst (v := 1) dX20_importOf_44 (by decide) ?_
    refine g_goto 49 dX20_importOf_45 (by decide) ?_
    refine G.sub [0, 1, 3] rfl ?_
    exact gX20_importOf_p49 rec5 hrec5 _ _ _ _ _ _
def V.Pln_importOf_p5  : Nat → HS → Nat → Int32 → Int32 → Int32 → Option (Int32 × HS)
  | 0, _, _, _, _, _ => none
  | n + 1, σ, x0, x1, x3, x4 =>
    ck (tg σ x0 = 21) <|
    if (gI σ x0 8) ≤ x4 then (
      some ((0 : Int32), σ))
    else (
      ck (tg σ x0 = 21) <|
      ck (tg σ (gR σ x0 9) = 100 ∧ inb x4 (ln σ (gR σ x0 9))) <|
      if (gI σ (gR σ x0 9) (ix x4)) = x1 then (
        if x3 = 0 then (
          some (x4, σ))
        else (
          Pln_importOf_p32 (Pln_importOf_p5 n) σ x0 x1 x3 x4))
      else (
        Pln_importOf_p32 (Pln_importOf_p5 n) σ x0 x1 x3 x4))
theorem V.gX20_importOf_p5 {X : CX}  : ∀ (n : Nat) (σ : HS) (x0 : Nat) (x1 : Int32) (x3 : Int32) (x4 : Int32), G X RX20 "importOf" cX20_importOf 5 (some .int) 0 0 enI 5 [(0, av x0), (1, iv x1), (3, iv x3), (4, iv x4)] [] σ (Pln_importOf_p5 n σ x0 x1 x3 x4)
  | 0, σ, x0, x1, x3, x4 => by rw [Pln_importOf_p5]; exact G.nul
  | n + 1, σ, x0, x1, x3, x4 => by
    rw [Pln_importOf_p5]
    refine g_iload 3 dX20_importOf_5 rfl ?_
    refine g_aload_n 0 0 dX20_importOf_7 rfl rfl ?_
    refine g_getI fdX20_160 dX20_importOf_8 ?_
    refine g_icmp_ge 57 dX20_importOf_11 (by decide) ?_ ?_
    · refine g_iconst (v := 0) dX20_importOf_57 (by decide) ?_
      exact g_ireturn rfl dX20_importOf_58
    · refine g_aload_n 0 0 dX20_importOf_14 rfl rfl ?_
      refine g_getR fdX20_28 dX20_importOf_15 ?_
      refine g_iload 3 dX20_importOf_18 rfl ?_
      refine g_iaload dX20_importOf_20 ?_
      refine g_iload_n 1 1 dX20_importOf_21 rfl rfl ?_
      refine g_icmp_ne 32 dX20_importOf_22 (by decide) ?_ ?_
      · exact gX20_importOf_p32 (Pln_importOf_p5 n) (gX20_importOf_p5 n) _ _ _ _ _
      · refine g_iload_n 3 2 dX20_importOf_25 rfl rfl ?_
        refine g_if_ne 32 dX20_importOf_26 (by decide) ?_ ?_
        · exact gX20_importOf_p32 (Pln_importOf_p5 n) (gX20_importOf_p5 n) _ _ _ _ _
        · refine g_iload 3 dX20_importOf_29 rfl ?_
          exact g_ireturn rfl dX20_importOf_31
def V.Pln_importOf (σ : HS) (x0 : Nat) (x1 : Int32) (x2 : Int32) : Option (Int32 × HS) :=
  Pln_importOf_p5 FU σ x0 x1 x2 (0 : Int32)
theorem V.ctX20_importOf (x0 : Nat) (x1 : Int32) (x2 : Int32) : Ct yX20_importOf  cX20_importOf 5 (some .int) 0 0 eI [av x0, iv x1, iv x2] (fun σ => Pln_importOf σ x0 x1 x2) := by
  refine Ct.of (own := RX20) (nm := "importOf") (desc := "(II)I") rfl (by decide) (Nat.le_of_ble_eq_true rfl) (by decide) (fun X σ => ?_)
  show G X RX20 "importOf" cX20_importOf 5 (some .int) 0 0 enI 0 [(0, av x0), (1, iv x1), (2, iv x2)] [] σ (Pln_importOf σ x0 x1 x2)
  unfold Pln_importOf
  refine g_iload_n 2 2 dX20_importOf_0 rfl rfl ?_
  refine g_istore_n 3 dX20_importOf_1 rfl (by decide) rfl ?_
  refine g_iconst (v := 0) dX20_importOf_2 (by decide) ?_
  refine g_istore dX20_importOf_3 (by decide) rfl ?_
  refine G.sub [2, 3, 1, 0] rfl ?_
  exact gX20_importOf_p5 FU _ _ _ _ _
theorem V.dX20_typeOfFunction_0 : decode cX20_typeOfFunction 0 = .ok (.aload_n 0, 1) := by decide +kernel
theorem V.dX20_typeOfFunction_1 : decode cX20_typeOfFunction 1 = .ok (.iconst 0, 1) := by decide +kernel
theorem V.dX20_typeOfFunction_2 : decode cX20_typeOfFunction 2 = .ok (.invokevirtual 193, 3) := by decide +kernel
theorem V.dX20_typeOfFunction_5 : decode cX20_typeOfFunction 5 = .ok (.istore_n 2, 1) := by decide +kernel
theorem V.dX20_typeOfFunction_6 : decode cX20_typeOfFunction 6 = .ok (.iload_n 1, 1) := by decide +kernel
theorem V.dX20_typeOfFunction_7 : decode cX20_typeOfFunction 7 = .ok (.iload_n 2, 1) := by decide +kernel
theorem V.dX20_typeOfFunction_8 : decode cX20_typeOfFunction 8 = .ok (.if_icmp .ge 17, 3) := by decide +kernel
theorem V.dX20_typeOfFunction_11 : decode cX20_typeOfFunction 11 = .ok (.aload_n 0, 1) := by decide +kernel
theorem V.dX20_typeOfFunction_12 : decode cX20_typeOfFunction 12 = .ok (.getfield 31, 3) := by decide +kernel
theorem V.dX20_typeOfFunction_15 : decode cX20_typeOfFunction 15 = .ok (.aload_n 0, 1) := by decide +kernel
theorem V.dX20_typeOfFunction_16 : decode cX20_typeOfFunction 16 = .ok (.iconst 0, 1) := by decide +kernel
theorem V.dX20_typeOfFunction_17 : decode cX20_typeOfFunction 17 = .ok (.iload_n 1, 1) := by decide +kernel
theorem V.dX20_typeOfFunction_18 : decode cX20_typeOfFunction 18 = .ok (.invokevirtual 197, 3) := by decide +kernel
theorem V.dX20_typeOfFunction_21 : decode cX20_typeOfFunction 21 = .ok (.laload, 1) := by decide +kernel
theorem V.dX20_typeOfFunction_22 : decode cX20_typeOfFunction 22 = .ok (.goto 11, 3) := by decide +kernel
theorem V.dX20_typeOfFunction_25 : decode cX20_typeOfFunction 25 = .ok (.aload_n 0, 1) := by decide +kernel
theorem V.dX20_typeOfFunction_26 : decode cX20_typeOfFunction 26 = .ok (.getfield 45, 3) := by decide +kernel
theorem V.dX20_typeOfFunction_29 : decode cX20_typeOfFunction 29 = .ok (.iload_n 1, 1) := by decide +kernel
theorem V.dX20_typeOfFunction_30 : decode cX20_typeOfFunction 30 = .ok (.iload_n 2, 1) := by decide +kernel
theorem V.dX20_typeOfFunction_31 : decode cX20_typeOfFunction 31 = .ok (.isub, 1) := by decide +kernel
theorem V.dX20_typeOfFunction_32 : decode cX20_typeOfFunction 32 = .ok (.laload, 1) := by decide +kernel
theorem V.dX20_typeOfFunction_33 : decode cX20_typeOfFunction 33 = .ok (.l2i, 1) := by decide +kernel
theorem V.dX20_typeOfFunction_34 : decode cX20_typeOfFunction 34 = .ok (.ireturn, 1) := by decide +kernel
theorem V.fdX20_45 : FD RX20 45 20 16 2 := ⟨(RX20, TX20, 58), tyX20, rfl, rfl, in_X20, by decide, Or.inl q3391, rfl⟩
theorem V.fdX20_31 : FD RX20 31 20 10 2 := ⟨(RX20, TX20, 58), tyX20, rfl, rfl, in_X20, by decide, Or.inl q3379, rfl⟩
theorem V.mdX20_197 : MD RX20 197 yX20_importOf cX20_importOf 5 (some .int) 2 := ⟨Or.inl q3799, q385, q3802, by decide, by decide, by decide +kernel⟩
/-! ModuleEngineModel$Plan.typeOfFunction(I)I -/
def V.Pln_typeOfFunction_p33  (σ : HS) (s0 : Int64) : Option (Int32 × HS) :=
  some (s0.toInt32, σ)
theorem V.gX20_typeOfFunction_p33 {X : CX}  (σ : HS) (s0 : Int64) : G X RX20 "typeOfFunction" cX20_typeOfFunction 3 (some .int) 1 24 enI 33 [] [jv s0] σ (Pln_typeOfFunction_p33 σ s0) := by
  unfold Pln_typeOfFunction_p33
  refine g_l2i dX20_typeOfFunction_33 ?_
  exact g_ireturn rfl dX20_typeOfFunction_34
def V.Pln_typeOfFunction (σ : HS) (x0 : Nat) (x1 : Int32) : Option (Int32 × HS) :=
  ck (tg σ x0 = 21) <| cl (Pln_imported σ x0 (0 : Int32)) fun r2 σ1 =>
  if r2 ≤ x1 then (
    ck (tg σ1 x0 = 21) <|
    ck (tg σ1 (gR σ1 x0 16) = 101 ∧ inb (x1 - r2) (ln σ1 (gR σ1 x0 16))) <|
    Pln_typeOfFunction_p33 σ1 (gJ σ1 (gR σ1 x0 16) (ix (x1 - r2))))
  else (
    ck (tg σ1 x0 = 21) <|
    ck (tg σ1 x0 = 21) <| cl (Pln_importOf σ1 x0 (0 : Int32) x1) fun r4 σ3 =>
    ck (tg σ3 (gR σ1 x0 10) = 101 ∧ inb r4 (ln σ3 (gR σ1 x0 10))) <|
    Pln_typeOfFunction_p33 σ3 (gJ σ3 (gR σ1 x0 10) (ix r4)))
theorem V.ctX20_typeOfFunction (x0 : Nat) (x1 : Int32) : Ct yX20_typeOfFunction  cX20_typeOfFunction 3 (some .int) 1 24 eI [av x0, iv x1] (fun σ => Pln_typeOfFunction σ x0 x1) := by
  refine Ct.of (own := RX20) (nm := "typeOfFunction") (desc := "(I)I") rfl (by decide) (Nat.le_of_ble_eq_true rfl) (by decide) (fun X σ => ?_)
  show G X RX20 "typeOfFunction" cX20_typeOfFunction 3 (some .int) 1 24 enI 0 [(0, av x0), (1, iv x1)] [] σ (Pln_typeOfFunction σ x0 x1)
  unfold Pln_typeOfFunction
  refine g_aload_n 0 0 dX20_typeOfFunction_0 rfl rfl ?_
  refine g_iconst (v := 0) dX20_typeOfFunction_1 (by decide) ?_
  refine g_callV (fc := fun sς => Pln_imported sς x0 (0 : Int32)) (ci := 20) (as := [iv (0 : Int32)]) rfl rfl rfl q3784 q3785 mdX20_193 (ctX20_imported x0 (0 : Int32)) rfl (Nat.le_of_ble_eq_true rfl) (Nat.le_of_ble_eq_true rfl) (Nat.le_of_ble_eq_true rfl) pu_I dX20_typeOfFunction_2 (fun r2 σ1 => ?_)
  refine g_istore_n 2 dX20_typeOfFunction_5 rfl (by decide) rfl ?_
  refine g_iload_n 1 2 dX20_typeOfFunction_6 rfl rfl ?_
  refine g_iload_n 2 0 dX20_typeOfFunction_7 rfl rfl ?_
  refine g_icmp_ge 25 dX20_typeOfFunction_8 (by decide) ?_ ?_
  · refine g_aload_n 0 1 dX20_typeOfFunction_25 rfl rfl ?_
    refine g_getR fdX20_45 dX20_typeOfFunction_26 ?_
    refine g_iload_n 1 2 dX20_typeOfFunction_29 rfl rfl ?_
    refine g_iload_n 2 0 dX20_typeOfFunction_30 rfl rfl ?_
    refine g_isub dX20_typeOfFunction_31 ?_
    refine g_laload dX20_typeOfFunction_32 ?_
    refine G.sub [] rfl ?_
    exact gX20_typeOfFunction_p33 _ _
  · refine g_aload_n 0 1 dX20_typeOfFunction_11 rfl rfl ?_
    refine g_getR fdX20_31 dX20_typeOfFunction_12 ?_
    refine g_aload_n 0 1 dX20_typeOfFunction_15 rfl rfl ?_
    refine g_iconst (v := 0) dX20_typeOfFunction_16 (by decide) ?_
    refine g_iload_n 1 2 dX20_typeOfFunction_17 rfl rfl ?_
    refine g_callV (fc := fun sς => Pln_importOf sς x0 (0 : Int32) x1) (ci := 20) (as := [iv (0 : Int32), iv x1]) rfl rfl rfl q3800 q3801 mdX20_197 (ctX20_importOf x0 (0 : Int32) x1) rfl (Nat.le_of_ble_eq_true rfl) (Nat.le_of_ble_eq_true rfl) (Nat.le_of_ble_eq_true rfl) pu_I dX20_typeOfFunction_18 (fun r4 σ3 => ?_)
    refine g_laload dX20_typeOfFunction_21 ?_
    refine g_goto 33 dX20_typeOfFunction_22 (by decide) ?_
    refine G.sub [] rfl ?_
    exact gX20_typeOfFunction_p33 _ _
theorem V.dX20_globalMoves_0 : decode cX20_globalMoves 0 = .ok (.aload_n 0, 1) := by decide +kernel
theorem V.dX20_globalMoves_1 : decode cX20_globalMoves 1 = .ok (.iconst 3, 1) := by decide +kernel
theorem V.dX20_globalMoves_2 : decode cX20_globalMoves 2 = .ok (.invokevirtual 193, 3) := by decide +kernel
theorem V.dX20_globalMoves_5 : decode cX20_globalMoves 5 = .ok (.istore_n 2, 1) := by decide +kernel
theorem V.dX20_globalMoves_6 : decode cX20_globalMoves 6 = .ok (.iload_n 1, 1) := by decide +kernel
theorem V.dX20_globalMoves_7 : decode cX20_globalMoves 7 = .ok (.iload_n 2, 1) := by decide +kernel
theorem V.dX20_globalMoves_8 : decode cX20_globalMoves 8 = .ok (.if_icmp .ge 17, 3) := by decide +kernel
theorem V.dX20_globalMoves_11 : decode cX20_globalMoves 11 = .ok (.aload_n 0, 1) := by decide +kernel
theorem V.dX20_globalMoves_12 : decode cX20_globalMoves 12 = .ok (.getfield 41, 3) := by decide +kernel
theorem V.dX20_globalMoves_15 : decode cX20_globalMoves 15 = .ok (.aload_n 0, 1) := by decide +kernel
theorem V.dX20_globalMoves_16 : decode cX20_globalMoves 16 = .ok (.iconst 3, 1) := by decide +kernel
theorem V.dX20_globalMoves_17 : decode cX20_globalMoves 17 = .ok (.iload_n 1, 1) := by decide +kernel
theorem V.dX20_globalMoves_18 : decode cX20_globalMoves 18 = .ok (.invokevirtual 197, 3) := by decide +kernel
theorem V.dX20_globalMoves_21 : decode cX20_globalMoves 21 = .ok (.baload, 1) := by decide +kernel
theorem V.dX20_globalMoves_22 : decode cX20_globalMoves 22 = .ok (.goto 11, 3) := by decide +kernel
theorem V.dX20_globalMoves_25 : decode cX20_globalMoves 25 = .ok (.aload_n 0, 1) := by decide +kernel
theorem V.dX20_globalMoves_26 : decode cX20_globalMoves 26 = .ok (.getfield 66, 3) := by decide +kernel
theorem V.dX20_globalMoves_29 : decode cX20_globalMoves 29 = .ok (.iload_n 1, 1) := by decide +kernel
theorem V.dX20_globalMoves_30 : decode cX20_globalMoves 30 = .ok (.iload_n 2, 1) := by decide +kernel
theorem V.dX20_globalMoves_31 : decode cX20_globalMoves 31 = .ok (.isub, 1) := by decide +kernel
theorem V.dX20_globalMoves_32 : decode cX20_globalMoves 32 = .ok (.baload, 1) := by decide +kernel
theorem V.dX20_globalMoves_33 : decode cX20_globalMoves 33 = .ok (.ireturn, 1) := by decide +kernel
theorem V.fdX20_66 : FD RX20 66 20 26 2 := ⟨(RX20, TX20, 58), tyX20, rfl, rfl, in_X20, by decide, Or.inl q3411, rfl⟩
theorem V.fdX20_41 : FD RX20 41 20 13 2 := ⟨(RX20, TX20, 58), tyX20, rfl, rfl, in_X20, by decide, Or.inl q3385, rfl⟩
/-! ModuleEngineModel$Plan.globalMoves(I)Z -/
def V.Pln_globalMoves (σ : HS) (x0 : Nat) (x1 : Int32) : Option (Int32 × HS) :=
  ck (tg σ x0 = 21) <| cl (Pln_imported σ x0 (3 : Int32)) fun r2 σ1 =>
  if r2 ≤ x1 then (
    ck (tg σ1 x0 = 21) <|
    ck (tg σ1 (gR σ1 x0 26) = 103 ∧ inb (x1 - r2) (ln σ1 (gR σ1 x0 26))) <|
    ck (zb (gI σ1 (gR σ1 x0 26) (ix (x1 - r2)))) (some (gI σ1 (gR σ1 x0 26) (ix (x1 - r2)), σ1)))
  else (
    ck (tg σ1 x0 = 21) <|
    ck (tg σ1 x0 = 21) <| cl (Pln_importOf σ1 x0 (3 : Int32) x1) fun r4 σ3 =>
    ck (tg σ3 (gR σ1 x0 13) = 103 ∧ inb r4 (ln σ3 (gR σ1 x0 13))) <|
    ck (zb (gI σ3 (gR σ1 x0 13) (ix r4))) (some (gI σ3 (gR σ1 x0 13) (ix r4), σ3)))
theorem V.ctX20_globalMoves (x0 : Nat) (x1 : Int32) : Ct yX20_globalMoves  cX20_globalMoves 3 (some .boolean) 1 24 eI [av x0, iv x1] (fun σ => Pln_globalMoves σ x0 x1) := by
  refine Ct.of (own := RX20) (nm := "globalMoves") (desc := "(I)Z") rfl (by decide) (Nat.le_of_ble_eq_true rfl) (by decide) (fun X σ => ?_)
  show G X RX20 "globalMoves" cX20_globalMoves 3 (some .boolean) 1 24 enI 0 [(0, av x0), (1, iv x1)] [] σ (Pln_globalMoves σ x0 x1)
  unfold Pln_globalMoves
  refine g_aload_n 0 0 dX20_globalMoves_0 rfl rfl ?_
  refine g_iconst (v := 3) dX20_globalMoves_1 (by decide) ?_
  refine g_callV (fc := fun sς => Pln_imported sς x0 (3 : Int32)) (ci := 20) (as := [iv (3 : Int32)]) rfl rfl rfl q3784 q3785 mdX20_193 (ctX20_imported x0 (3 : Int32)) rfl (Nat.le_of_ble_eq_true rfl) (Nat.le_of_ble_eq_true rfl) (Nat.le_of_ble_eq_true rfl) pu_I dX20_globalMoves_2 (fun r2 σ1 => ?_)
  refine g_istore_n 2 dX20_globalMoves_5 rfl (by decide) rfl ?_
  refine g_iload_n 1 2 dX20_globalMoves_6 rfl rfl ?_
  refine g_iload_n 2 0 dX20_globalMoves_7 rfl rfl ?_
  refine g_icmp_ge 25 dX20_globalMoves_8 (by decide) ?_ ?_
  · refine g_aload_n 0 1 dX20_globalMoves_25 rfl rfl ?_
    refine g_getR fdX20_66 dX20_globalMoves_26 ?_
    refine g_iload_n 1 2 dX20_globalMoves_29 rfl rfl ?_
    refine g_iload_n 2 0 dX20_globalMoves_30 rfl rfl ?_
    refine g_isub dX20_globalMoves_31 ?_
    refine g_zaload dX20_globalMoves_32 ?_
    exact g_zreturnc rfl dX20_globalMoves_33
  · refine g_aload_n 0 1 dX20_globalMoves_11 rfl rfl ?_
    refine g_getR fdX20_41 dX20_globalMoves_12 ?_
    refine g_aload_n 0 1 dX20_globalMoves_15 rfl rfl ?_
    refine g_iconst (v := 3) dX20_globalMoves_16 (by decide) ?_
    refine g_iload_n 1 2 dX20_globalMoves_17 rfl rfl ?_
    refine g_callV (fc := fun sς => Pln_importOf sς x0 (3 : Int32) x1) (ci := 20) (as := [iv (3 : Int32), iv x1]) rfl rfl rfl q3800 q3801 mdX20_197 (ctX20_importOf x0 (3 : Int32) x1) rfl (Nat.le_of_ble_eq_true rfl) (Nat.le_of_ble_eq_true rfl) (Nat.le_of_ble_eq_true rfl) pu_I dX20_globalMoves_18 (fun r4 σ3 => ?_)
    refine g_zaload dX20_globalMoves_21 ?_
    refine g_goto 33 dX20_globalMoves_22 (by decide) ?_
    exact g_zreturnc rfl dX20_globalMoves_33
theorem V.dX20_typeOfGlobal_0 : decode cX20_typeOfGlobal 0 = .ok (.aload_n 0, 1) := by decide +kernel
theorem V.dX20_typeOfGlobal_1 : decode cX20_typeOfGlobal 1 = .ok (.iconst 3, 1) := by decide +kernel
theorem V.dX20_typeOfGlobal_2 : decode cX20_typeOfGlobal 2 = .ok (.invokevirtual 193, 3) := by decide +kernel
theorem V.dX20_typeOfGlobal_5 : decode cX20_typeOfGlobal 5 = .ok (.istore_n 2, 1) := by decide +kernel
theorem V.dX20_typeOfGlobal_6 : decode cX20_typeOfGlobal 6 = .ok (.iload_n 1, 1) := by decide +kernel
theorem V.dX20_typeOfGlobal_7 : decode cX20_typeOfGlobal 7 = .ok (.iload_n 2, 1) := by decide +kernel
theorem V.dX20_typeOfGlobal_8 : decode cX20_typeOfGlobal 8 = .ok (.if_icmp .ge 18, 3) := by decide +kernel
theorem V.dX20_typeOfGlobal_11 : decode cX20_typeOfGlobal 11 = .ok (.aload_n 0, 1) := by decide +kernel
theorem V.dX20_typeOfGlobal_12 : decode cX20_typeOfGlobal 12 = .ok (.getfield 31, 3) := by decide +kernel
theorem V.dX20_typeOfGlobal_15 : decode cX20_typeOfGlobal 15 = .ok (.aload_n 0, 1) := by decide +kernel
theorem V.dX20_typeOfGlobal_16 : decode cX20_typeOfGlobal 16 = .ok (.iconst 3, 1) := by decide +kernel
theorem V.dX20_typeOfGlobal_17 : decode cX20_typeOfGlobal 17 = .ok (.iload_n 1, 1) := by decide +kernel
theorem V.dX20_typeOfGlobal_18 : decode cX20_typeOfGlobal 18 = .ok (.invokevirtual 197, 3) := by decide +kernel
theorem V.dX20_typeOfGlobal_21 : decode cX20_typeOfGlobal 21 = .ok (.laload, 1) := by decide +kernel
theorem V.dX20_typeOfGlobal_22 : decode cX20_typeOfGlobal 22 = .ok (.l2i, 1) := by decide +kernel
theorem V.dX20_typeOfGlobal_23 : decode cX20_typeOfGlobal 23 = .ok (.goto 11, 3) := by decide +kernel
theorem V.dX20_typeOfGlobal_26 : decode cX20_typeOfGlobal 26 = .ok (.aload_n 0, 1) := by decide +kernel
theorem V.dX20_typeOfGlobal_27 : decode cX20_typeOfGlobal 27 = .ok (.getfield 63, 3) := by decide +kernel
theorem V.dX20_typeOfGlobal_30 : decode cX20_typeOfGlobal 30 = .ok (.iload_n 1, 1) := by decide +kernel
theorem V.dX20_typeOfGlobal_31 : decode cX20_typeOfGlobal 31 = .ok (.iload_n 2, 1) := by decide +kernel
theorem V.dX20_typeOfGlobal_32 : decode cX20_typeOfGlobal 32 = .ok (.isub, 1) := by decide +kernel
theorem V.dX20_typeOfGlobal_33 : decode cX20_typeOfGlobal 33 = .ok (.iaload, 1) := by decide +kernel
theorem V.dX20_typeOfGlobal_34 : decode cX20_typeOfGlobal 34 = .ok (.ireturn, 1) := by decide +kernel
theorem V.fdX20_63 : FD RX20 63 20 25 2 := ⟨(RX20, TX20, 58), tyX20, rfl, rfl, in_X20, by decide, Or.inl q3409, rfl⟩
/-! ModuleEngineModel$Plan.typeOfGlobal(I)I -/
def V.Pln_typeOfGlobal (σ : HS) (x0 : Nat) (x1 : Int32) : Option (Int32 × HS) :=
  ck (tg σ x0 = 21) <| cl (Pln_imported σ x0 (3 : Int32)) fun r2 σ1 =>
  if r2 ≤ x1 then (
    ck (tg σ1 x0 = 21) <|
    ck (tg σ1 (gR σ1 x0 25) = 100 ∧ inb (x1 - r2) (ln σ1 (gR σ1 x0 25))) <|
    some (gI σ1 (gR σ1 x0 25) (ix (x1 - r2)), σ1))
  else (
    ck (tg σ1 x0 = 21) <|
    ck (tg σ1 x0 = 21) <| cl (Pln_importOf σ1 x0 (3 : Int32) x1) fun r4 σ3 =>
    ck (tg σ3 (gR σ1 x0 10) = 101 ∧ inb r4 (ln σ3 (gR σ1 x0 10))) <|
    some ((gJ σ3 (gR σ1 x0 10) (ix r4)).toInt32, σ3))
theorem V.ctX20_typeOfGlobal (x0 : Nat) (x1 : Int32) : Ct yX20_typeOfGlobal  cX20_typeOfGlobal 3 (some .int) 1 24 eI [av x0, iv x1] (fun σ => Pln_typeOfGlobal σ x0 x1) := by
  refine Ct.of (own := RX20) (nm := "typeOfGlobal") (desc := "(I)I") rfl (by decide) (Nat.le_of_ble_eq_true rfl) (by decide) (fun X σ => ?_)
  show G X RX20 "typeOfGlobal" cX20_typeOfGlobal 3 (some .int) 1 24 enI 0 [(0, av x0), (1, iv x1)] [] σ (Pln_typeOfGlobal σ x0 x1)
  unfold Pln_typeOfGlobal
  refine g_aload_n 0 0 dX20_typeOfGlobal_0 rfl rfl ?_
  refine g_iconst (v := 3) dX20_typeOfGlobal_1 (by decide) ?_
  refine g_callV (fc := fun sς => Pln_imported sς x0 (3 : Int32)) (ci := 20) (as := [iv (3 : Int32)]) rfl rfl rfl q3784 q3785 mdX20_193 (ctX20_imported x0 (3 : Int32)) rfl (Nat.le_of_ble_eq_true rfl) (Nat.le_of_ble_eq_true rfl) (Nat.le_of_ble_eq_true rfl) pu_I dX20_typeOfGlobal_2 (fun r2 σ1 => ?_)
  refine g_istore_n 2 dX20_typeOfGlobal_5 rfl (by decide) rfl ?_
  refine g_iload_n 1 2 dX20_typeOfGlobal_6 rfl rfl ?_
  refine g_iload_n 2 0 dX20_typeOfGlobal_7 rfl rfl ?_
  refine g_icmp_ge 26 dX20_typeOfGlobal_8 (by decide) ?_ ?_
  · refine g_aload_n 0 1 dX20_typeOfGlobal_26 rfl rfl ?_
    refine g_getR fdX20_63 dX20_typeOfGlobal_27 ?_
    refine g_iload_n 1 2 dX20_typeOfGlobal_30 rfl rfl ?_
    refine g_iload_n 2 0 dX20_typeOfGlobal_31 rfl rfl ?_
    refine g_isub dX20_typeOfGlobal_32 ?_
    refine g_iaload dX20_typeOfGlobal_33 ?_
    exact g_ireturn rfl dX20_typeOfGlobal_34
  · refine g_aload_n 0 1 dX20_typeOfGlobal_11 rfl rfl ?_
    refine g_getR fdX20_31 dX20_typeOfGlobal_12 ?_
    refine g_aload_n 0 1 dX20_typeOfGlobal_15 rfl rfl ?_
    refine g_iconst (v := 3) dX20_typeOfGlobal_16 (by decide) ?_
    refine g_iload_n 1 2 dX20_typeOfGlobal_17 rfl rfl ?_
    refine g_callV (fc := fun sς => Pln_importOf sς x0 (3 : Int32) x1) (ci := 20) (as := [iv (3 : Int32), iv x1]) rfl rfl rfl q3800 q3801 mdX20_197 (ctX20_importOf x0 (3 : Int32) x1) rfl (Nat.le_of_ble_eq_true rfl) (Nat.le_of_ble_eq_true rfl) (Nat.le_of_ble_eq_true rfl) pu_I dX20_typeOfGlobal_18 (fun r4 σ3 => ?_)
    refine g_laload dX20_typeOfGlobal_21 ?_
    refine g_l2i dX20_typeOfGlobal_22 ?_
    refine g_goto 34 dX20_typeOfGlobal_23 (by decide) ?_
    exact g_ireturn rfl dX20_typeOfGlobal_34
theorem V.dX20_typeOfTable_0 : decode cX20_typeOfTable 0 = .ok (.aload_n 0, 1) := by decide +kernel
theorem V.dX20_typeOfTable_1 : decode cX20_typeOfTable 1 = .ok (.iconst 1, 1) := by decide +kernel
theorem V.dX20_typeOfTable_2 : decode cX20_typeOfTable 2 = .ok (.invokevirtual 193, 3) := by decide +kernel
theorem V.dX20_typeOfTable_5 : decode cX20_typeOfTable 5 = .ok (.istore_n 2, 1) := by decide +kernel
theorem V.dX20_typeOfTable_6 : decode cX20_typeOfTable 6 = .ok (.iload_n 1, 1) := by decide +kernel
theorem V.dX20_typeOfTable_7 : decode cX20_typeOfTable 7 = .ok (.iload_n 2, 1) := by decide +kernel
theorem V.dX20_typeOfTable_8 : decode cX20_typeOfTable 8 = .ok (.if_icmp .ge 18, 3) := by decide +kernel
theorem V.dX20_typeOfTable_11 : decode cX20_typeOfTable 11 = .ok (.aload_n 0, 1) := by decide +kernel
theorem V.dX20_typeOfTable_12 : decode cX20_typeOfTable 12 = .ok (.getfield 31, 3) := by decide +kernel
theorem V.dX20_typeOfTable_15 : decode cX20_typeOfTable 15 = .ok (.aload_n 0, 1) := by decide +kernel
theorem V.dX20_typeOfTable_16 : decode cX20_typeOfTable 16 = .ok (.iconst 1, 1) := by decide +kernel
theorem V.dX20_typeOfTable_17 : decode cX20_typeOfTable 17 = .ok (.iload_n 1, 1) := by decide +kernel
theorem V.dX20_typeOfTable_18 : decode cX20_typeOfTable 18 = .ok (.invokevirtual 197, 3) := by decide +kernel
theorem V.dX20_typeOfTable_21 : decode cX20_typeOfTable 21 = .ok (.laload, 1) := by decide +kernel
theorem V.dX20_typeOfTable_22 : decode cX20_typeOfTable 22 = .ok (.l2i, 1) := by decide +kernel
theorem V.dX20_typeOfTable_23 : decode cX20_typeOfTable 23 = .ok (.goto 11, 3) := by decide +kernel
theorem V.dX20_typeOfTable_26 : decode cX20_typeOfTable 26 = .ok (.aload_n 0, 1) := by decide +kernel
theorem V.dX20_typeOfTable_27 : decode cX20_typeOfTable 27 = .ok (.getfield 48, 3) := by decide +kernel
theorem V.dX20_typeOfTable_30 : decode cX20_typeOfTable 30 = .ok (.iload_n 1, 1) := by decide +kernel
theorem V.dX20_typeOfTable_31 : decode cX20_typeOfTable 31 = .ok (.iload_n 2, 1) := by decide +kernel
theorem V.dX20_typeOfTable_32 : decode cX20_typeOfTable 32 = .ok (.isub, 1) := by decide +kernel
theorem V.dX20_typeOfTable_33 : decode cX20_typeOfTable 33 = .ok (.iaload, 1) := by decide +kernel
theorem V.dX20_typeOfTable_34 : decode cX20_typeOfTable 34 = .ok (.ireturn, 1) := by decide +kernel
theorem V.fdX20_48 : FD RX20 48 20 18 2 := ⟨(RX20, TX20, 58), tyX20, rfl, rfl, in_X20, by decide, Or.inl q3395, rfl⟩
/-! ModuleEngineModel$Plan.typeOfTable(I)I -/
def V.Pln_typeOfTable (σ : HS) (x0 : Nat) (x1 : Int32) : Option (Int32 × HS) :=
  ck (tg σ x0 = 21) <| cl (Pln_imported σ x0 (1 : Int32)) fun r2 σ1 =>
  if r2 ≤ x1 then (
    ck (tg σ1 x0 = 21) <|
    ck (tg σ1 (gR σ1 x0 18) = 100 ∧ inb (x1 - r2) (ln σ1 (gR σ1 x0 18))) <|
    some (gI σ1 (gR σ1 x0 18) (ix (x1 - r2)), σ1))
  else (
    ck (tg σ1 x0 = 21) <|
    ck (tg σ1 x0 = 21) <| cl (Pln_importOf σ1 x0 (1 : Int32) x1) fun r4 σ3 =>
    ck (tg σ3 (gR σ1 x0 10) = 101 ∧ inb r4 (ln σ3 (gR σ1 x0 10))) <|
    some ((gJ σ3 (gR σ1 x0 10) (ix r4)).toInt32, σ3))
theorem V.ctX20_typeOfTable (x0 : Nat) (x1 : Int32) : Ct yX20_typeOfTable  cX20_typeOfTable 3 (some .int) 1 24 eI [av x0, iv x1] (fun σ => Pln_typeOfTable σ x0 x1) := by
  refine Ct.of (own := RX20) (nm := "typeOfTable") (desc := "(I)I") rfl (by decide) (Nat.le_of_ble_eq_true rfl) (by decide) (fun X σ => ?_)
  show G X RX20 "typeOfTable" cX20_typeOfTable 3 (some .int) 1 24 enI 0 [(0, av x0), (1, iv x1)] [] σ (Pln_typeOfTable σ x0 x1)
  unfold Pln_typeOfTable
  refine g_aload_n 0 0 dX20_typeOfTable_0 rfl rfl ?_
  refine g_iconst (v := 1) dX20_typeOfTable_1 (by decide) ?_
  refine g_callV (fc := fun sς => Pln_imported sς x0 (1 : Int32)) (ci := 20) (as := [iv (1 : Int32)]) rfl rfl rfl q3784 q3785 mdX20_193 (ctX20_imported x0 (1 : Int32)) rfl (Nat.le_of_ble_eq_true rfl) (Nat.le_of_ble_eq_true rfl) (Nat.le_of_ble_eq_true rfl) pu_I dX20_typeOfTable_2 (fun r2 σ1 => ?_)
  refine g_istore_n 2 dX20_typeOfTable_5 rfl (by decide) rfl ?_
  refine g_iload_n 1 2 dX20_typeOfTable_6 rfl rfl ?_
  refine g_iload_n 2 0 dX20_typeOfTable_7 rfl rfl ?_
  refine g_icmp_ge 26 dX20_typeOfTable_8 (by decide) ?_ ?_
  · refine g_aload_n 0 1 dX20_typeOfTable_26 rfl rfl ?_
    refine g_getR fdX20_48 dX20_typeOfTable_27 ?_
    refine g_iload_n 1 2 dX20_typeOfTable_30 rfl rfl ?_
    refine g_iload_n 2 0 dX20_typeOfTable_31 rfl rfl ?_
    refine g_isub dX20_typeOfTable_32 ?_
    refine g_iaload dX20_typeOfTable_33 ?_
    exact g_ireturn rfl dX20_typeOfTable_34
  · refine g_aload_n 0 1 dX20_typeOfTable_11 rfl rfl ?_
    refine g_getR fdX20_31 dX20_typeOfTable_12 ?_
    refine g_aload_n 0 1 dX20_typeOfTable_15 rfl rfl ?_
    refine g_iconst (v := 1) dX20_typeOfTable_16 (by decide) ?_
    refine g_iload_n 1 2 dX20_typeOfTable_17 rfl rfl ?_
    refine g_callV (fc := fun sς => Pln_importOf sς x0 (1 : Int32) x1) (ci := 20) (as := [iv (1 : Int32), iv x1]) rfl rfl rfl q3800 q3801 mdX20_197 (ctX20_importOf x0 (1 : Int32) x1) rfl (Nat.le_of_ble_eq_true rfl) (Nat.le_of_ble_eq_true rfl) (Nat.le_of_ble_eq_true rfl) pu_I dX20_typeOfTable_18 (fun r4 σ3 => ?_)
    refine g_laload dX20_typeOfTable_21 ?_
    refine g_l2i dX20_typeOfTable_22 ?_
    refine g_goto 34 dX20_typeOfTable_23 (by decide) ?_
    exact g_ireturn rfl dX20_typeOfTable_34
theorem V.dX19_init_0 : decode cX19_init 0 = .ok (.aload_n 0, 1) := by decide +kernel
theorem V.dX19_init_1 : decode cX19_init 1 = .ok (.invokespecial 1, 3) := by decide +kernel
theorem V.dX19_init_4 : decode cX19_init 4 = .ok (.return_, 1) := by decide +kernel
/-! ModuleEngineModel$Real.<init>()V -/
def V.Rea_init (σ : HS) (x0 : Nat) : Option (Unit × HS) :=
  ck (¬ x0 = 0) <|
  some ((), σ)
theorem V.ctX19_init (x0 : Nat) : Ct yX19_init  cX19_init 1 none 1 24 eV [av x0] (fun σ => Rea_init σ x0) := by
  refine Ct.of (own := RX19) (nm := "<init>") (desc := "()V") rfl (by decide) (Nat.le_of_ble_eq_true rfl) (by decide) (fun X σ => ?_)
  show G X RX19 "<init>" cX19_init 1 none 1 24 enV 0 [(0, av x0)] [] σ (Rea_init σ x0)
  unfold Rea_init
  refine g_aload_n 0 0 dX19_init_0 rfl rfl ?_
  refine g_objInit q3015 (Nat.le_of_ble_eq_true rfl) (Nat.le_of_ble_eq_true rfl) dX19_init_1 ?_
  exact g_return rfl dX19_init_4
theorem V.dX19_read_0 : decode cX19_read 0 = .ok (.iload_n 1, 1) := by decide +kernel
theorem V.dX19_read_1 : decode cX19_read 1 = .ok (.iconst 2, 1) := by decide +kernel
theorem V.dX19_read_2 : decode cX19_read 2 = .ok (.if_icmp .ne 8, 3) := by decide +kernel
theorem V.dX19_read_5 : decode cX19_read 5 = .ok (.bipush 23, 2) := by decide +kernel
theorem V.dX19_read_7 : decode cX19_read 7 = .ok (.goto 5, 3) := by decide +kernel
theorem V.dX19_read_10 : decode cX19_read 10 = .ok (.bipush 52, 2) := by decide +kernel
theorem V.dX19_read_12 : decode cX19_read 12 = .ok (.istore 4, 2) := by decide +kernel
theorem V.dX19_read_14 : decode cX19_read 14 = .ok (.iload_n 1, 1) := by decide +kernel
theorem V.dX19_read_15 : decode cX19_read 15 = .ok (.iconst 2, 1) := by decide +kernel
theorem V.dX19_read_16 : decode cX19_read 16 = .ok (.if_icmp .ne 9, 3) := by decide +kernel
theorem V.dX19_read_19 : decode cX19_read 19 = .ok (.sipush 255, 3) := by decide +kernel
theorem V.dX19_read_22 : decode cX19_read 22 = .ok (.goto 6, 3) := by decide +kernel
theorem V.dX19_read_25 : decode cX19_read 25 = .ok (.sipush 2047, 3) := by decide +kernel
theorem V.dX19_read_28 : decode cX19_read 28 = .ok (.istore 5, 2) := by decide +kernel
theorem V.dX19_read_30 : decode cX19_read 30 = .ok (.lload_n 2, 1) := by decide +kernel
theorem V.dX19_read_31 : decode cX19_read 31 = .ok (.lconst 1, 1) := by decide +kernel
theorem V.dX19_read_32 : decode cX19_read 32 = .ok (.iload 4, 2) := by decide +kernel
theorem V.dX19_read_34 : decode cX19_read 34 = .ok (.lshl, 1) := by decide +kernel
theorem V.dX19_read_35 : decode cX19_read 35 = .ok (.lconst 1, 1) := by decide +kernel
theorem V.dX19_read_36 : decode cX19_read 36 = .ok (.lsub, 1) := by decide +kernel
theorem V.dX19_read_37 : decode cX19_read 37 = .ok (.land, 1) := by decide +kernel
theorem V.dX19_read_38 : decode cX19_read 38 = .ok (.lstore 6, 2) := by decide +kernel
theorem V.dX19_read_40 : decode cX19_read 40 = .ok (.lload_n 2, 1) := by decide +kernel
theorem V.dX19_read_41 : decode cX19_read 41 = .ok (.iload 4, 2) := by decide +kernel
theorem V.dX19_read_43 : decode cX19_read 43 = .ok (.lshr, 1) := by decide +kernel
theorem V.dX19_read_44 : decode cX19_read 44 = .ok (.l2i, 1) := by decide +kernel
theorem V.dX19_read_45 : decode cX19_read 45 = .ok (.iload 5, 2) := by decide +kernel
theorem V.dX19_read_47 : decode cX19_read 47 = .ok (.iand, 1) := by decide +kernel
theorem V.dX19_read_48 : decode cX19_read 48 = .ok (.istore 8, 2) := by decide +kernel
theorem V.dX19_read_50 : decode cX19_read 50 = .ok (.aload_n 0, 1) := by decide +kernel
theorem V.dX19_read_51 : decode cX19_read 51 = .ok (.lload_n 2, 1) := by decide +kernel
theorem V.dX19_read_52 : decode cX19_read 52 = .ok (.iload_n 1, 1) := by decide +kernel
theorem V.dX19_read_53 : decode cX19_read 53 = .ok (.iconst 2, 1) := by decide +kernel
theorem V.dX19_read_54 : decode cX19_read 54 = .ok (.if_icmp .ne 8, 3) := by decide +kernel
theorem V.dX19_read_57 : decode cX19_read 57 = .ok (.bipush 31, 2) := by decide +kernel
theorem V.dX19_read_59 : decode cX19_read 59 = .ok (.goto 5, 3) := by decide +kernel
theorem V.dX19_read_62 : decode cX19_read 62 = .ok (.bipush 63, 2) := by decide +kernel
theorem V.dX19_read_64 : decode cX19_read 64 = .ok (.lshr, 1) := by decide +kernel
theorem V.dX19_read_65 : decode cX19_read 65 = .ok (.lconst 1, 1) := by decide +kernel
theorem V.dX19_read_66 : decode cX19_read 66 = .ok (.land, 1) := by decide +kernel
theorem V.dX19_read_67 : decode cX19_read 67 = .ok (.lconst 1, 1) := by decide +kernel
theorem V.dX19_read_68 : decode cX19_read 68 = .ok (.lcmp, 1) := by decide +kernel
theorem V.dX19_read_69 : decode cX19_read 69 = .ok (.ifCond .ne 7, 3) := by decide +kernel
theorem V.dX19_read_72 : decode cX19_read 72 = .ok (.iconst 1, 1) := by decide +kernel
theorem V.dX19_read_73 : decode cX19_read 73 = .ok (.goto 4, 3) := by decide +kernel
theorem V.dX19_read_76 : decode cX19_read 76 = .ok (.iconst 0, 1) := by decide +kernel
theorem V.dX19_read_77 : decode cX19_read 77 = .ok (.putfield 7, 3) := by decide +kernel
theorem V.dX19_read_80 : decode cX19_read 80 = .ok (.aload_n 0, 1) := by decide +kernel
theorem V.dX19_read_81 : decode cX19_read 81 = .ok (.iload 8, 2) := by decide +kernel
theorem V.dX19_read_83 : decode cX19_read 83 = .ok (.iload 5, 2) := by decide +kernel
theorem V.dX19_read_85 : decode cX19_read 85 = .ok (.if_icmp .ne 18, 3) := by decide +kernel
theorem V.dX19_read_88 : decode cX19_read 88 = .ok (.lload 6, 2) := by decide +kernel
theorem V.dX19_read_90 : decode cX19_read 90 = .ok (.lconst 0, 1) := by decide +kernel
theorem V.dX19_read_91 : decode cX19_read 91 = .ok (.lcmp, 1) := by decide +kernel
theorem V.dX19_read_92 : decode cX19_read 92 = .ok (.ifCond .ne 7, 3) := by decide +kernel
theorem V.dX19_read_95 : decode cX19_read 95 = .ok (.iconst 2, 1) := by decide +kernel
theorem V.dX19_read_96 : decode cX19_read 96 = .ok (.goto 24, 3) := by decide +kernel
theorem V.dX19_read_99 : decode cX19_read 99 = .ok (.iconst 3, 1) := by decide +kernel
theorem V.dX19_read_100 : decode cX19_read 100 = .ok (.goto 20, 3) := by decide +kernel
theorem V.dX19_read_103 : decode cX19_read 103 = .ok (.iload 8, 2) := by decide +kernel
theorem V.dX19_read_105 : decode cX19_read 105 = .ok (.ifCond .ne 14, 3) := by decide +kernel
theorem V.dX19_read_108 : decode cX19_read 108 = .ok (.lload 6, 2) := by decide +kernel
theorem V.dX19_read_110 : decode cX19_read 110 = .ok (.lconst 0, 1) := by decide +kernel
theorem V.dX19_read_111 : decode cX19_read 111 = .ok (.lcmp, 1) := by decide +kernel
theorem V.dX19_read_112 : decode cX19_read 112 = .ok (.ifCond .ne 7, 3) := by decide +kernel
theorem V.dX19_read_115 : decode cX19_read 115 = .ok (.iconst 1, 1) := by decide +kernel
theorem V.dX19_read_116 : decode cX19_read 116 = .ok (.goto 4, 3) := by decide +kernel
theorem V.dX19_read_119 : decode cX19_read 119 = .ok (.iconst 0, 1) := by decide +kernel
theorem V.dX19_read_120 : decode cX19_read 120 = .ok (.putfield 13, 3) := by decide +kernel
theorem V.dX19_read_123 : decode cX19_read 123 = .ok (.aload_n 0, 1) := by decide +kernel
theorem V.dX19_read_124 : decode cX19_read 124 = .ok (.iload 8, 2) := by decide +kernel
theorem V.dX19_read_126 : decode cX19_read 126 = .ok (.ifCond .ne 8, 3) := by decide +kernel
theorem V.dX19_read_129 : decode cX19_read 129 = .ok (.lload 6, 2) := by decide +kernel
theorem V.dX19_read_131 : decode cX19_read 131 = .ok (.goto 10, 3) := by decide +kernel
theorem V.dX19_read_134 : decode cX19_read 134 = .ok (.lload 6, 2) := by decide +kernel
theorem V.dX19_read_136 : decode cX19_read 136 = .ok (.lconst 1, 1) := by decide +kernel
theorem V.dX19_read_137 : decode cX19_read 137 = .ok (.iload 4, 2) := by decide +kernel
theorem V.dX19_read_139 : decode cX19_read 139 = .ok (.lshl, 1) := by decide +kernel
theorem V.dX19_read_140 : decode cX19_read 140 = .ok (.lor, 1) := by decide +kernel
theorem V.dX19_read_141 : decode cX19_read 141 = .ok (.putfield 17, 3) := by decide +kernel
theorem V.dX19_read_144 : decode cX19_read 144 = .ok (.aload_n 0, 1) := by decide +kernel
theorem V.dX19_read_145 : decode cX19_read 145 = .ok (.iload 8, 2) := by decide +kernel
theorem V.dX19_read_147 : decode cX19_read 147 = .ok (.ifCond .ne 7, 3) := by decide +kernel
theorem V.dX19_read_150 : decode cX19_read 150 = .ok (.iconst 1, 1) := by decide +kernel
theorem V.dX19_read_151 : decode cX19_read 151 = .ok (.goto 5, 3) := by decide +kernel
theorem V.dX19_read_154 : decode cX19_read 154 = .ok (.iload 8, 2) := by decide +kernel
theorem V.dX19_read_156 : decode cX19_read 156 = .ok (.iload_n 1, 1) := by decide +kernel
theorem V.dX19_read_157 : decode cX19_read 157 = .ok (.iconst 2, 1) := by decide +kernel
theorem V.dX19_read_158 : decode cX19_read 158 = .ok (.if_icmp .ne 9, 3) := by decide +kernel
theorem V.dX19_read_161 : decode cX19_read 161 = .ok (.sipush 150, 3) := by decide +kernel
theorem V.dX19_read_164 : decode cX19_read 164 = .ok (.goto 6, 3) := by decide +kernel
theorem V.dX19_read_167 : decode cX19_read 167 = .ok (.sipush 1075, 3) := by decide +kernel
theorem V.dX19_read_170 : decode cX19_read 170 = .ok (.isub, 1) := by decide +kernel
theorem V.dX19_read_171 : decode cX19_read 171 = .ok (.putfield 21, 3) := by decide +kernel
theorem V.dX19_read_174 : decode cX19_read 174 = .ok (.return_, 1) := by decide +kernel
theorem V.fpX19_7 {nm : String} : FP RX19 nm 7 19 0 (.boolean) := ⟨(RX19, TX19, 4), tyX19, rfl, rfl, in_X19, by decide, tyX19_ok, nmX19, rfl, Or.inl ⟨rfl, Or.inl q3016⟩⟩
theorem V.fpX19_13 {nm : String} : FP RX19 nm 13 19 1 (.int) := ⟨(RX19, TX19, 4), tyX19, rfl, rfl, in_X19, by decide, tyX19_ok, nmX19, rfl, Or.inl ⟨rfl, Or.inl q3018⟩⟩
theorem V.fpX19_17 {nm : String} : FP RX19 nm 17 19 2 (.long) := ⟨(RX19, TX19, 4), tyX19, rfl, rfl, in_X19, by decide, tyX19_ok, nmX19, rfl, Or.inl ⟨rfl, Or.inl q3020⟩⟩
theorem V.fpX19_21 {nm : String} : FP RX19 nm 21 19 3 (.int) := ⟨(RX19, TX19, 4), tyX19, rfl, rfl, in_X19, by decide, tyX19_ok, nmX19, rfl, Or.inl ⟨rfl, Or.inl q3022⟩⟩
/-! ModuleEngineModel$Real.read(IJ)V -/
def V.Rea_read_p170  (σ : HS) (s0 : Int32) (s1 : Int32) (s2 : Nat) : Option (Unit × HS) :=
  ck (tg σ s2 = 20) <| bn (sI σ s2 3 (s1 - s0)) fun σ1 =>
  some ((), σ1)
theorem V.gX19_read_p170 {X : CX}  (σ : HS) (s0 : Int32) (s1 : Int32) (s2 : Nat) : G X RX19 "read" cX19_read 9 none 0 0 enV 170 [] [iv s0, iv s1, av s2] σ (Rea_read_p170 σ s0 s1 s2) := by
  unfold Rea_read_p170
  refine g_isub dX19_read_170 ?_
  refine g_putI fpX19_21 dX19_read_171 (fun σ1 => ?_)
  exact g_return rfl dX19_read_174
def V.Rea_read_p156  (σ : HS) (x1 : Int32) (s0 : Int32) (s1 : Nat) : Option (Unit × HS) :=
  if x1 = (2 : Int32) then (
    Rea_read_p170 σ (150 : Int32) s0 s1)
  else (
    Rea_read_p170 σ (1075 : Int32) s0 s1)
theorem V.gX19_read_p156 {X : CX}  (σ : HS) (x1 : Int32) (s0 : Int32) (s1 : Nat) : G X RX19 "read" cX19_read 9 none 0 0 enV 156 [(1, iv x1)] [iv s0, av s1] σ (Rea_read_p156 σ x1 s0 s1) := by
  unfold Rea_read_p156
  refine g_iload_n 1 0 dX19_read_156 rfl rfl ?_
  refine g_iconst (v := 2) dX19_read_157 (by decide) ?_
  refine g_icmp_ne 167 dX19_read_158 (by decide) ?_ ?_
  · refine g_sipush (v := 1075) dX19_read_167 (by decide) ?_
    refine G.sub [] rfl ?_
    exact gX19_read_p170 _ _ _ _
  · refine g_sipush (v := 150) dX19_read_161 (by decide) ?_
    refine g_goto 170 dX19_read_164 (by decide) ?_
    refine G.sub [] rfl ?_
    exact gX19_read_p170 _ _ _ _
def V.Rea_read_p141  (σ : HS) (x0 : Nat) (x1 : Int32) (x8 : Int32) (s0 : Int64) (s1 : Nat) : Option (Unit × HS) :=
  ck (tg σ s1 = 20) <| bn (sJ σ s1 2 s0) fun σ1 =>
  if x8 = 0 then (
    Rea_read_p156 σ1 x1 (1 : Int32) x0)
  else (
    Rea_read_p156 σ1 x1 x8 x0)
theorem V.gX19_read_p141 {X : CX}  (σ : HS) (x0 : Nat) (x1 : Int32) (x8 : Int32) (s0 : Int64) (s1 : Nat) : G X RX19 "read" cX19_read 9 none 0 0 enV 141 [(0, av x0), (1, iv x1), (8, iv x8)] [jv s0, av s1] σ (Rea_read_p141 σ x0 x1 x8 s0 s1) := by
  unfold Rea_read_p141
  refine g_putJ fpX19_17 dX19_read_141 (fun σ1 => ?_)
  refine g_aload_n 0 0 dX19_read_144 rfl rfl ?_
  refine g_iload 2 dX19_read_145 rfl ?_
  refine g_if_ne 154 dX19_read_147 (by decide) ?_ ?_
  · refine g_iload 2 dX19_read_154 rfl ?_
    refine G.sub [1] rfl ?_
    exact gX19_read_p156 _ _ _ _
  · refine g_iconst (v := 1) dX19_read_150 (by decide) ?_
    refine g_goto 156 dX19_read_151 (by decide) ?_
    refine G.sub [1] rfl ?_
    exact gX19_read_p156 _ _ _ _
def V.Rea_read_p120  (σ : HS) (x0 : Nat) (x1 : Int32) (x4 : Int32) (x6 : Int64) (x8 : Int32) (s0 : Int32) (s1 : Nat) : Option (Unit × HS) :=
  ck (tg σ s1 = 20) <| bn (sI σ s1 1 s0) fun σ1 =>
  if x8 = 0 then (
    Rea_read_p141 σ1 x0 x1 x8 x6 x0)
  else (
    Rea_read_p141 σ1 x0 x1 x8 (x6 ||| (lshl (1 : Int64) x4)) x0)
theorem V.gX19_read_p120 {X : CX}  (σ : HS) (x0 : Nat) (x1 : Int32) (x4 : Int32) (x6 : Int64) (x8 : Int32) (s0 : Int32) (s1 : Nat) : G X RX19 "read" cX19_read 9 none 0 0 enV 120 [(0, av x0), (1, iv x1), (4, iv x4), (6, jv x6), (8, iv x8)] [iv s0, av s1] σ (Rea_read_p120 σ x0 x1 x4 x6 x8 s0 s1) := by
  unfold Rea_read_p120
  refine g_putI fpX19_13 dX19_read_120 (fun σ1 => ?_)
  refine g_aload_n 0 0 dX19_read_123 rfl rfl ?_
  refine g_iload 4 dX19_read_124 rfl ?_
  refine g_if_ne 134 dX19_read_126 (by decide) ?_ ?_
  · refine g_lload 3 dX19_read_134 rfl ?_
    refine g_lconst (v := 1) dX19_read_136 (by decide) ?_
    refine g_iload 2 dX19_read_137 rfl ?_
    refine g_lshl dX19_read_139 ?_
    refine g_lor dX19_read_140 ?_
    refine G.sub [0, 1, 4] rfl ?_
    exact gX19_read_p141 _ _ _ _ _ _
  · refine g_lload 3 dX19_read_129 rfl ?_
    refine g_goto 141 dX19_read_131 (by decide) ?_
    refine G.sub [0, 1, 4] rfl ?_
    exact gX19_read_p141 _ _ _ _ _ _
def V.Rea_read_p119  (σ : HS) (x0 : Nat) (x1 : Int32) (x4 : Int32) (x6 : Int64) (x8 : Int32) (s0 : Nat) : Option (Unit × HS) :=
  Rea_read_p120 σ x0 x1 x4 x6 x8 (0 : Int32) s0
theorem V.gX19_read_p119 {X : CX}  (σ : HS) (x0 : Nat) (x1 : Int32) (x4 : Int32) (x6 : Int64) (x8 : Int32) (s0 : Nat) : G X RX19 "read" cX19_read 9 none 0 0 enV 119 [(0, av x0), (1, iv x1), (4, iv x4), (6, jv x6), (8, iv x8)] [av s0] σ (Rea_read_p119 σ x0 x1 x4 x6 x8 s0) := by
  unfold Rea_read_p119
  refine g_iconst (v := 0) dX19_read_119 (by decide) ?_
  exact gX19_read_p120 _ _ _ _ _ _ _ _
def V.Rea_read_p77  (σ : HS) (x0 : Nat) (x1 : Int32) (x4 : Int32) (x5 : Int32) (x6 : Int64) (x8 : Int32) (s0 : Int32) (s1 : Nat) : Option (Unit × HS) :=
  ck (tg σ s1 = 20 ∧ zb s0) <| bn (sI σ s1 0 s0) fun σ1 =>
  if x8 = x5 then (
    if x6 = (0 : Int64) then (
      Rea_read_p120 σ1 x0 x1 x4 x6 x8 (2 : Int32) x0)
    else (
      Rea_read_p120 σ1 x0 x1 x4 x6 x8 (3 : Int32) x0))
  else (
    if x8 = 0 then (
      if x6 = (0 : Int64) then (
        Rea_read_p120 σ1 x0 x1 x4 x6 x8 (1 : Int32) x0)
      else (
        Rea_read_p119 σ1 x0 x1 x4 x6 x8 x0))
    else (
      Rea_read_p119 σ1 x0 x1 x4 x6 x8 x0))
theorem V.gX19_read_p77 {X : CX}  (σ : HS) (x0 : Nat) (x1 : Int32) (x4 : Int32) (x5 : Int32) (x6 : Int64) (x8 : Int32) (s0 : Int32) (s1 : Nat) : G X RX19 "read" cX19_read 9 none 0 0 enV 77 [(0, av x0), (1, iv x1), (4, iv x4), (5, iv x5), (6, jv x6), (8, iv x8)] [iv s0, av s1] σ (Rea_read_p77 σ x0 x1 x4 x5 x6 x8 s0 s1) := by
  unfold Rea_read_p77
  refine g_putZc fpX19_7 dX19_read_77 (fun σ1 => ?_)
  refine g_aload_n 0 0 dX19_read_80 rfl rfl ?_
  refine g_iload 5 dX19_read_81 rfl ?_
  refine g_iload 3 dX19_read_83 rfl ?_
  refine g_icmp_ne 103 dX19_read_85 (by decide) ?_ ?_
  · refine g_iload 5 dX19_read_103 rfl ?_
    refine g_if_ne 119 dX19_read_105 (by decide) ?_ ?_
    · refine G.sub [0, 1, 2, 4, 5] rfl ?_
      exact gX19_read_p119 _ _ _ _ _ _ _
    · refine g_lload 4 dX19_read_108 rfl ?_
      refine g_lconst (v := 0) dX19_read_110 (by decide) ?_
      refine g_lcmp_ne 119 dX19_read_111 dX19_read_112 (by decide) ?_ ?_
      · refine G.sub [0, 1, 2, 4, 5] rfl ?_
        exact gX19_read_p119 _ _ _ _ _ _ _
      · refine g_iconst (v := 1) dX19_read_115 (by decide) ?_
        refine g_goto 120 dX19_read_116 (by decide) ?_
        refine G.sub [0, 1, 2, 4, 5] rfl ?_
        exact gX19_read_p120 _ _ _ _ _ _ _ _
  · refine g_lload 4 dX19_read_88 rfl ?_
    refine g_lconst (v := 0) dX19_read_90 (by decide) ?_
    refine g_lcmp_ne 99 dX19_read_91 dX19_read_92 (by decide) ?_ ?_
    · refine g_iconst (v := 3) dX19_read_99 (by decide) ?_
      refine g_goto 120 dX19_read_100 (by decide) ?_
      refine G.sub [0, 1, 2, 4, 5] rfl ?_
      exact gX19_read_p120 _ _ _ _ _ _ _ _
    · refine g_iconst (v := 2) dX19_read_95 (by decide) ?_
      refine g_goto 120 dX19_read_96 (by decide) ?_
      refine G.sub [0, 1, 2, 4, 5] rfl ?_
      exact gX19_read_p120 _ _ _ _ _ _ _ _
def V.Rea_read_p64  (σ : HS) (x0 : Nat) (x1 : Int32) (x4 : Int32) (x5 : Int32) (x6 : Int64) (x8 : Int32) (s0 : Int32) (s1 : Int64) (s2 : Nat) : Option (Unit × HS) :=
  if ((lshr s1 s0) &&& (1 : Int64)) = (1 : Int64) then (
    Rea_read_p77 σ x0 x1 x4 x5 x6 x8 (1 : Int32) s2)
  else (
    Rea_read_p77 σ x0 x1 x4 x5 x6 x8 (0 : Int32) s2)
theorem V.gX19_read_p64 {X : CX}  (σ : HS) (x0 : Nat) (x1 : Int32) (x4 : Int32) (x5 : Int32) (x6 : Int64) (x8 : Int32) (s0 : Int32) (s1 : Int64) (s2 : Nat) : G X RX19 "read" cX19_read 9 none 0 0 enV 64 [(0, av x0), (1, iv x1), (4, iv x4), (5, iv x5), (6, jv x6), (8, iv x8)] [iv s0, jv s1, av s2] σ (Rea_read_p64 σ x0 x1 x4 x5 x6 x8 s0 s1 s2) := by
  unfold Rea_read_p64
  refine g_lshr dX19_read_64 ?_
  refine g_lconst (v := 1) dX19_read_65 (by decide) ?_
  refine g_land dX19_read_66 ?_
  refine g_lconst (v := 1) dX19_read_67 (by decide) ?_
  refine g_lcmp_ne 76 dX19_read_68 dX19_read_69 (by decide) ?_ ?_
  · refine g_iconst (v := 0) dX19_read_76 (by decide) ?_
    exact gX19_read_p77 _ _ _ _ _ _ _ _ _
  · refine g_iconst (v := 1) dX19_read_72 (by decide) ?_
    refine g_goto 77 dX19_read_73 (by decide) ?_
    exact gX19_read_p77 _ _ _ _ _ _ _ _ _
def V.Rea_read_p28  (σ : HS) (x0 : Nat) (x1 : Int32) (x2 : Int64) (x4 : Int32) (s0 : Int32) : Option (Unit × HS) :=
  bn (x2 &&& ((lshl (1 : Int64) x4) - (1 : Int64))) fun y1 =>
  bn (((lshr x2 x4).toInt32) &&& s0) fun y2 =>
  if x1 = (2 : Int32) then (
    Rea_read_p64 σ x0 x1 x4 s0 y1 y2 (31 : Int32) x2 x0)
  else (
    Rea_read_p64 σ x0 x1 x4 s0 y1 y2 (63 : Int32) x2 x0)
theorem V.gX19_read_p28 {X : CX}  (σ : HS) (x0 : Nat) (x1 : Int32) (x2 : Int64) (x4 : Int32) (s0 : Int32) : G X RX19 "read" cX19_read 9 none 0 0 enV 28 [(0, av x0), (1, iv x1), (2, jv x2), (4, iv x4)] [iv s0] σ (Rea_read_p28 σ x0 x1 x2 x4 s0) := by
  unfold Rea_read_p28
  refine g_istore dX19_read_28 (by decide) rfl ?_
  refine g_lload_n 2 3 dX19_read_30 rfl rfl ?_
  refine g_lconst (v := 1) dX19_read_31 (by decide) ?_
  refine g_iload 4 dX19_read_32 rfl ?_
  refine g_lshl dX19_read_34 ?_
  refine g_lconst (v := 1) dX19_read_35 (by decide) ?_
  refine g_lsub dX19_read_36 ?_
  refine g_land dX19_read_37 ?_
  refine g_nmJ (fun y1 => ?_)
  refine g_lstore dX19_read_38 (by decide) rfl ?_
  refine g_lload_n 2 4 dX19_read_40 rfl rfl ?_
  refine g_iload 5 dX19_read_41 rfl ?_
  refine g_lshr dX19_read_43 ?_
  refine g_l2i dX19_read_44 ?_
  refine g_iload 1 dX19_read_45 rfl ?_
  refine g_iand dX19_read_47 ?_
  refine g_nmI (fun y2 => ?_)
  refine g_istore dX19_read_48 (by decide) rfl ?_
  refine g_aload_n 0 3 dX19_read_50 rfl rfl ?_
  refine g_lload_n 2 5 dX19_read_51 rfl rfl ?_
  refine g_iload_n 1 4 dX19_read_52 rfl rfl ?_
  refine g_iconst (v := 2) dX19_read_53 (by decide) ?_
  refine g_icmp_ne 62 dX19_read_54 (by decide) ?_ ?_
  · refine g_bipush (v := 63) dX19_read_62 (by decide) ?_
    refine G.sub [3, 4, 6, 2, 1, 0] rfl ?_
    exact gX19_read_p64 _ _ _ _ _ _ _ _ _ _
  · refine g_bipush (v := 31) dX19_read_57 (by decide) ?_
    refine g_goto 64 dX19_read_59 (by decide) ?_
    refine G.sub [3, 4, 6, 2, 1, 0] rfl ?_
    exact gX19_read_p64 _ _ _ _ _ _ _ _ _ _
def V.Rea_read_p12  (σ : HS) (x0 : Nat) (x1 : Int32) (x2 : Int64) (s0 : Int32) : Option (Unit × HS) :=
  if x1 = (2 : Int32) then (
    Rea_read_p28 σ x0 x1 x2 s0 (255 : Int32))
  else (
    Rea_read_p28 σ x0 x1 x2 s0 (2047 : Int32))
theorem V.gX19_read_p12 {X : CX}  (σ : HS) (x0 : Nat) (x1 : Int32) (x2 : Int64) (s0 : Int32) : G X RX19 "read" cX19_read 9 none 0 0 enV 12 [(0, av x0), (1, iv x1), (2, jv x2)] [iv s0] σ (Rea_read_p12 σ x0 x1 x2 s0) := by
  unfold Rea_read_p12
  refine g_istore dX19_read_12 (by decide) rfl ?_
  refine g_iload_n 1 2 dX19_read_14 rfl rfl ?_
  refine g_iconst (v := 2) dX19_read_15 (by decide) ?_
  refine g_icmp_ne 25 dX19_read_16 (by decide) ?_ ?_
  · refine g_sipush (v := 2047) dX19_read_25 (by decide) ?_
    refine G.sub [1, 2, 3, 0] rfl ?_
    exact gX19_read_p28 _ _ _ _ _ _
  · refine g_sipush (v := 255) dX19_read_19 (by decide) ?_
    refine g_goto 28 dX19_read_22 (by decide) ?_
    refine G.sub [1, 2, 3, 0] rfl ?_
    exact gX19_read_p28 _ _ _ _ _ _
def V.Rea_read (σ : HS) (x0 : Nat) (x1 : Int32) (x2 : Int64) : Option (Unit × HS) :=
  if x1 = (2 : Int32) then (
    Rea_read_p12 σ x0 x1 x2 (23 : Int32))
  else (
    Rea_read_p12 σ x0 x1 x2 (52 : Int32))
theorem V.ctX19_read (x0 : Nat) (x1 : Int32) (x2 : Int64) : Ct yX19_read  cX19_read 9 none 0 0 eV [av x0, iv x1, jv x2] (fun σ => Rea_read σ x0 x1 x2) := by
  refine Ct.of (own := RX19) (nm := "read") (desc := "(IJ)V") rfl (by decide) (Nat.le_of_ble_eq_true rfl) (by decide) (fun X σ => ?_)
  show G X RX19 "read" cX19_read 9 none 0 0 enV 0 [(0, av x0), (1, iv x1), (2, jv x2)] [] σ (Rea_read σ x0 x1 x2)
  unfold Rea_read
  refine g_iload_n 1 1 dX19_read_0 rfl rfl ?_
  refine g_iconst (v := 2) dX19_read_1 (by decide) ?_
  refine g_icmp_ne 10 dX19_read_2 (by decide) ?_ ?_
  · refine g_bipush (v := 52) dX19_read_10 (by decide) ?_
    exact gX19_read_p12 _ _ _ _ _
  · refine g_bipush (v := 23) dX19_read_5 (by decide) ?_
    refine g_goto 12 dX19_read_7 (by decide) ?_
    exact gX19_read_p12 _ _ _ _ _
theorem V.dX7_init_0 : decode cX7_init 0 = .ok (.aload_n 0, 1) := by decide +kernel
theorem V.dX7_init_1 : decode cX7_init 1 = .ok (.invokespecial 1, 3) := by decide +kernel
theorem V.dX7_init_4 : decode cX7_init 4 = .ok (.aload_n 0, 1) := by decide +kernel
theorem V.dX7_init_5 : decode cX7_init 5 = .ok (.sipush 2048, 3) := by decide +kernel
theorem V.dX7_init_8 : decode cX7_init 8 = .ok (.newarray .int, 2) := by decide +kernel
theorem V.dX7_init_10 : decode cX7_init 10 = .ok (.putfield 7, 3) := by decide +kernel
theorem V.dX7_init_13 : decode cX7_init 13 = .ok (.aload_n 0, 1) := by decide +kernel
theorem V.dX7_init_14 : decode cX7_init 14 = .ok (.bipush 64, 2) := by decide +kernel
theorem V.dX7_init_16 : decode cX7_init 16 = .ok (.newarray .long, 2) := by decide +kernel
theorem V.dX7_init_18 : decode cX7_init 18 = .ok (.putfield 13, 3) := by decide +kernel
theorem V.dX7_init_21 : decode cX7_init 21 = .ok (.aload_n 0, 1) := by decide +kernel
theorem V.dX7_init_22 : decode cX7_init 22 = .ok (.new 17, 3) := by decide +kernel
theorem V.dX7_init_25 : decode cX7_init 25 = .ok (.dup, 1) := by decide +kernel
theorem V.dX7_init_26 : decode cX7_init 26 = .ok (.invokespecial 19, 3) := by decide +kernel
theorem V.dX7_init_29 : decode cX7_init 29 = .ok (.putfield 20, 3) := by decide +kernel
theorem V.dX7_init_32 : decode cX7_init 32 = .ok (.aload_n 0, 1) := by decide +kernel
theorem V.dX7_init_33 : decode cX7_init 33 = .ok (.sipush 1024, 3) := by decide +kernel
theorem V.dX7_init_36 : decode cX7_init 36 = .ok (.newarray .int, 2) := by decide +kernel
theorem V.dX7_init_38 : decode cX7_init 38 = .ok (.putfield 24, 3) := by decide +kernel
theorem V.dX7_init_41 : decode cX7_init 41 = .ok (.aload_n 0, 1) := by decide +kernel
theorem V.dX7_init_42 : decode cX7_init 42 = .ok (.sipush 1024, 3) := by decide +kernel
theorem V.dX7_init_45 : decode cX7_init 45 = .ok (.newarray .int, 2) := by decide +kernel
theorem V.dX7_init_47 : decode cX7_init 47 = .ok (.putfield 27, 3) := by decide +kernel
theorem V.dX7_init_50 : decode cX7_init 50 = .ok (.aload_n 0, 1) := by decide +kernel
theorem V.dX7_init_51 : decode cX7_init 51 = .ok (.sipush 1024, 3) := by decide +kernel
theorem V.dX7_init_54 : decode cX7_init 54 = .ok (.newarray .int, 2) := by decide +kernel
theorem V.dX7_init_56 : decode cX7_init 56 = .ok (.putfield 30, 3) := by decide +kernel
theorem V.dX7_init_59 : decode cX7_init 59 = .ok (.aload_n 0, 1) := by decide +kernel
theorem V.dX7_init_60 : decode cX7_init 60 = .ok (.sipush 1024, 3) := by decide +kernel
theorem V.dX7_init_63 : decode cX7_init 63 = .ok (.newarray .int, 2) := by decide +kernel
theorem V.dX7_init_65 : decode cX7_init 65 = .ok (.putfield 33, 3) := by decide +kernel
theorem V.dX7_init_68 : decode cX7_init 68 = .ok (.aload_n 0, 1) := by decide +kernel
theorem V.dX7_init_69 : decode cX7_init 69 = .ok (.aload_n 1, 1) := by decide +kernel
theorem V.dX7_init_70 : decode cX7_init 70 = .ok (.putfield 36, 3) := by decide +kernel
theorem V.dX7_init_73 : decode cX7_init 73 = .ok (.aload_n 0, 1) := by decide +kernel
theorem V.dX7_init_74 : decode cX7_init 74 = .ok (.aload_n 2, 1) := by decide +kernel
theorem V.dX7_init_75 : decode cX7_init 75 = .ok (.putfield 40, 3) := by decide +kernel
theorem V.dX7_init_78 : decode cX7_init 78 = .ok (.return_, 1) := by decide +kernel
theorem V.fpX7_7 {nm : String} : FP RX7 nm 7 7 2 (.array .int) := ⟨(RX7, TX7, 17), tyX7, rfl, rfl, in_X7, by decide, tyX7_ok, nmX7, rfl, Or.inl ⟨rfl, Or.inl q693⟩⟩
theorem V.fpX7_13 {nm : String} : FP RX7 nm 13 7 4 (.array .long) := ⟨(RX7, TX7, 17), tyX7, rfl, rfl, in_X7, by decide, tyX7_ok, nmX7, rfl, Or.inl ⟨rfl, Or.inl q696⟩⟩
theorem V.ndX7_17 : ND RX7 17 3 2 := ⟨(RX3, TX3, 2), tyX3, rfl, rfl, in_X3, tyX3_ok, by decide, q689, q409, q363⟩
theorem V.mdX7_19 : MD RX7 19 yX3_init cX3_init 1 none 0 := ⟨Or.inr ⟨_, q690⟩, q363, q412, by decide, by decide, by decide +kernel⟩
theorem V.fpX7_20 : FP RX7 "<init>" 20 7 6 (.object "ModuleEngine$Row") := ⟨(RX7, TX7, 17), tyX7, rfl, rfl, in_X7, by decide, tyX7_ok, nmX7, rfl, Or.inr ⟨rfl, rfl, rfl, q699⟩⟩
theorem V.fpX7_24 {nm : String} : FP RX7 nm 24 7 8 (.array .int) := ⟨(RX7, TX7, 17), tyX7, rfl, rfl, in_X7, by decide, tyX7_ok, nmX7, rfl, Or.inl ⟨rfl, Or.inl q701⟩⟩
theorem V.fpX7_27 {nm : String} : FP RX7 nm 27 7 9 (.array .int) := ⟨(RX7, TX7, 17), tyX7, rfl, rfl, in_X7, by decide, tyX7_ok, nmX7, rfl, Or.inl ⟨rfl, Or.inl q702⟩⟩
theorem V.fpX7_30 : FP RX7 "<init>" 30 7 10 (.array .int) := ⟨(RX7, TX7, 17), tyX7, rfl, rfl, in_X7, by decide, tyX7_ok, nmX7, rfl, Or.inr ⟨rfl, rfl, rfl, q703⟩⟩
theorem V.fpX7_33 : FP RX7 "<init>" 33 7 11 (.array .int) := ⟨(RX7, TX7, 17), tyX7, rfl, rfl, in_X7, by decide, tyX7_ok, nmX7, rfl, Or.inr ⟨rfl, rfl, rfl, q704⟩⟩
theorem V.fpX7_36 : FP RX7 "<init>" 36 7 0 (.object "ModuleEngine$Flat") := ⟨(RX7, TX7, 17), tyX7, rfl, rfl, in_X7, by decide, tyX7_ok, nmX7, rfl, Or.inr ⟨rfl, rfl, rfl, q691⟩⟩
theorem V.fpX7_40 : FP RX7 "<init>" 40 7 1 (.object "ModuleEngine$Numbers") := ⟨(RX7, TX7, 17), tyX7, rfl, rfl, in_X7, by decide, tyX7_ok, nmX7, rfl, Or.inr ⟨rfl, rfl, rfl, q692⟩⟩
/-! ModuleEngine$Registers.<init>(LModuleEngine$Flat;LModuleEngine$Numbers;)V -/
def V.Reg_init (σ : HS) (x0 : Nat) (x1 : Nat) (x2 : Nat) : Option (Unit × HS) :=
  ck (¬ x0 = 0) <|
  ck (lenok (2048 : Int32)) <| newa σ 100 (2048 : Int32) fun a1 σ2 =>
  ck (tg σ2 x0 = 8) <| bn (sR σ2 x0 2 a1) fun σ3 =>
  ck (lenok (64 : Int32)) <| newa σ3 101 (64 : Int32) fun a4 σ5 =>
  ck (tg σ5 x0 = 8) <| bn (sR σ5 x0 4 a4) fun σ6 =>
  newr σ6 fun a7 σ8 =>
  ck (tg σ8 x0 = 8) <| bn (sR σ8 x0 6 a7) fun σ9 =>
  ck (lenok (1024 : Int32)) <| newa σ9 100 (1024 : Int32) fun a10 σ11 =>
  ck (tg σ11 x0 = 8) <| bn (sR σ11 x0 8 a10) fun σ12 =>
  ck (lenok (1024 : Int32)) <| newa σ12 100 (1024 : Int32) fun a13 σ14 =>
  ck (tg σ14 x0 = 8) <| bn (sR σ14 x0 9 a13) fun σ15 =>
  ck (lenok (1024 : Int32)) <| newa σ15 100 (1024 : Int32) fun a16 σ17 =>
  ck (tg σ17 x0 = 8) <| bn (sR σ17 x0 10 a16) fun σ18 =>
  ck (lenok (1024 : Int32)) <| newa σ18 100 (1024 : Int32) fun a19 σ20 =>
  ck (tg σ20 x0 = 8) <| bn (sR σ20 x0 11 a19) fun σ21 =>
  ck (tg σ21 x0 = 8) <| bn (sR σ21 x0 0 x1) fun σ22 =>
  ck (tg σ22 x0 = 8) <| bn (sR σ22 x0 1 x2) fun σ23 =>
  some ((), σ23)
theorem V.ctX7_init (x0 : Nat) (x1 : Nat) (x2 : Nat) : Ct yX7_init  cX7_init 3 none 2 44 eV [av x0, av x1, av x2] (fun σ => Reg_init σ x0 x1 x2) := by
  refine Ct.of (own := RX7) (nm := "<init>") (desc := "(LModuleEngine$Flat;LModuleEngine$Numbers;)V") rfl (by decide) (Nat.le_of_ble_eq_true rfl) (by decide) (fun X σ => ?_)
  show G X RX7 "<init>" cX7_init 3 none 2 44 enV 0 [(0, av x0), (1, av x1), (2, av x2)] [] σ (Reg_init σ x0 x1 x2)
  unfold Reg_init
  refine g_aload_n 0 0 dX7_init_0 rfl rfl ?_
  refine g_objInit q688 (Nat.le_of_ble_eq_true rfl) (Nat.le_of_ble_eq_true rfl) dX7_init_1 ?_
  refine g_aload_n 0 0 dX7_init_4 rfl rfl ?_
  refine g_sipush (v := 2048) dX7_init_5 (by decide) ?_
  refine g_na_int dX7_init_8 (fun a1 σ2 => ?_)
  refine g_putR fpX7_7 rfl dX7_init_10 (fun σ3 => ?_)
  refine g_aload_n 0 0 dX7_init_13 rfl rfl ?_
  refine g_bipush (v := 64) dX7_init_14 (by decide) ?_
  refine g_na_long dX7_init_16 (fun a4 σ5 => ?_)
  refine g_putR fpX7_13 rfl dX7_init_18 (fun σ6 => ?_)
  refine g_aload_n 0 0 dX7_init_21 rfl rfl ?_
  refine g_newr ndX7_17 q411 mdX7_19 (Nat.le_of_ble_eq_true rfl) (Nat.le_of_ble_eq_true rfl) (Nat.le_of_ble_eq_true rfl) dX7_init_22 dX7_init_25 dX7_init_26 (fun a7 σ8 => ?_)
  refine g_putR fpX7_20 rfl dX7_init_29 (fun σ9 => ?_)
  refine g_aload_n 0 0 dX7_init_32 rfl rfl ?_
  refine g_sipush (v := 1024) dX7_init_33 (by decide) ?_
  refine g_na_int dX7_init_36 (fun a10 σ11 => ?_)
  refine g_putR fpX7_24 rfl dX7_init_38 (fun σ12 => ?_)
  refine g_aload_n 0 0 dX7_init_41 rfl rfl ?_
  refine g_sipush (v := 1024) dX7_init_42 (by decide) ?_
  refine g_na_int dX7_init_45 (fun a13 σ14 => ?_)
  refine g_putR fpX7_27 rfl dX7_init_47 (fun σ15 => ?_)
  refine g_aload_n 0 0 dX7_init_50 rfl rfl ?_
  refine g_sipush (v := 1024) dX7_init_51 (by decide) ?_
  refine g_na_int dX7_init_54 (fun a16 σ17 => ?_)
  refine g_putR fpX7_30 rfl dX7_init_56 (fun σ18 => ?_)
  refine g_aload_n 0 0 dX7_init_59 rfl rfl ?_
  refine g_sipush (v := 1024) dX7_init_60 (by decide) ?_
  refine g_na_int dX7_init_63 (fun a19 σ20 => ?_)
  refine g_putR fpX7_33 rfl dX7_init_65 (fun σ21 => ?_)
  refine g_aload_n 0 0 dX7_init_68 rfl rfl ?_
  refine g_aload_n 1 1 dX7_init_69 rfl rfl ?_
  refine g_putR fpX7_36 rfl dX7_init_70 (fun σ22 => ?_)
  refine g_aload_n 0 0 dX7_init_73 rfl rfl ?_
  refine g_aload_n 2 2 dX7_init_74 rfl rfl ?_
  refine g_putR fpX7_40 rfl dX7_init_75 (fun σ23 => ?_)
  exact g_return rfl dX7_init_78
theorem V.dX7_room_0 : decode cX7_room 0 = .ok (.aload_n 0, 1) := by decide +kernel
theorem V.dX7_room_1 : decode cX7_room 1 = .ok (.getfield 24, 3) := by decide +kernel
theorem V.dX7_room_4 : decode cX7_room 4 = .ok (.arraylength, 1) := by decide +kernel
theorem V.dX7_room_5 : decode cX7_room 5 = .ok (.istore_n 2, 1) := by decide +kernel
theorem V.dX7_room_6 : decode cX7_room 6 = .ok (.iload_n 2, 1) := by decide +kernel
theorem V.dX7_room_7 : decode cX7_room 7 = .ok (.iload_n 1, 1) := by decide +kernel
theorem V.dX7_room_8 : decode cX7_room 8 = .ok (.if_icmp .ge 10, 3) := by decide +kernel
theorem V.dX7_room_11 : decode cX7_room 11 = .ok (.iconst 2, 1) := by decide +kernel
theorem V.dX7_room_12 : decode cX7_room 12 = .ok (.iload_n 2, 1) := by decide +kernel
theorem V.dX7_room_13 : decode cX7_room 13 = .ok (.imul, 1) := by decide +kernel
theorem V.dX7_room_14 : decode cX7_room 14 = .ok (.istore_n 2, 1) := by decide +kernel
theorem V.dX7_room_15 : decode cX7_room 15 = .ok (.goto (-9), 3) := by decide +kernel
theorem V.dX7_room_18 : decode cX7_room 18 = .ok (.iload_n 2, 1) := by decide +kernel
theorem V.dX7_room_19 : decode cX7_room 19 = .ok (.aload_n 0, 1) := by decide +kernel
theorem V.dX7_room_20 : decode cX7_room 20 = .ok (.getfield 24, 3) := by decide +kernel
theorem V.dX7_room_23 : decode cX7_room 23 = .ok (.arraylength, 1) := by decide +kernel
theorem V.dX7_room_24 : decode cX7_room 24 = .ok (.if_icmp .ne 4, 3) := by decide +kernel
theorem V.dX7_room_27 : decode cX7_room 27 = .ok (.return_, 1) := by decide +kernel
theorem V.dX7_room_28 : decode cX7_room 28 = .ok (.aload_n 0, 1) := by decide +kernel
theorem V.dX7_room_29 : decode cX7_room 29 = .ok (.iload_n 2, 1) := by decide +kernel
theorem V.dX7_room_30 : decode cX7_room 30 = .ok (.newarray .int, 2) := by decide +kernel
theorem V.dX7_room_32 : decode cX7_room 32 = .ok (.putfield 24, 3) := by decide +kernel
theorem V.dX7_room_35 : decode cX7_room 35 = .ok (.aload_n 0, 1) := by decide +kernel
theorem V.dX7_room_36 : decode cX7_room 36 = .ok (.iload_n 2, 1) := by decide +kernel
theorem V.dX7_room_37 : decode cX7_room 37 = .ok (.newarray .int, 2) := by decide +kernel
theorem V.dX7_room_39 : decode cX7_room 39 = .ok (.putfield 27, 3) := by decide +kernel
theorem V.dX7_room_42 : decode cX7_room 42 = .ok (.return_, 1) := by decide +kernel
theorem V.fdX7_24 : FD RX7 24 7 8 2 := ⟨(RX7, TX7, 17), tyX7, rfl, rfl, in_X7, by decide, Or.inl q701, rfl⟩
/-! ModuleEngine$Registers.room(I)V -/
def V.Reg_room_p6  : Nat → HS → Nat → Int32 → Int32 → Option (Unit × HS)
  | 0, _, _, _, _ => none
  | n + 1, σ, x0, x1, x2 =>
    if x1 ≤ x2 then (
      ck (tg σ x0 = 8) <|
      ck (tg σ (gR σ x0 8) = 100) <|
      if x2 = (nI (ln σ (gR σ x0 8))) then (
        some ((), σ))
      else (
        ck (lenok x2) <| newa σ 100 x2 fun a1 σ2 =>
        ck (tg σ2 x0 = 8) <| bn (sR σ2 x0 8 a1) fun σ3 =>
        ck (lenok x2) <| newa σ3 100 x2 fun a4 σ5 =>
        ck (tg σ5 x0 = 8) <| bn (sR σ5 x0 9 a4) fun σ6 =>
        some ((), σ6)))
    else (
      bn ((2 : Int32) * x2) fun y7 =>
      Reg_room_p6 n σ x0 x1 y7)
theorem V.gX7_room_p6 {X : CX}  : ∀ (n : Nat) (σ : HS) (x0 : Nat) (x1 : Int32) (x2 : Int32), G X RX7 "room" cX7_room 3 none 0 0 enV 6 [(0, av x0), (1, iv x1), (2, iv x2)] [] σ (Reg_room_p6 n σ x0 x1 x2)
  | 0, σ, x0, x1, x2 => by rw [Reg_room_p6]; exact G.nul
  | n + 1, σ, x0, x1, x2 => by
    rw [Reg_room_p6]
    refine g_iload_n 2 2 dX7_room_6 rfl rfl ?_
    refine g_iload_n 1 1 dX7_room_7 rfl rfl ?_
    refine g_icmp_ge 18 dX7_room_8 (by decide) ?_ ?_
    · refine g_iload_n 2 2 dX7_room_18 rfl rfl ?_
      refine g_aload_n 0 0 dX7_room_19 rfl rfl ?_
      refine g_getR fdX7_24 dX7_room_20 ?_
      refine g_alen 0 rfl dX7_room_23 ?_
      refine g_icmp_ne 28 dX7_room_24 (by decide) ?_ ?_
      · refine g_aload_n 0 0 dX7_room_28 rfl rfl ?_
        refine g_iload_n 2 2 dX7_room_29 rfl rfl ?_
        refine g_na_int dX7_room_30 (fun a1 σ2 => ?_)
        refine g_putR fpX7_24 rfl dX7_room_32 (fun σ3 => ?_)
        refine g_aload_n 0 0 dX7_room_35 rfl rfl ?_
        refine g_iload_n 2 2 dX7_room_36 rfl rfl ?_
        refine g_na_int dX7_room_37 (fun a4 σ5 => ?_)
        refine g_putR fpX7_27 rfl dX7_room_39 (fun σ6 => ?_)
        exact g_return rfl dX7_room_42
      · exact g_return rfl dX7_room_27
    · refine g_iconst (v := 2) dX7_room_11 (by decide) ?_
      refine g_iload_n 2 2 dX7_room_12 rfl rfl ?_
      refine g_imul dX7_room_13 ?_
      refine g_nmI (fun y7 => ?_)
      refine g_istore_n 2 dX7_room_14 rfl (by decide) rfl ?_
      refine g_goto 6 dX7_room_15 (by decide) ?_
      refine G.sub [1, 2, 0] rfl ?_
      exact gX7_room_p6 n _ _ _ _
def V.Reg_room (σ : HS) (x0 : Nat) (x1 : Int32) : Option (Unit × HS) :=
  ck (tg σ x0 = 8) <|
  ck (tg σ (gR σ x0 8) = 100) <|
  bn (nI (ln σ (gR σ x0 8))) fun y1 =>
  Reg_room_p6 FU σ x0 x1 y1
theorem V.ctX7_room (x0 : Nat) (x1 : Int32) : Ct yX7_room  cX7_room 3 none 0 0 eV [av x0, iv x1] (fun σ => Reg_room σ x0 x1) := by
  refine Ct.of (own := RX7) (nm := "room") (desc := "(I)V") rfl (by decide) (Nat.le_of_ble_eq_true rfl) (by decide) (fun X σ => ?_)
  show G X RX7 "room" cX7_room 3 none 0 0 enV 0 [(0, av x0), (1, iv x1)] [] σ (Reg_room σ x0 x1)
  unfold Reg_room
  refine g_aload_n 0 0 dX7_room_0 rfl rfl ?_
  refine g_getR fdX7_24 dX7_room_1 ?_
  refine g_alen 0 rfl dX7_room_4 ?_
  refine g_nmI (fun y1 => ?_)
  refine g_istore_n 2 dX7_room_5 rfl (by decide) rfl ?_
  refine G.sub [1, 2, 0] rfl ?_
  exact gX7_room_p6 FU _ _ _ _
theorem V.dX7_isBranch_0 : decode cX7_isBranch 0 = .ok (.iload_n 0, 1) := by decide +kernel
theorem V.dX7_isBranch_1 : decode cX7_isBranch 1 = .ok (.bipush 12, 2) := by decide +kernel
theorem V.dX7_isBranch_3 : decode cX7_isBranch 3 = .ok (.if_icmp .eq 15, 3) := by decide +kernel
theorem V.dX7_isBranch_6 : decode cX7_isBranch 6 = .ok (.iload_n 0, 1) := by decide +kernel
theorem V.dX7_isBranch_7 : decode cX7_isBranch 7 = .ok (.bipush 13, 2) := by decide +kernel
theorem V.dX7_isBranch_9 : decode cX7_isBranch 9 = .ok (.if_icmp .eq 9, 3) := by decide +kernel
theorem V.dX7_isBranch_12 : decode cX7_isBranch 12 = .ok (.iload_n 0, 1) := by decide +kernel
theorem V.dX7_isBranch_13 : decode cX7_isBranch 13 = .ok (.bipush 6, 2) := by decide +kernel
theorem V.dX7_isBranch_15 : decode cX7_isBranch 15 = .ok (.if_icmp .ne 7, 3) := by decide +kernel
theorem V.dX7_isBranch_18 : decode cX7_isBranch 18 = .ok (.iconst 1, 1) := by decide +kernel
theorem V.dX7_isBranch_19 : decode cX7_isBranch 19 = .ok (.goto 4, 3) := by decide +kernel
theorem V.dX7_isBranch_22 : decode cX7_isBranch 22 = .ok (.iconst 0, 1) := by decide +kernel
theorem V.dX7_isBranch_23 : decode cX7_isBranch 23 = .ok (.ireturn, 1) := by decide +kernel
/-! ModuleEngine$Registers.isBranch(I)Z -/
def V.Reg_isBranch_p18  (σ : HS)  : Option (Int32 × HS) :=
  some ((1 : Int32), σ)
theorem V.gX7_isBranch_p18 {X : CX}  (σ : HS)  : G X RX7 "isBranch" cX7_isBranch 1 (some .boolean) 0 0 enI 18 [] [] σ (Reg_isBranch_p18 σ ) := by
  unfold Reg_isBranch_p18
  refine g_iconst (v := 1) dX7_isBranch_18 (by decide) ?_
  refine g_goto 23 dX7_isBranch_19 (by decide) ?_
  exact g_zreturn rfl (by decide +kernel) dX7_isBranch_23
def V.Reg_isBranch (σ : HS) (x0 : Int32) : Option (Int32 × HS) :=
  if x0 = (12 : Int32) then (
    Reg_isBranch_p18 σ)
  else (
    if x0 = (13 : Int32) then (
      Reg_isBranch_p18 σ)
    else (
      if x0 = (6 : Int32) then (
        Reg_isBranch_p18 σ)
      else (
        some ((0 : Int32), σ))))
theorem V.ctX7_isBranch (x0 : Int32) : Ct yX7_isBranch  cX7_isBranch 1 (some .boolean) 0 0 eI [iv x0] (fun σ => Reg_isBranch σ x0) := by
  refine Ct.of (own := RX7) (nm := "isBranch") (desc := "(I)Z") rfl (by decide) (Nat.le_of_ble_eq_true rfl) (by decide) (fun X σ => ?_)
  show G X RX7 "isBranch" cX7_isBranch 1 (some .boolean) 0 0 enI 0 [(0, iv x0)] [] σ (Reg_isBranch σ x0)
  unfold Reg_isBranch
  refine g_iload_n 0 0 dX7_isBranch_0 rfl rfl ?_
  refine g_bipush (v := 12) dX7_isBranch_1 (by decide) ?_
  refine g_icmp_eq 18 dX7_isBranch_3 (by decide) ?_ ?_
  · refine G.sub [] rfl ?_
    exact gX7_isBranch_p18 _
  · refine g_iload_n 0 0 dX7_isBranch_6 rfl rfl ?_
    refine g_bipush (v := 13) dX7_isBranch_7 (by decide) ?_
    refine g_icmp_eq 18 dX7_isBranch_9 (by decide) ?_ ?_
    · refine G.sub [] rfl ?_
      exact gX7_isBranch_p18 _
    · refine g_iload_n 0 0 dX7_isBranch_12 rfl rfl ?_
      refine g_bipush (v := 6) dX7_isBranch_13 (by decide) ?_
      refine g_icmp_ne 22 dX7_isBranch_15 (by decide) ?_ ?_
      · refine g_iconst (v := 0) dX7_isBranch_22 (by decide) ?_
        exact g_zreturn rfl (by decide +kernel) dX7_isBranch_23
      · refine G.sub [] rfl ?_
        exact gX7_isBranch_p18 _
theorem V.dX7_slot_0 : decode cX7_slot 0 = .ok (.aload_n 0, 1) := by decide +kernel
theorem V.dX7_slot_1 : decode cX7_slot 1 = .ok (.getfield 66, 3) := by decide +kernel
theorem V.dX7_slot_4 : decode cX7_slot 4 = .ok (.iload_n 1, 1) := by decide +kernel
theorem V.dX7_slot_5 : decode cX7_slot 5 = .ok (.iadd, 1) := by decide +kernel
theorem V.dX7_slot_6 : decode cX7_slot 6 = .ok (.ireturn, 1) := by decide +kernel
theorem V.fdX7_66 : FD RX7 66 7 13 0 := ⟨(RX7, TX7, 17), tyX7, rfl, rfl, in_X7, by decide, Or.inl q706, rfl⟩
/-! ModuleEngine$Registers.slot(I)I -/
def V.Reg_slot (σ : HS) (x0 : Nat) (x1 : Int32) : Option (Int32 × HS) :=
  ck (tg σ x0 = 8) <|
  some ((gI σ x0 13) + x1, σ)
theorem V.ctX7_slot (x0 : Nat) (x1 : Int32) : Ct yX7_slot  cX7_slot 2 (some .int) 0 0 eI [av x0, iv x1] (fun σ => Reg_slot σ x0 x1) := by
  refine Ct.of (own := RX7) (nm := "slot") (desc := "(I)I") rfl (by decide) (Nat.le_of_ble_eq_true rfl) (by decide) (fun X σ => ?_)
  show G X RX7 "slot" cX7_slot 2 (some .int) 0 0 enI 0 [(0, av x0), (1, iv x1)] [] σ (Reg_slot σ x0 x1)
  unfold Reg_slot
  refine g_aload_n 0 0 dX7_slot_0 rfl rfl ?_
  refine g_getI fdX7_66 dX7_slot_1 ?_
  refine g_iload_n 1 1 dX7_slot_4 rfl rfl ?_
  refine g_iadd dX7_slot_5 ?_
  exact g_ireturn rfl dX7_slot_6
theorem V.dX7_emit_0 : decode cX7_emit 0 = .ok (.aload_n 0, 1) := by decide +kernel
theorem V.dX7_emit_1 : decode cX7_emit 1 = .ok (.getfield 52, 3) := by decide +kernel
theorem V.dX7_emit_4 : decode cX7_emit 4 = .ok (.sipush 20000, 3) := by decide +kernel
theorem V.dX7_emit_7 : decode cX7_emit 7 = .ok (.if_icmp .ne 15, 3) := by decide +kernel
theorem V.dX7_emit_10 : decode cX7_emit 10 = .ok (.aload_n 0, 1) := by decide +kernel
theorem V.dX7_emit_11 : decode cX7_emit 11 = .ok (.iconst 1, 1) := by decide +kernel
theorem V.dX7_emit_12 : decode cX7_emit 12 = .ok (.putfield 56, 3) := by decide +kernel
theorem V.dX7_emit_15 : decode cX7_emit 15 = .ok (.aload_n 0, 1) := by decide +kernel
theorem V.dX7_emit_16 : decode cX7_emit 16 = .ok (.getfield 52, 3) := by decide +kernel
theorem V.dX7_emit_19 : decode cX7_emit 19 = .ok (.iconst 1, 1) := by decide +kernel
theorem V.dX7_emit_20 : decode cX7_emit 20 = .ok (.isub, 1) := by decide +kernel
theorem V.dX7_emit_21 : decode cX7_emit 21 = .ok (.ireturn, 1) := by decide +kernel
theorem V.dX7_emit_22 : decode cX7_emit 22 = .ok (.bipush 6, 2) := by decide +kernel
theorem V.dX7_emit_24 : decode cX7_emit 24 = .ok (.aload_n 0, 1) := by decide +kernel
theorem V.dX7_emit_25 : decode cX7_emit 25 = .ok (.getfield 52, 3) := by decide +kernel
theorem V.dX7_emit_28 : decode cX7_emit 28 = .ok (.iconst 1, 1) := by decide +kernel
theorem V.dX7_emit_29 : decode cX7_emit 29 = .ok (.iadd, 1) := by decide +kernel
theorem V.dX7_emit_30 : decode cX7_emit 30 = .ok (.imul, 1) := by decide +kernel
theorem V.dX7_emit_31 : decode cX7_emit 31 = .ok (.aload_n 0, 1) := by decide +kernel
theorem V.dX7_emit_32 : decode cX7_emit 32 = .ok (.getfield 7, 3) := by decide +kernel
theorem V.dX7_emit_35 : decode cX7_emit 35 = .ok (.arraylength, 1) := by decide +kernel
theorem V.dX7_emit_36 : decode cX7_emit 36 = .ok (.if_icmp .le 51, 3) := by decide +kernel
theorem V.dX7_emit_39 : decode cX7_emit 39 = .ok (.iconst 2, 1) := by decide +kernel
theorem V.dX7_emit_40 : decode cX7_emit 40 = .ok (.aload_n 0, 1) := by decide +kernel
theorem V.dX7_emit_41 : decode cX7_emit 41 = .ok (.getfield 7, 3) := by decide +kernel
theorem V.dX7_emit_44 : decode cX7_emit 44 = .ok (.arraylength, 1) := by decide +kernel
theorem V.dX7_emit_45 : decode cX7_emit 45 = .ok (.imul, 1) := by decide +kernel
theorem V.dX7_emit_46 : decode cX7_emit 46 = .ok (.newarray .int, 2) := by decide +kernel
theorem V.dX7_emit_48 : decode cX7_emit 48 = .ok (.astore 7, 2) := by decide +kernel
theorem V.dX7_emit_50 : decode cX7_emit 50 = .ok (.iconst 0, 1) := by decide +kernel
theorem V.dX7_emit_51 : decode cX7_emit 51 = .ok (.istore 8, 2) := by decide +kernel
theorem V.dX7_emit_53 : decode cX7_emit 53 = .ok (.iload 8, 2) := by decide +kernel
theorem V.dX7_emit_55 : decode cX7_emit 55 = .ok (.aload_n 0, 1) := by decide +kernel
theorem V.dX7_emit_56 : decode cX7_emit 56 = .ok (.getfield 7, 3) := by decide +kernel
theorem V.dX7_emit_59 : decode cX7_emit 59 = .ok (.arraylength, 1) := by decide +kernel
theorem V.dX7_emit_60 : decode cX7_emit 60 = .ok (.if_icmp .ge 21, 3) := by decide +kernel
theorem V.dX7_emit_63 : decode cX7_emit 63 = .ok (.aload 7, 2) := by decide +kernel
theorem V.dX7_emit_65 : decode cX7_emit 65 = .ok (.iload 8, 2) := by decide +kernel
theorem V.dX7_emit_67 : decode cX7_emit 67 = .ok (.aload_n 0, 1) := by decide +kernel
theorem V.dX7_emit_68 : decode cX7_emit 68 = .ok (.getfield 7, 3) := by decide +kernel
theorem V.dX7_emit_71 : decode cX7_emit 71 = .ok (.iload 8, 2) := by decide +kernel
theorem V.dX7_emit_73 : decode cX7_emit 73 = .ok (.iaload, 1) := by decide +kernel
theorem V.dX7_emit_74 : decode cX7_emit 74 = .ok (.iastore, 1) := by decide +kernel
theorem V.dX7_emit_75 : decode cX7_emit 75 = .ok (.iinc 8 1, 3) := by decide +kernel
theorem V.dX7_emit_78 : decode cX7_emit 78 = .ok (.goto (-25), 3) := by decide +kernel
theorem V.dX7_emit_81 : decode cX7_emit 81 = .ok (.aload_n 0, 1) := by decide +kernel
theorem V.dX7_emit_82 : decode cX7_emit 82 = .ok (.aload 7, 2) := by decide +kernel
theorem V.dX7_emit_84 : decode cX7_emit 84 = .ok (.putfield 7, 3) := by decide +kernel
theorem V.dX7_emit_87 : decode cX7_emit 87 = .ok (.bipush 6, 2) := by decide +kernel
theorem V.dX7_emit_89 : decode cX7_emit 89 = .ok (.aload_n 0, 1) := by decide +kernel
theorem V.dX7_emit_90 : decode cX7_emit 90 = .ok (.getfield 52, 3) := by decide +kernel
theorem V.dX7_emit_93 : decode cX7_emit 93 = .ok (.imul, 1) := by decide +kernel
theorem V.dX7_emit_94 : decode cX7_emit 94 = .ok (.istore 7, 2) := by decide +kernel
theorem V.dX7_emit_96 : decode cX7_emit 96 = .ok (.aload_n 0, 1) := by decide +kernel
theorem V.dX7_emit_97 : decode cX7_emit 97 = .ok (.getfield 7, 3) := by decide +kernel
theorem V.dX7_emit_100 : decode cX7_emit 100 = .ok (.iload 7, 2) := by decide +kernel
theorem V.dX7_emit_102 : decode cX7_emit 102 = .ok (.iload_n 1, 1) := by decide +kernel
theorem V.dX7_emit_103 : decode cX7_emit 103 = .ok (.iastore, 1) := by decide +kernel
theorem V.dX7_emit_104 : decode cX7_emit 104 = .ok (.aload_n 0, 1) := by decide +kernel
theorem V.dX7_emit_105 : decode cX7_emit 105 = .ok (.getfield 7, 3) := by decide +kernel
theorem V.dX7_emit_108 : decode cX7_emit 108 = .ok (.iload 7, 2) := by decide +kernel
theorem V.dX7_emit_110 : decode cX7_emit 110 = .ok (.iconst 1, 1) := by decide +kernel
theorem V.dX7_emit_111 : decode cX7_emit 111 = .ok (.iadd, 1) := by decide +kernel
theorem V.dX7_emit_112 : decode cX7_emit 112 = .ok (.iload_n 2, 1) := by decide +kernel
theorem V.dX7_emit_113 : decode cX7_emit 113 = .ok (.iastore, 1) := by decide +kernel
theorem V.dX7_emit_114 : decode cX7_emit 114 = .ok (.aload_n 0, 1) := by decide +kernel
theorem V.dX7_emit_115 : decode cX7_emit 115 = .ok (.getfield 7, 3) := by decide +kernel
theorem V.dX7_emit_118 : decode cX7_emit 118 = .ok (.iload 7, 2) := by decide +kernel
theorem V.dX7_emit_120 : decode cX7_emit 120 = .ok (.iconst 2, 1) := by decide +kernel
theorem V.dX7_emit_121 : decode cX7_emit 121 = .ok (.iadd, 1) := by decide +kernel
theorem V.dX7_emit_122 : decode cX7_emit 122 = .ok (.iload_n 3, 1) := by decide +kernel
theorem V.dX7_emit_123 : decode cX7_emit 123 = .ok (.iastore, 1) := by decide +kernel
theorem V.dX7_emit_124 : decode cX7_emit 124 = .ok (.aload_n 0, 1) := by decide +kernel
theorem V.dX7_emit_125 : decode cX7_emit 125 = .ok (.getfield 7, 3) := by decide +kernel
theorem V.dX7_emit_128 : decode cX7_emit 128 = .ok (.iload 7, 2) := by decide +kernel
theorem V.dX7_emit_130 : decode cX7_emit 130 = .ok (.iconst 3, 1) := by decide +kernel
theorem V.dX7_emit_131 : decode cX7_emit 131 = .ok (.iadd, 1) := by decide +kernel
theorem V.dX7_emit_132 : decode cX7_emit 132 = .ok (.iload 4, 2) := by decide +kernel
theorem V.dX7_emit_134 : decode cX7_emit 134 = .ok (.iastore, 1) := by decide +kernel
theorem V.dX7_emit_135 : decode cX7_emit 135 = .ok (.aload_n 0, 1) := by decide +kernel
theorem V.dX7_emit_136 : decode cX7_emit 136 = .ok (.getfield 7, 3) := by decide +kernel
theorem V.dX7_emit_139 : decode cX7_emit 139 = .ok (.iload 7, 2) := by decide +kernel
theorem V.dX7_emit_141 : decode cX7_emit 141 = .ok (.iconst 4, 1) := by decide +kernel
theorem V.dX7_emit_142 : decode cX7_emit 142 = .ok (.iadd, 1) := by decide +kernel
theorem V.dX7_emit_143 : decode cX7_emit 143 = .ok (.iload 5, 2) := by decide +kernel
theorem V.dX7_emit_145 : decode cX7_emit 145 = .ok (.iastore, 1) := by decide +kernel
theorem V.dX7_emit_146 : decode cX7_emit 146 = .ok (.aload_n 0, 1) := by decide +kernel
theorem V.dX7_emit_147 : decode cX7_emit 147 = .ok (.getfield 7, 3) := by decide +kernel
theorem V.dX7_emit_150 : decode cX7_emit 150 = .ok (.iload 7, 2) := by decide +kernel
theorem V.dX7_emit_152 : decode cX7_emit 152 = .ok (.iconst 5, 1) := by decide +kernel
theorem V.dX7_emit_153 : decode cX7_emit 153 = .ok (.iadd, 1) := by decide +kernel
theorem V.dX7_emit_154 : decode cX7_emit 154 = .ok (.iload 6, 2) := by decide +kernel
theorem V.dX7_emit_156 : decode cX7_emit 156 = .ok (.iastore, 1) := by decide +kernel
theorem V.dX7_emit_157 : decode cX7_emit 157 = .ok (.aload_n 0, 1) := by decide +kernel
theorem V.dX7_emit_158 : decode cX7_emit 158 = .ok (.dup, 1) := by decide +kernel
theorem V.dX7_emit_159 : decode cX7_emit 159 = .ok (.getfield 52, 3) := by decide +kernel
theorem V.dX7_emit_162 : decode cX7_emit 162 = .ok (.iconst 1, 1) := by decide +kernel
theorem V.dX7_emit_163 : decode cX7_emit 163 = .ok (.iadd, 1) := by decide +kernel
theorem V.dX7_emit_164 : decode cX7_emit 164 = .ok (.putfield 52, 3) := by decide +kernel
theorem V.dX7_emit_167 : decode cX7_emit 167 = .ok (.aload_n 0, 1) := by decide +kernel
theorem V.dX7_emit_168 : decode cX7_emit 168 = .ok (.getfield 52, 3) := by decide +kernel
theorem V.dX7_emit_171 : decode cX7_emit 171 = .ok (.iconst 1, 1) := by decide +kernel
theorem V.dX7_emit_172 : decode cX7_emit 172 = .ok (.isub, 1) := by decide +kernel
theorem V.dX7_emit_173 : decode cX7_emit 173 = .ok (.ireturn, 1) := by decide +kernel
theorem V.fdX7_52 : FD RX7 52 7 3 0 := ⟨(RX7, TX7, 17), tyX7, rfl, rfl, in_X7, by decide, Or.inl q695, rfl⟩
theorem V.fdX7_7 : FD RX7 7 7 2 2 := ⟨(RX7, TX7, 17), tyX7, rfl, rfl, in_X7, by decide, Or.inl q693, rfl⟩
theorem V.fpX7_56 {nm : String} : FP RX7 nm 56 7 7 (.boolean) := ⟨(RX7, TX7, 17), tyX7, rfl, rfl, in_X7, by decide, tyX7_ok, nmX7, rfl, Or.inl ⟨rfl, Or.inl q700⟩⟩
theorem V.fpX7_52 {nm : String} : FP RX7 nm 52 7 3 (.int) := ⟨(RX7, TX7, 17), tyX7, rfl, rfl, in_X7, by decide, tyX7_ok, nmX7, rfl, Or.inl ⟨rfl, Or.inl q695⟩⟩
/-! ModuleEngine$Registers.emit(IIIIII)I -/
def V.Reg_emit_p87  (σ : HS) (x0 : Nat) (x1 : Int32) (x2 : Int32) (x3 : Int32) (x4 : Int32) (x5 : Int32) (x6 : Int32) : Option (Int32 × HS) :=
  ck (tg σ x0 = 8) <|
  bn ((6 : Int32) * (gI σ x0 3)) fun y1 =>
  ck (tg σ x0 = 8) <|
  ck (tg σ (gR σ x0 2) = 100 ∧ inb y1 (ln σ (gR σ x0 2))) <| bn (sI σ (gR σ x0 2) (ix y1) x1) fun σ2 =>
  ck (tg σ2 x0 = 8) <|
  ck (tg σ2 (gR σ2 x0 2) = 100 ∧ inb (y1 + (1 : Int32)) (ln σ2 (gR σ2 x0 2))) <| bn (sI σ2 (gR σ2 x0 2) (ix (y1 + (1 : Int32))) x2) fun σ3 =>
  ck (tg σ3 x0 = 8) <|
  ck (tg σ3 (gR σ3 x0 2) = 100 ∧ inb (y1 + (2 : Int32)) (ln σ3 (gR σ3 x0 2))) <| bn (sI σ3 (gR σ3 x0 2) (ix (y1 + (2 : Int32))) x3) fun σ4 =>
  ck (tg σ4 x0 = 8) <|
  ck (tg σ4 (gR σ4 x0 2) = 100 ∧ inb (y1 + (3 : Int32)) (ln σ4 (gR σ4 x0 2))) <| bn (sI σ4 (gR σ4 x0 2) (ix (y1 + (3 : Int32))) x4) fun σ5 =>
  ck (tg σ5 x0 = 8) <|
  ck (tg σ5 (gR σ5 x0 2) = 100 ∧ inb (y1 + (4 : Int32)) (ln σ5 (gR σ5 x0 2))) <| bn (sI σ5 (gR σ5 x0 2) (ix (y1 + (4 : Int32))) x5) fun σ6 =>
  ck (tg σ6 x0 = 8) <|
  ck (tg σ6 (gR σ6 x0 2) = 100 ∧ inb (y1 + (5 : Int32)) (ln σ6 (gR σ6 x0 2))) <| bn (sI σ6 (gR σ6 x0 2) (ix (y1 + (5 : Int32))) x6) fun σ7 =>
  ck (tg σ7 x0 = 8) <|
  ck (tg σ7 x0 = 8) <| bn (sI σ7 x0 3 ((gI σ7 x0 3) + (1 : Int32))) fun σ8 =>
  ck (tg σ8 x0 = 8) <|
  some ((gI σ8 x0 3) - (1 : Int32), σ8)
theorem V.gX7_emit_p87 {X : CX}  (σ : HS) (x0 : Nat) (x1 : Int32) (x2 : Int32) (x3 : Int32) (x4 : Int32) (x5 : Int32) (x6 : Int32) : G X RX7 "emit" cX7_emit 9 (some .int) 0 0 enI 87 [(0, av x0), (1, iv x1), (2, iv x2), (3, iv x3), (4, iv x4), (5, iv x5), (6, iv x6)] [] σ (Reg_emit_p87 σ x0 x1 x2 x3 x4 x5 x6) := by
  unfold Reg_emit_p87
  refine g_bipush (v := 6) dX7_emit_87 (by decide) ?_
  refine g_aload_n 0 0 dX7_emit_89 rfl rfl ?_
  refine g_getI fdX7_52 dX7_emit_90 ?_
  refine g_imul dX7_emit_93 ?_
  refine g_nmI (fun y1 => ?_)
  refine g_istore dX7_emit_94 (by decide) rfl ?_
  refine g_aload_n 0 1 dX7_emit_96 rfl rfl ?_
  refine g_getR fdX7_7 dX7_emit_97 ?_
  refine g_iload 0 dX7_emit_100 rfl ?_
  refine g_iload_n 1 2 dX7_emit_102 rfl rfl ?_
  refine g_iastore dX7_emit_103 (fun σ2 => ?_)
  refine g_aload_n 0 1 dX7_emit_104 rfl rfl ?_
  refine g_getR fdX7_7 dX7_emit_105 ?_
  refine g_iload 0 dX7_emit_108 rfl ?_
  refine g_iconst (v := 1) dX7_emit_110 (by decide) ?_
  refine g_iadd dX7_emit_111 ?_
  refine g_iload_n 2 3 dX7_emit_112 rfl rfl ?_
  refine g_iastore dX7_emit_113 (fun σ3 => ?_)
  refine g_aload_n 0 1 dX7_emit_114 rfl rfl ?_
  refine g_getR fdX7_7 dX7_emit_115 ?_
  refine g_iload 0 dX7_emit_118 rfl ?_
  refine g_iconst (v := 2) dX7_emit_120 (by decide) ?_
  refine g_iadd dX7_emit_121 ?_
  refine g_iload_n 3 4 dX7_emit_122 rfl rfl ?_
  refine g_iastore dX7_emit_123 (fun σ4 => ?_)
  refine g_aload_n 0 1 dX7_emit_124 rfl rfl ?_
  refine g_getR fdX7_7 dX7_emit_125 ?_
  refine g_iload 0 dX7_emit_128 rfl ?_
  refine g_iconst (v := 3) dX7_emit_130 (by decide) ?_
  refine g_iadd dX7_emit_131 ?_
  refine g_iload 5 dX7_emit_132 rfl ?_
  refine g_iastore dX7_emit_134 (fun σ5 => ?_)
  refine g_aload_n 0 1 dX7_emit_135 rfl rfl ?_
  refine g_getR fdX7_7 dX7_emit_136 ?_
  refine g_iload 0 dX7_emit_139 rfl ?_
  refine g_iconst (v := 4) dX7_emit_141 (by decide) ?_
  refine g_iadd dX7_emit_142 ?_
  refine g_iload 6 dX7_emit_143 rfl ?_
  refine g_iastore dX7_emit_145 (fun σ6 => ?_)
  refine g_aload_n 0 1 dX7_emit_146 rfl rfl ?_
  refine g_getR fdX7_7 dX7_emit_147 ?_
  refine g_iload 0 dX7_emit_150 rfl ?_
  refine g_iconst (v := 5) dX7_emit_152 (by decide) ?_
  refine g_iadd dX7_emit_153 ?_
  refine g_iload 7 dX7_emit_154 rfl ?_
  refine g_iastore dX7_emit_156 (fun σ7 => ?_)
  refine g_aload_n 0 1 dX7_emit_157 rfl rfl ?_
  refine g_dup dX7_emit_158 rfl ?_
  refine g_getI fdX7_52 dX7_emit_159 ?_
  refine g_iconst (v := 1) dX7_emit_162 (by decide) ?_
  refine g_iadd dX7_emit_163 ?_
  refine g_putI fpX7_52 dX7_emit_164 (fun σ8 => ?_)
  refine g_aload_n 0 1 dX7_emit_167 rfl rfl ?_
  refine g_getI fdX7_52 dX7_emit_168 ?_
  refine g_iconst (v := 1) dX7_emit_171 (by decide) ?_
  refine g_isub dX7_emit_172 ?_
  exact g_ireturn rfl dX7_emit_173
def V.Reg_emit_p53  : Nat → HS → Nat → Int32 → Int32 → Int32 → Int32 → Int32 → Int32 → Nat → Int32 → Option (Int32 × HS)
  | 0, _, _, _, _, _, _, _, _, _, _ => none
  | n + 1, σ, x0, x1, x2, x3, x4, x5, x6, x7, x8 =>
    ck (tg σ x0 = 8) <|
    ck (tg σ (gR σ x0 2) = 100) <|
    if (nI (ln σ (gR σ x0 2))) ≤ x8 then (
      ck (tg σ x0 = 8) <| bn (sR σ x0 2 x7) fun σ1 =>
      Reg_emit_p87 σ1 x0 x1 x2 x3 x4 x5 x6)
    else (
      ck (tg σ x0 = 8) <|
      ck (tg σ (gR σ x0 2) = 100 ∧ inb x8 (ln σ (gR σ x0 2))) <|
      ck (tg σ x7 = 100 ∧ inb x8 (ln σ x7)) <| bn (sI σ x7 (ix x8) (gI σ (gR σ x0 2) (ix x8))) fun σ2 =>
      bn (x8 + (1 : Int32)) fun y3 =>
      Reg_emit_p53 n σ2 x0 x1 x2 x3 x4 x5 x6 x7 y3)
theorem V.gX7_emit_p53 {X : CX}  : ∀ (n : Nat) (σ : HS) (x0 : Nat) (x1 : Int32) (x2 : Int32) (x3 : Int32) (x4 : Int32) (x5 : Int32) (x6 : Int32) (x7 : Nat) (x8 : Int32), G X RX7 "emit" cX7_emit 9 (some .int) 0 0 enI 53 [(0, av x0), (1, iv x1), (2, iv x2), (3, iv x3), (4, iv x4), (5, iv x5), (6, iv x6), (7, av x7), (8, iv x8)] [] σ (Reg_emit_p53 n σ x0 x1 x2 x3 x4 x5 x6 x7 x8)
  | 0, σ, x0, x1, x2, x3, x4, x5, x6, x7, x8 => by rw [Reg_emit_p53]; exact G.nul
  | n + 1, σ, x0, x1, x2, x3, x4, x5, x6, x7, x8 => by
    rw [Reg_emit_p53]
    refine g_iload 8 dX7_emit_53 rfl ?_
    refine g_aload_n 0 0 dX7_emit_55 rfl rfl ?_
    refine g_getR fdX7_7 dX7_emit_56 ?_
    refine g_alen 0 rfl dX7_emit_59 ?_
    refine g_icmp_ge 81 dX7_emit_60 (by decide) ?_ ?_
    · refine g_aload_n 0 0 dX7_emit_81 rfl rfl ?_
      refine g_aload 7 dX7_emit_82 rfl ?_
      refine g_putR fpX7_7 rfl dX7_emit_84 (fun σ1 => ?_)
      refine G.sub [0, 1, 2, 3, 4, 5, 6] rfl ?_
      exact gX7_emit_p87 _ _ _ _ _ _ _ _
    · refine g_aload 7 dX7_emit_63 rfl ?_
      refine g_iload 8 dX7_emit_65 rfl ?_
      refine g_aload_n 0 0 dX7_emit_67 rfl rfl ?_
      refine g_getR fdX7_7 dX7_emit_68 ?_
      refine g_iload 8 dX7_emit_71 rfl ?_
      refine g_iaload dX7_emit_73 ?_
      refine g_iastore dX7_emit_74 (fun σ2 => ?_)
      refine g_iincB (w := 1) 8 dX7_emit_75 rfl (by decide) (by decide) (fun _ => rfl) (fun y3 => ?_)
      refine g_goto 53 dX7_emit_78 (by decide) ?_
      refine G.sub [1, 2, 3, 4, 5, 6, 7, 8, 0] rfl ?_
      exact gX7_emit_p53 n _ _ _ _ _ _ _ _ _ _
def V.Reg_emit (σ : HS) (x0 : Nat) (x1 : Int32) (x2 : Int32) (x3 : Int32) (x4 : Int32) (x5 : Int32) (x6 : Int32) : Option (Int32 × HS) :=
  ck (tg σ x0 = 8) <|
  if (gI σ x0 3) = (20000 : Int32) then (
    ck (tg σ x0 = 8) <| bn (sI σ x0 7 (1 : Int32)) fun σ3 =>
    ck (tg σ3 x0 = 8) <|
    some ((gI σ3 x0 3) - (1 : Int32), σ3))
  else (
    ck (tg σ x0 = 8) <|
    ck (tg σ x0 = 8) <|
    ck (tg σ (gR σ x0 2) = 100) <|
    if ((6 : Int32) * ((gI σ x0 3) + (1 : Int32))) ≤ (nI (ln σ (gR σ x0 2))) then (
      Reg_emit_p87 σ x0 x1 x2 x3 x4 x5 x6)
    else (
      ck (tg σ x0 = 8) <|
      ck (tg σ (gR σ x0 2) = 100) <|
      ck (lenok ((2 : Int32) * (nI (ln σ (gR σ x0 2))))) <| newa σ 100 ((2 : Int32) * (nI (ln σ (gR σ x0 2)))) fun a1 σ2 =>
      Reg_emit_p53 FU σ2 x0 x1 x2 x3 x4 x5 x6 a1 (0 : Int32)))
theorem V.ctX7_emit (x0 : Nat) (x1 : Int32) (x2 : Int32) (x3 : Int32) (x4 : Int32) (x5 : Int32) (x6 : Int32) : Ct yX7_emit  cX7_emit 9 (some .int) 0 0 eI [av x0, iv x1, iv x2, iv x3, iv x4, iv x5, iv x6] (fun σ => Reg_emit σ x0 x1 x2 x3 x4 x5 x6) := by
  refine Ct.of (own := RX7) (nm := "emit") (desc := "(IIIIII)I") rfl (by decide) (Nat.le_of_ble_eq_true rfl) (by decide) (fun X σ => ?_)
  show G X RX7 "emit" cX7_emit 9 (some .int) 0 0 enI 0 [(0, av x0), (1, iv x1), (2, iv x2), (3, iv x3), (4, iv x4), (5, iv x5), (6, iv x6)] [] σ (Reg_emit σ x0 x1 x2 x3 x4 x5 x6)
  unfold Reg_emit
  refine g_aload_n 0 0 dX7_emit_0 rfl rfl ?_
  refine g_getI fdX7_52 dX7_emit_1 ?_
  refine g_sipush (v := 20000) dX7_emit_4 (by decide) ?_
  refine g_icmp_ne 22 dX7_emit_7 (by decide) ?_ ?_
  · refine g_bipush (v := 6) dX7_emit_22 (by decide) ?_
    refine g_aload_n 0 0 dX7_emit_24 rfl rfl ?_
    refine g_getI fdX7_52 dX7_emit_25 ?_
    refine g_iconst (v := 1) dX7_emit_28 (by decide) ?_
    refine g_iadd dX7_emit_29 ?_
    refine g_imul dX7_emit_30 ?_
    refine g_aload_n 0 0 dX7_emit_31 rfl rfl ?_
    refine g_getR fdX7_7 dX7_emit_32 ?_
    refine g_alen 0 rfl dX7_emit_35 ?_
    refine g_icmp_le 87 dX7_emit_36 (by decide) ?_ ?_
    · exact gX7_emit_p87 _ _ _ _ _ _ _ _
    · refine g_iconst (v := 2) dX7_emit_39 (by decide) ?_
      refine g_aload_n 0 0 dX7_emit_40 rfl rfl ?_
      refine g_getR fdX7_7 dX7_emit_41 ?_
      refine g_alen 0 rfl dX7_emit_44 ?_
      refine g_imul dX7_emit_45 ?_
      refine g_na_int dX7_emit_46 (fun a1 σ2 => ?_)
      refine g_astore dX7_emit_48 (by decide) rfl ?_
      refine g_iconst (v := 0) dX7_emit_50 (by decide) ?_
      refine g_istore dX7_emit_51 (by decide) rfl ?_
      refine G.sub [2, 3, 4, 5, 6, 7, 8, 1, 0] rfl ?_
      exact gX7_emit_p53 FU _ _ _ _ _ _ _ _ _ _
  · refine g_aload_n 0 0 dX7_emit_10 rfl rfl ?_
    refine g_iconst (v := 1) dX7_emit_11 (by decide) ?_
    refine g_putZ fpX7_56 ⟨by decide +kernel, by decide +kernel⟩ dX7_emit_12 (fun σ3 => ?_)
    refine g_aload_n 0 0 dX7_emit_15 rfl rfl ?_
    refine g_getI fdX7_52 dX7_emit_16 ?_
    refine g_iconst (v := 1) dX7_emit_19 (by decide) ?_
    refine g_isub dX7_emit_20 ?_
    exact g_ireturn rfl dX7_emit_21
theorem V.dX7_settle_0 : decode cX7_settle 0 = .ok (.iload_n 1, 1) := by decide +kernel
theorem V.dX7_settle_1 : decode cX7_settle 1 = .ok (.istore_n 2, 1) := by decide +kernel
theorem V.dX7_settle_2 : decode cX7_settle 2 = .ok (.iload_n 2, 1) := by decide +kernel
theorem V.dX7_settle_3 : decode cX7_settle 3 = .ok (.aload_n 0, 1) := by decide +kernel
theorem V.dX7_settle_4 : decode cX7_settle 4 = .ok (.getfield 72, 3) := by decide +kernel
theorem V.dX7_settle_7 : decode cX7_settle 7 = .ok (.if_icmp .ge 47, 3) := by decide +kernel
theorem V.dX7_settle_10 : decode cX7_settle 10 = .ok (.aload_n 0, 1) := by decide +kernel
theorem V.dX7_settle_11 : decode cX7_settle 11 = .ok (.getfield 30, 3) := by decide +kernel
theorem V.dX7_settle_14 : decode cX7_settle 14 = .ok (.iload_n 2, 1) := by decide +kernel
theorem V.dX7_settle_15 : decode cX7_settle 15 = .ok (.iaload, 1) := by decide +kernel
theorem V.dX7_settle_16 : decode cX7_settle 16 = .ok (.ifCond .eq 25, 3) := by decide +kernel
theorem V.dX7_settle_19 : decode cX7_settle 19 = .ok (.aload_n 0, 1) := by decide +kernel
theorem V.dX7_settle_20 : decode cX7_settle 20 = .ok (.sipush 300, 3) := by decide +kernel
theorem V.dX7_settle_23 : decode cX7_settle 23 = .ok (.aload_n 0, 1) := by decide +kernel
theorem V.dX7_settle_24 : decode cX7_settle 24 = .ok (.iload_n 2, 1) := by decide +kernel
theorem V.dX7_settle_25 : decode cX7_settle 25 = .ok (.invokevirtual 69, 3) := by decide +kernel
theorem V.dX7_settle_28 : decode cX7_settle 28 = .ok (.aload_n 0, 1) := by decide +kernel
theorem V.dX7_settle_29 : decode cX7_settle 29 = .ok (.getfield 33, 3) := by decide +kernel
theorem V.dX7_settle_32 : decode cX7_settle 32 = .ok (.iload_n 2, 1) := by decide +kernel
theorem V.dX7_settle_33 : decode cX7_settle 33 = .ok (.iaload, 1) := by decide +kernel
theorem V.dX7_settle_34 : decode cX7_settle 34 = .ok (.iconst 0, 1) := by decide +kernel
theorem V.dX7_settle_35 : decode cX7_settle 35 = .ok (.iconst 0, 1) := by decide +kernel
theorem V.dX7_settle_36 : decode cX7_settle 36 = .ok (.iconst 0, 1) := by decide +kernel
theorem V.dX7_settle_37 : decode cX7_settle 37 = .ok (.invokevirtual 78, 3) := by decide +kernel
theorem V.dX7_settle_40 : decode cX7_settle 40 = .ok (.pop, 1) := by decide +kernel
theorem V.dX7_settle_41 : decode cX7_settle 41 = .ok (.aload_n 0, 1) := by decide +kernel
theorem V.dX7_settle_42 : decode cX7_settle 42 = .ok (.getfield 30, 3) := by decide +kernel
theorem V.dX7_settle_45 : decode cX7_settle 45 = .ok (.iload_n 2, 1) := by decide +kernel
theorem V.dX7_settle_46 : decode cX7_settle 46 = .ok (.iconst 0, 1) := by decide +kernel
theorem V.dX7_settle_47 : decode cX7_settle 47 = .ok (.iastore, 1) := by decide +kernel
theorem V.dX7_settle_48 : decode cX7_settle 48 = .ok (.iinc 2 1, 3) := by decide +kernel
theorem V.dX7_settle_51 : decode cX7_settle 51 = .ok (.goto (-49), 3) := by decide +kernel
theorem V.dX7_settle_54 : decode cX7_settle 54 = .ok (.return_, 1) := by decide +kernel
theorem V.fdX7_72 : FD RX7 72 7 12 0 := ⟨(RX7, TX7, 17), tyX7, rfl, rfl, in_X7, by decide, Or.inl q705, rfl⟩
theorem V.fdX7_30 : FD RX7 30 7 10 2 := ⟨(RX7, TX7, 17), tyX7, rfl, rfl, in_X7, by decide, Or.inl q703, rfl⟩
theorem V.mdX7_69 : MD RX7 69 yX7_slot cX7_slot 2 (some .int) 1 := ⟨Or.inl q2432, q367, q2435, by decide, by decide, by decide +kernel⟩
theorem V.fdX7_33 : FD RX7 33 7 11 2 := ⟨(RX7, TX7, 17), tyX7, rfl, rfl, in_X7, by decide, Or.inl q704, rfl⟩
theorem V.mdX7_78 : MD RX7 78 yX7_emit cX7_emit 9 (some .int) 6 := ⟨Or.inl q2436, q367, q2439, by decide, by decide, by decide +kernel⟩
/-! ModuleEngine$Registers.settle(I)V -/
def V.Reg_settle_p41 (rec2 : HS → Nat → Int32 → Option (Unit × HS)) (σ : HS) (x0 : Nat) (x2 : Int32) : Option (Unit × HS) :=
  ck (tg σ x0 = 8) <|
  ck (tg σ (gR σ x0 10) = 100 ∧ inb x2 (ln σ (gR σ x0 10))) <| bn (sI σ (gR σ x0 10) (ix x2) (0 : Int32)) fun σ1 =>
  bn (x2 + (1 : Int32)) fun y2 =>
  rec2 σ1 x0 y2
theorem V.gX7_settle_p41 {X : CX} (rec2 : HS → Nat → Int32 → Option (Unit × HS)) (hrec2 : ∀ (σ : HS) (x0 : Nat) (x2 : Int32), G X RX7 "settle" cX7_settle 3 none 1 28 enV 2 [(0, av x0), (2, iv x2)] [] σ (rec2 σ x0 x2)) (σ : HS) (x0 : Nat) (x2 : Int32) : G X RX7 "settle" cX7_settle 3 none 1 28 enV 41 [(0, av x0), (2, iv x2)] [] σ (Reg_settle_p41 rec2 σ x0 x2) := by
  unfold Reg_settle_p41
  refine g_aload_n 0 0 dX7_settle_41 rfl rfl ?_
  refine g_getR fdX7_30 dX7_settle_42 ?_
  refine g_iload_n 2 1 dX7_settle_45 rfl rfl ?_
  refine g_iconst (v := 0) dX7_settle_46 (by decide) ?_
  refine g_iastore dX7_settle_47 (fun σ1 => ?_)
  refine g_iincB (w := 1) 1 dX7_settle_48 rfl (by decide) (by decide) (fun _ => rfl) (fun y2 => ?_)
  refine g_goto 2 dX7_settle_51 (by decide) ?_
  refine G.sub [1, 0] rfl ?_
  exact hrec2 _ _ _
def V.Reg_settle_p2  : Nat → HS → Nat → Int32 → Option (Unit × HS)
  | 0, _, _, _ => none
  | n + 1, σ, x0, x2 =>
    ck (tg σ x0 = 8) <|
    if (gI σ x0 12) ≤ x2 then (
      some ((), σ))
    else (
      ck (tg σ x0 = 8) <|
      ck (tg σ (gR σ x0 10) = 100 ∧ inb x2 (ln σ (gR σ x0 10))) <|
      if (gI σ (gR σ x0 10) (ix x2)) = 0 then (
        Reg_settle_p41 (Reg_settle_p2 n) σ x0 x2)
      else (
        ck (tg σ x0 = 8) <| cl (Reg_slot σ x0 x2) fun r2 σ1 =>
        ck (tg σ1 x0 = 8) <|
        ck (tg σ1 (gR σ1 x0 11) = 100 ∧ inb x2 (ln σ1 (gR σ1 x0 11))) <|
        ck (tg σ1 x0 = 8) <| cl (Reg_emit σ1 x0 (300 : Int32) r2 (gI σ1 (gR σ1 x0 11) (ix x2)) (0 : Int32) (0 : Int32) (0 : Int32)) fun r4 σ3 =>
        Reg_settle_p41 (Reg_settle_p2 n) σ3 x0 x2))
theorem V.gX7_settle_p2 {X : CX}  : ∀ (n : Nat) (σ : HS) (x0 : Nat) (x2 : Int32), G X RX7 "settle" cX7_settle 3 none 1 28 enV 2 [(0, av x0), (2, iv x2)] [] σ (Reg_settle_p2 n σ x0 x2)
  | 0, σ, x0, x2 => by rw [Reg_settle_p2]; exact G.nul
  | n + 1, σ, x0, x2 => by
    rw [Reg_settle_p2]
    refine g_iload_n 2 1 dX7_settle_2 rfl rfl ?_
    refine g_aload_n 0 0 dX7_settle_3 rfl rfl ?_
    refine g_getI fdX7_72 dX7_settle_4 ?_
    refine g_icmp_ge 54 dX7_settle_7 (by decide) ?_ ?_
    · exact g_return rfl dX7_settle_54
    · refine g_aload_n 0 0 dX7_settle_10 rfl rfl ?_
      refine g_getR fdX7_30 dX7_settle_11 ?_
      refine g_iload_n 2 1 dX7_settle_14 rfl rfl ?_
      refine g_iaload dX7_settle_15 ?_
      refine g_if_eq 41 dX7_settle_16 (by decide) ?_ ?_
      · exact gX7_settle_p41 (Reg_settle_p2 n) (gX7_settle_p2 n) _ _ _
      · refine g_aload_n 0 0 dX7_settle_19 rfl rfl ?_
        refine g_sipush (v := 300) dX7_settle_20 (by decide) ?_
        refine g_aload_n 0 0 dX7_settle_23 rfl rfl ?_
        refine g_iload_n 2 1 dX7_settle_24 rfl rfl ?_
        refine g_callV (fc := fun sς => Reg_slot sς x0 x2) (ci := 7) (as := [iv x2]) rfl rfl rfl q2434 qs147 mdX7_69 (ctX7_slot x0 x2) rfl (Nat.le_of_ble_eq_true rfl) (Nat.le_of_ble_eq_true rfl) (Nat.le_of_ble_eq_true rfl) pu_I dX7_settle_25 (fun r2 σ1 => ?_)
        refine g_aload_n 0 0 dX7_settle_28 rfl rfl ?_
        refine g_getR fdX7_33 dX7_settle_29 ?_
        refine g_iload_n 2 1 dX7_settle_32 rfl rfl ?_
        refine g_iaload dX7_settle_33 ?_
        refine g_iconst (v := 0) dX7_settle_34 (by decide) ?_
        refine g_iconst (v := 0) dX7_settle_35 (by decide) ?_
        refine g_iconst (v := 0) dX7_settle_36 (by decide) ?_
        refine g_callV (fc := fun sς => Reg_emit sς x0 (300 : Int32) r2 (gI σ1 (gR σ1 x0 11) (ix x2)) (0 : Int32) (0 : Int32) (0 : Int32)) (ci := 7) (as := [iv (300 : Int32), iv r2, iv (gI σ1 (gR σ1 x0 11) (ix x2)), iv (0 : Int32), iv (0 : Int32), iv (0 : Int32)]) rfl rfl rfl q2438 qs148 mdX7_78 (ctX7_emit x0 (300 : Int32) r2 (gI σ1 (gR σ1 x0 11) (ix x2)) (0 : Int32) (0 : Int32) (0 : Int32)) rfl (Nat.le_of_ble_eq_true rfl) (Nat.le_of_ble_eq_true rfl) (Nat.le_of_ble_eq_true rfl) pu_I dX7_settle_37 (fun r4 σ3 => ?_)
        refine g_pop dX7_settle_40 rfl ?_
        exact gX7_settle_p41 (Reg_settle_p2 n) (gX7_settle_p2 n) _ _ _
def V.Reg_settle (σ : HS) (x0 : Nat) (x1 : Int32) : Option (Unit × HS) :=
  Reg_settle_p2 FU σ x0 x1
theorem V.ctX7_settle (x0 : Nat) (x1 : Int32) : Ct yX7_settle  cX7_settle 3 none 1 28 eV [av x0, iv x1] (fun σ => Reg_settle σ x0 x1) := by
  refine Ct.of (own := RX7) (nm := "settle") (desc := "(I)V") rfl (by decide) (Nat.le_of_ble_eq_true rfl) (by decide) (fun X σ => ?_)
  show G X RX7 "settle" cX7_settle 3 none 1 28 enV 0 [(0, av x0), (1, iv x1)] [] σ (Reg_settle σ x0 x1)
  unfold Reg_settle
  refine g_iload_n 1 1 dX7_settle_0 rfl rfl ?_
  refine g_istore_n 2 dX7_settle_1 rfl (by decide) rfl ?_
  refine G.sub [1, 0] rfl ?_
  exact gX7_settle_p2 FU _ _ _
theorem V.dX7_steps_0 : decode cX7_steps 0 = .ok (.aload_n 0, 1) := by decide +kernel
theorem V.dX7_steps_1 : decode cX7_steps 1 = .ok (.getfield 60, 3) := by decide +kernel
theorem V.dX7_steps_4 : decode cX7_steps 4 = .ok (.iload_n 1, 1) := by decide +kernel
theorem V.dX7_steps_5 : decode cX7_steps 5 = .ok (.iadd, 1) := by decide +kernel
theorem V.dX7_steps_6 : decode cX7_steps 6 = .ok (.istore_n 2, 1) := by decide +kernel
theorem V.dX7_steps_7 : decode cX7_steps 7 = .ok (.aload_n 0, 1) := by decide +kernel
theorem V.dX7_steps_8 : decode cX7_steps 8 = .ok (.iconst 0, 1) := by decide +kernel
theorem V.dX7_steps_9 : decode cX7_steps 9 = .ok (.putfield 60, 3) := by decide +kernel
theorem V.dX7_steps_12 : decode cX7_steps 12 = .ok (.iload_n 2, 1) := by decide +kernel
theorem V.dX7_steps_13 : decode cX7_steps 13 = .ok (.ireturn, 1) := by decide +kernel
theorem V.fdX7_60 : FD RX7 60 7 14 0 := ⟨(RX7, TX7, 17), tyX7, rfl, rfl, in_X7, by decide, Or.inl q707, rfl⟩
theorem V.fpX7_60 {nm : String} : FP RX7 nm 60 7 14 (.int) := ⟨(RX7, TX7, 17), tyX7, rfl, rfl, in_X7, by decide, tyX7_ok, nmX7, rfl, Or.inl ⟨rfl, Or.inl q707⟩⟩
/-! ModuleEngine$Registers.steps(I)I -/
def V.Reg_steps (σ : HS) (x0 : Nat) (x1 : Int32) : Option (Int32 × HS) :=
  ck (tg σ x0 = 8) <|
  bn ((gI σ x0 14) + x1) fun y1 =>
  ck (tg σ x0 = 8) <| bn (sI σ x0 14 (0 : Int32)) fun σ2 =>
  some (y1, σ2)
theorem V.ctX7_steps (x0 : Nat) (x1 : Int32) : Ct yX7_steps  cX7_steps 3 (some .int) 0 0 eI [av x0, iv x1] (fun σ => Reg_steps σ x0 x1) := by
  refine Ct.of (own := RX7) (nm := "steps") (desc := "(I)I") rfl (by decide) (Nat.le_of_ble_eq_true rfl) (by decide) (fun X σ => ?_)
  show G X RX7 "steps" cX7_steps 3 (some .int) 0 0 enI 0 [(0, av x0), (1, iv x1)] [] σ (Reg_steps σ x0 x1)
  unfold Reg_steps
  refine g_aload_n 0 0 dX7_steps_0 rfl rfl ?_
  refine g_getI fdX7_60 dX7_steps_1 ?_
  refine g_iload_n 1 1 dX7_steps_4 rfl rfl ?_
  refine g_iadd dX7_steps_5 ?_
  refine g_nmI (fun y1 => ?_)
  refine g_istore_n 2 dX7_steps_6 rfl (by decide) rfl ?_
  refine g_aload_n 0 1 dX7_steps_7 rfl rfl ?_
  refine g_iconst (v := 0) dX7_steps_8 (by decide) ?_
  refine g_putI fpX7_60 dX7_steps_9 (fun σ2 => ?_)
  refine g_iload_n 2 0 dX7_steps_12 rfl rfl ?_
  exact g_ireturn rfl dX7_steps_13
theorem V.dX7_push_0 : decode cX7_push 0 = .ok (.aload_n 0, 1) := by decide +kernel
theorem V.dX7_push_1 : decode cX7_push 1 = .ok (.getfield 30, 3) := by decide +kernel
theorem V.dX7_push_4 : decode cX7_push 4 = .ok (.aload_n 0, 1) := by decide +kernel
theorem V.dX7_push_5 : decode cX7_push 5 = .ok (.getfield 72, 3) := by decide +kernel
theorem V.dX7_push_8 : decode cX7_push 8 = .ok (.iload_n 1, 1) := by decide +kernel
theorem V.dX7_push_9 : decode cX7_push 9 = .ok (.iastore, 1) := by decide +kernel
theorem V.dX7_push_10 : decode cX7_push 10 = .ok (.aload_n 0, 1) := by decide +kernel
theorem V.dX7_push_11 : decode cX7_push 11 = .ok (.getfield 33, 3) := by decide +kernel
theorem V.dX7_push_14 : decode cX7_push 14 = .ok (.aload_n 0, 1) := by decide +kernel
theorem V.dX7_push_15 : decode cX7_push 15 = .ok (.getfield 72, 3) := by decide +kernel
theorem V.dX7_push_18 : decode cX7_push 18 = .ok (.iload_n 2, 1) := by decide +kernel
theorem V.dX7_push_19 : decode cX7_push 19 = .ok (.iastore, 1) := by decide +kernel
theorem V.dX7_push_20 : decode cX7_push 20 = .ok (.aload_n 0, 1) := by decide +kernel
theorem V.dX7_push_21 : decode cX7_push 21 = .ok (.dup, 1) := by decide +kernel
theorem V.dX7_push_22 : decode cX7_push 22 = .ok (.getfield 72, 3) := by decide +kernel
theorem V.dX7_push_25 : decode cX7_push 25 = .ok (.iconst 1, 1) := by decide +kernel
theorem V.dX7_push_26 : decode cX7_push 26 = .ok (.iadd, 1) := by decide +kernel
theorem V.dX7_push_27 : decode cX7_push 27 = .ok (.putfield 72, 3) := by decide +kernel
theorem V.dX7_push_30 : decode cX7_push 30 = .ok (.return_, 1) := by decide +kernel
theorem V.fpX7_72 {nm : String} : FP RX7 nm 72 7 12 (.int) := ⟨(RX7, TX7, 17), tyX7, rfl, rfl, in_X7, by decide, tyX7_ok, nmX7, rfl, Or.inl ⟨rfl, Or.inl q705⟩⟩
/-! ModuleEngine$Registers.push(II)V -/
def V.Reg_push (σ : HS) (x0 : Nat) (x1 : Int32) (x2 : Int32) : Option (Unit × HS) :=
  ck (tg σ x0 = 8) <|
  ck (tg σ x0 = 8) <|
  ck (tg σ (gR σ x0 10) = 100 ∧ inb (gI σ x0 12) (ln σ (gR σ x0 10))) <| bn (sI σ (gR σ x0 10) (ix (gI σ x0 12)) x1) fun σ1 =>
  ck (tg σ1 x0 = 8) <|
  ck (tg σ1 x0 = 8) <|
  ck (tg σ1 (gR σ1 x0 11) = 100 ∧ inb (gI σ1 x0 12) (ln σ1 (gR σ1 x0 11))) <| bn (sI σ1 (gR σ1 x0 11) (ix (gI σ1 x0 12)) x2) fun σ2 =>
  ck (tg σ2 x0 = 8) <|
  ck (tg σ2 x0 = 8) <| bn (sI σ2 x0 12 ((gI σ2 x0 12) + (1 : Int32))) fun σ3 =>
  some ((), σ3)
theorem V.ctX7_push (x0 : Nat) (x1 : Int32) (x2 : Int32) : Ct yX7_push  cX7_push 3 none 0 0 eV [av x0, iv x1, iv x2] (fun σ => Reg_push σ x0 x1 x2) := by
  refine Ct.of (own := RX7) (nm := "push") (desc := "(II)V") rfl (by decide) (Nat.le_of_ble_eq_true rfl) (by decide) (fun X σ => ?_)
  show G X RX7 "push" cX7_push 3 none 0 0 enV 0 [(0, av x0), (1, iv x1), (2, iv x2)] [] σ (Reg_push σ x0 x1 x2)
  unfold Reg_push
  refine g_aload_n 0 0 dX7_push_0 rfl rfl ?_
  refine g_getR fdX7_30 dX7_push_1 ?_
  refine g_aload_n 0 0 dX7_push_4 rfl rfl ?_
  refine g_getI fdX7_72 dX7_push_5 ?_
  refine g_iload_n 1 1 dX7_push_8 rfl rfl ?_
  refine g_iastore dX7_push_9 (fun σ1 => ?_)
  refine g_aload_n 0 0 dX7_push_10 rfl rfl ?_
  refine g_getR fdX7_33 dX7_push_11 ?_
  refine g_aload_n 0 0 dX7_push_14 rfl rfl ?_
  refine g_getI fdX7_72 dX7_push_15 ?_
  refine g_iload_n 2 2 dX7_push_18 rfl rfl ?_
  refine g_iastore dX7_push_19 (fun σ2 => ?_)
  refine g_aload_n 0 0 dX7_push_20 rfl rfl ?_
  refine g_dup dX7_push_21 rfl ?_
  refine g_getI fdX7_72 dX7_push_22 ?_
  refine g_iconst (v := 1) dX7_push_25 (by decide) ?_
  refine g_iadd dX7_push_26 ?_
  refine g_putI fpX7_72 dX7_push_27 (fun σ3 => ?_)
  exact g_return rfl dX7_push_30
theorem V.dX7_join_0 : decode cX7_join 0 = .ok (.aload_n 0, 1) := by decide +kernel
theorem V.dX7_join_1 : decode cX7_join 1 = .ok (.getfield 113, 3) := by decide +kernel
theorem V.dX7_join_4 : decode cX7_join 4 = .ok (.ifCond .eq 8, 3) := by decide +kernel
theorem V.dX7_join_7 : decode cX7_join 7 = .ok (.aload_n 0, 1) := by decide +kernel
theorem V.dX7_join_8 : decode cX7_join 8 = .ok (.iconst 0, 1) := by decide +kernel
theorem V.dX7_join_9 : decode cX7_join 9 = .ok (.invokevirtual 125, 3) := by decide +kernel
theorem V.dX7_join_12 : decode cX7_join 12 = .ok (.aload_n 0, 1) := by decide +kernel
theorem V.dX7_join_13 : decode cX7_join 13 = .ok (.getfield 113, 3) := by decide +kernel
theorem V.dX7_join_16 : decode cX7_join 16 = .ok (.ifCond .eq 27, 3) := by decide +kernel
theorem V.dX7_join_19 : decode cX7_join 19 = .ok (.aload_n 0, 1) := by decide +kernel
theorem V.dX7_join_20 : decode cX7_join 20 = .ok (.getfield 60, 3) := by decide +kernel
theorem V.dX7_join_23 : decode cX7_join 23 = .ok (.ifCond .le 20, 3) := by decide +kernel
theorem V.dX7_join_26 : decode cX7_join 26 = .ok (.aload_n 0, 1) := by decide +kernel
theorem V.dX7_join_27 : decode cX7_join 27 = .ok (.sipush 301, 3) := by decide +kernel
theorem V.dX7_join_30 : decode cX7_join 30 = .ok (.iconst 0, 1) := by decide +kernel
theorem V.dX7_join_31 : decode cX7_join 31 = .ok (.iconst 0, 1) := by decide +kernel
theorem V.dX7_join_32 : decode cX7_join 32 = .ok (.iconst 0, 1) := by decide +kernel
theorem V.dX7_join_33 : decode cX7_join 33 = .ok (.iconst 0, 1) := by decide +kernel
theorem V.dX7_join_34 : decode cX7_join 34 = .ok (.aload_n 0, 1) := by decide +kernel
theorem V.dX7_join_35 : decode cX7_join 35 = .ok (.iconst 0, 1) := by decide +kernel
theorem V.dX7_join_36 : decode cX7_join 36 = .ok (.invokevirtual 128, 3) := by decide +kernel
theorem V.dX7_join_39 : decode cX7_join 39 = .ok (.invokevirtual 78, 3) := by decide +kernel
theorem V.dX7_join_42 : decode cX7_join 42 = .ok (.pop, 1) := by decide +kernel
theorem V.dX7_join_43 : decode cX7_join 43 = .ok (.aload_n 0, 1) := by decide +kernel
theorem V.dX7_join_44 : decode cX7_join 44 = .ok (.iconst 0, 1) := by decide +kernel
theorem V.dX7_join_45 : decode cX7_join 45 = .ok (.putfield 72, 3) := by decide +kernel
theorem V.dX7_join_48 : decode cX7_join 48 = .ok (.aload_n 0, 1) := by decide +kernel
theorem V.dX7_join_49 : decode cX7_join 49 = .ok (.iconst 0, 1) := by decide +kernel
theorem V.dX7_join_50 : decode cX7_join 50 = .ok (.putfield 60, 3) := by decide +kernel
theorem V.dX7_join_53 : decode cX7_join 53 = .ok (.aload_n 0, 1) := by decide +kernel
theorem V.dX7_join_54 : decode cX7_join 54 = .ok (.iconst 1, 1) := by decide +kernel
theorem V.dX7_join_55 : decode cX7_join 55 = .ok (.putfield 113, 3) := by decide +kernel
theorem V.dX7_join_58 : decode cX7_join 58 = .ok (.iconst 0, 1) := by decide +kernel
theorem V.dX7_join_59 : decode cX7_join 59 = .ok (.istore_n 2, 1) := by decide +kernel
theorem V.dX7_join_60 : decode cX7_join 60 = .ok (.iload_n 2, 1) := by decide +kernel
theorem V.dX7_join_61 : decode cX7_join 61 = .ok (.iload_n 1, 1) := by decide +kernel
theorem V.dX7_join_62 : decode cX7_join 62 = .ok (.if_icmp .ge 15, 3) := by decide +kernel
theorem V.dX7_join_65 : decode cX7_join 65 = .ok (.aload_n 0, 1) := by decide +kernel
theorem V.dX7_join_66 : decode cX7_join 66 = .ok (.iconst 0, 1) := by decide +kernel
theorem V.dX7_join_67 : decode cX7_join 67 = .ok (.iconst 0, 1) := by decide +kernel
theorem V.dX7_join_68 : decode cX7_join 68 = .ok (.invokevirtual 131, 3) := by decide +kernel
theorem V.dX7_join_71 : decode cX7_join 71 = .ok (.iinc 2 1, 3) := by decide +kernel
theorem V.dX7_join_74 : decode cX7_join 74 = .ok (.goto (-14), 3) := by decide +kernel
theorem V.dX7_join_77 : decode cX7_join 77 = .ok (.return_, 1) := by decide +kernel
theorem V.fdX7_113 : FD RX7 113 7 16 0 := ⟨(RX7, TX7, 17), tyX7, rfl, rfl, in_X7, by decide, Or.inl q709, rfl⟩
theorem V.mdX7_125 : MD RX7 125 yX7_settle cX7_settle 3 none 1 := ⟨Or.inl q2428, q367, q2431, by decide, by decide, by decide +kernel⟩
theorem V.mdX7_128 : MD RX7 128 yX7_steps cX7_steps 3 (some .int) 1 := ⟨Or.inl q2440, q367, q2443, by decide, by decide, by decide +kernel⟩
theorem V.fpX7_113 {nm : String} : FP RX7 nm 113 7 16 (.boolean) := ⟨(RX7, TX7, 17), tyX7, rfl, rfl, in_X7, by decide, tyX7_ok, nmX7, rfl, Or.inl ⟨rfl, Or.inl q709⟩⟩
theorem V.mdX7_131 : MD RX7 131 yX7_push cX7_push 3 none 2 := ⟨Or.inl q2444, q367, q2447, by decide, by decide, by decide +kernel⟩
/-! ModuleEngine$Registers.join(I)V -/
def V.Reg_join_p60  : Nat → HS → Nat → Int32 → Int32 → Option (Unit × HS)
  | 0, _, _, _, _ => none
  | n + 1, σ, x0, x1, x2 =>
    if x1 ≤ x2 then (
      some ((), σ))
    else (
      ck (tg σ x0 = 8) <| cl (Reg_push σ x0 (0 : Int32) (0 : Int32)) fun _ σ1 =>
      bn (x2 + (1 : Int32)) fun y2 =>
      Reg_join_p60 n σ1 x0 x1 y2)
theorem V.gX7_join_p60 {X : CX}  : ∀ (n : Nat) (σ : HS) (x0 : Nat) (x1 : Int32) (x2 : Int32), G X RX7 "join" cX7_join 3 none 2 50 enV 60 [(0, av x0), (1, iv x1), (2, iv x2)] [] σ (Reg_join_p60 n σ x0 x1 x2)
  | 0, σ, x0, x1, x2 => by rw [Reg_join_p60]; exact G.nul
  | n + 1, σ, x0, x1, x2 => by
    rw [Reg_join_p60]
    refine g_iload_n 2 2 dX7_join_60 rfl rfl ?_
    refine g_iload_n 1 1 dX7_join_61 rfl rfl ?_
    refine g_icmp_ge 77 dX7_join_62 (by decide) ?_ ?_
    · exact g_return rfl dX7_join_77
    · refine g_aload_n 0 0 dX7_join_65 rfl rfl ?_
      refine g_iconst (v := 0) dX7_join_66 (by decide) ?_
      refine g_iconst (v := 0) dX7_join_67 (by decide) ?_
      refine g_callV (fc := fun sς => Reg_push sς x0 (0 : Int32) (0 : Int32)) (ci := 7) (as := [iv (0 : Int32), iv (0 : Int32)]) rfl rfl rfl q2446 qs150 mdX7_131 (ctX7_push x0 (0 : Int32) (0 : Int32)) rfl (Nat.le_of_ble_eq_true rfl) (Nat.le_of_ble_eq_true rfl) (Nat.le_of_ble_eq_true rfl) pu_V dX7_join_68 (fun _ σ1 => ?_)
      refine g_iincB (w := 1) 2 dX7_join_71 rfl (by decide) (by decide) (fun _ => rfl) (fun y2 => ?_)
      refine g_goto 60 dX7_join_74 (by decide) ?_
      refine G.sub [1, 2, 0] rfl ?_
      exact gX7_join_p60 n _ _ _ _
def V.Reg_join_p43  (σ : HS) (x0 : Nat) (x1 : Int32) : Option (Unit × HS) :=
  ck (tg σ x0 = 8) <| bn (sI σ x0 12 (0 : Int32)) fun σ1 =>
  ck (tg σ1 x0 = 8) <| bn (sI σ1 x0 14 (0 : Int32)) fun σ2 =>
  ck (tg σ2 x0 = 8) <| bn (sI σ2 x0 16 (1 : Int32)) fun σ3 =>
  Reg_join_p60 FU σ3 x0 x1 (0 : Int32)
theorem V.gX7_join_p43 {X : CX}  (σ : HS) (x0 : Nat) (x1 : Int32) : G X RX7 "join" cX7_join 3 none 2 50 enV 43 [(0, av x0), (1, iv x1)] [] σ (Reg_join_p43 σ x0 x1) := by
  unfold Reg_join_p43
  refine g_aload_n 0 0 dX7_join_43 rfl rfl ?_
  refine g_iconst (v := 0) dX7_join_44 (by decide) ?_
  refine g_putI fpX7_72 dX7_join_45 (fun σ1 => ?_)
  refine g_aload_n 0 0 dX7_join_48 rfl rfl ?_
  refine g_iconst (v := 0) dX7_join_49 (by decide) ?_
  refine g_putI fpX7_60 dX7_join_50 (fun σ2 => ?_)
  refine g_aload_n 0 0 dX7_join_53 rfl rfl ?_
  refine g_iconst (v := 1) dX7_join_54 (by decide) ?_
  refine g_putZ fpX7_113 ⟨by decide +kernel, by decide +kernel⟩ dX7_join_55 (fun σ3 => ?_)
  refine g_iconst (v := 0) dX7_join_58 (by decide) ?_
  refine g_istore_n 2 dX7_join_59 rfl (by decide) rfl ?_
  refine G.sub [1, 2, 0] rfl ?_
  exact gX7_join_p60 FU _ _ _ _
def V.Reg_join_p12  (σ : HS) (x0 : Nat) (x1 : Int32) : Option (Unit × HS) :=
  ck (tg σ x0 = 8) <|
  if (gI σ x0 16) = 0 then (
    Reg_join_p43 σ x0 x1)
  else (
    ck (tg σ x0 = 8) <|
    if (gI σ x0 14) ≤ 0 then (
      Reg_join_p43 σ x0 x1)
    else (
      ck (tg σ x0 = 8) <| cl (Reg_steps σ x0 (0 : Int32)) fun r2 σ1 =>
      ck (tg σ1 x0 = 8) <| cl (Reg_emit σ1 x0 (301 : Int32) (0 : Int32) (0 : Int32) (0 : Int32) (0 : Int32) r2) fun r4 σ3 =>
      Reg_join_p43 σ3 x0 x1))
theorem V.gX7_join_p12 {X : CX}  (σ : HS) (x0 : Nat) (x1 : Int32) : G X RX7 "join" cX7_join 3 none 2 50 enV 12 [(0, av x0), (1, iv x1)] [] σ (Reg_join_p12 σ x0 x1) := by
  unfold Reg_join_p12
  refine g_aload_n 0 0 dX7_join_12 rfl rfl ?_
  refine g_getI fdX7_113 dX7_join_13 ?_
  refine g_if_eq 43 dX7_join_16 (by decide) ?_ ?_
  · exact gX7_join_p43 _ _ _
  · refine g_aload_n 0 0 dX7_join_19 rfl rfl ?_
    refine g_getI fdX7_60 dX7_join_20 ?_
    refine g_if_le 43 dX7_join_23 (by decide) ?_ ?_
    · exact gX7_join_p43 _ _ _
    · refine g_aload_n 0 0 dX7_join_26 rfl rfl ?_
      refine g_sipush (v := 301) dX7_join_27 (by decide) ?_
      refine g_iconst (v := 0) dX7_join_30 (by decide) ?_
      refine g_iconst (v := 0) dX7_join_31 (by decide) ?_
      refine g_iconst (v := 0) dX7_join_32 (by decide) ?_
      refine g_iconst (v := 0) dX7_join_33 (by decide) ?_
      refine g_aload_n 0 0 dX7_join_34 rfl rfl ?_
      refine g_iconst (v := 0) dX7_join_35 (by decide) ?_
      refine g_callV (fc := fun sς => Reg_steps sς x0 (0 : Int32)) (ci := 7) (as := [iv (0 : Int32)]) rfl rfl rfl q2442 qs149 mdX7_128 (ctX7_steps x0 (0 : Int32)) rfl (Nat.le_of_ble_eq_true rfl) (Nat.le_of_ble_eq_true rfl) (Nat.le_of_ble_eq_true rfl) pu_I dX7_join_36 (fun r2 σ1 => ?_)
      refine g_callV (fc := fun sς => Reg_emit sς x0 (301 : Int32) (0 : Int32) (0 : Int32) (0 : Int32) (0 : Int32) r2) (ci := 7) (as := [iv (301 : Int32), iv (0 : Int32), iv (0 : Int32), iv (0 : Int32), iv (0 : Int32), iv r2]) rfl rfl rfl q2438 qs148 mdX7_78 (ctX7_emit x0 (301 : Int32) (0 : Int32) (0 : Int32) (0 : Int32) (0 : Int32) r2) rfl (Nat.le_of_ble_eq_true rfl) (Nat.le_of_ble_eq_true rfl) (Nat.le_of_ble_eq_true rfl) pu_I dX7_join_39 (fun r4 σ3 => ?_)
      refine g_pop dX7_join_42 rfl ?_
      exact gX7_join_p43 _ _ _
def V.Reg_join (σ : HS) (x0 : Nat) (x1 : Int32) : Option (Unit × HS) :=
  ck (tg σ x0 = 8) <|
  if (gI σ x0 16) = 0 then (
    Reg_join_p12 σ x0 x1)
  else (
    ck (tg σ x0 = 8) <| cl (Reg_settle σ x0 (0 : Int32)) fun _ σ1 =>
    Reg_join_p12 σ1 x0 x1)
theorem V.ctX7_join (x0 : Nat) (x1 : Int32) : Ct yX7_join  cX7_join 3 none 2 50 eV [av x0, iv x1] (fun σ => Reg_join σ x0 x1) := by
  refine Ct.of (own := RX7) (nm := "join") (desc := "(I)V") rfl (by decide) (Nat.le_of_ble_eq_true rfl) (by decide) (fun X σ => ?_)
  show G X RX7 "join" cX7_join 3 none 2 50 enV 0 [(0, av x0), (1, iv x1)] [] σ (Reg_join σ x0 x1)
  unfold Reg_join
  refine g_aload_n 0 0 dX7_join_0 rfl rfl ?_
  refine g_getI fdX7_113 dX7_join_1 ?_
  refine g_if_eq 12 dX7_join_4 (by decide) ?_ ?_
  · exact gX7_join_p12 _ _ _
  · refine g_aload_n 0 0 dX7_join_7 rfl rfl ?_
    refine g_iconst (v := 0) dX7_join_8 (by decide) ?_
    refine g_callV (fc := fun sς => Reg_settle sς x0 (0 : Int32)) (ci := 7) (as := [iv (0 : Int32)]) rfl rfl rfl q2430 qs146 mdX7_125 (ctX7_settle x0 (0 : Int32)) rfl (Nat.le_of_ble_eq_true rfl) (Nat.le_of_ble_eq_true rfl) (Nat.le_of_ble_eq_true rfl) pu_V dX7_join_9 (fun _ σ1 => ?_)
    exact gX7_join_p12 _ _ _
theorem V.dX7_operand_0 : decode cX7_operand 0 = .ok (.aload_n 0, 1) := by decide +kernel
theorem V.dX7_operand_1 : decode cX7_operand 1 = .ok (.getfield 30, 3) := by decide +kernel
theorem V.dX7_operand_4 : decode cX7_operand 4 = .ok (.iload_n 1, 1) := by decide +kernel
theorem V.dX7_operand_5 : decode cX7_operand 5 = .ok (.iaload, 1) := by decide +kernel
theorem V.dX7_operand_6 : decode cX7_operand 6 = .ok (.ifCond .ne 11, 3) := by decide +kernel
theorem V.dX7_operand_9 : decode cX7_operand 9 = .ok (.aload_n 0, 1) := by decide +kernel
theorem V.dX7_operand_10 : decode cX7_operand 10 = .ok (.iload_n 1, 1) := by decide +kernel
theorem V.dX7_operand_11 : decode cX7_operand 11 = .ok (.invokevirtual 69, 3) := by decide +kernel
theorem V.dX7_operand_14 : decode cX7_operand 14 = .ok (.goto 9, 3) := by decide +kernel
theorem V.dX7_operand_17 : decode cX7_operand 17 = .ok (.aload_n 0, 1) := by decide +kernel
theorem V.dX7_operand_18 : decode cX7_operand 18 = .ok (.getfield 33, 3) := by decide +kernel
theorem V.dX7_operand_21 : decode cX7_operand 21 = .ok (.iload_n 1, 1) := by decide +kernel
theorem V.dX7_operand_22 : decode cX7_operand 22 = .ok (.iaload, 1) := by decide +kernel
theorem V.dX7_operand_23 : decode cX7_operand 23 = .ok (.ireturn, 1) := by decide +kernel
/-! ModuleEngine$Registers.operand(I)I -/
def V.Reg_operand (σ : HS) (x0 : Nat) (x1 : Int32) : Option (Int32 × HS) :=
  ck (tg σ x0 = 8) <|
  ck (tg σ (gR σ x0 10) = 100 ∧ inb x1 (ln σ (gR σ x0 10))) <|
  if (gI σ (gR σ x0 10) (ix x1)) = 0 then (
    ck (tg σ x0 = 8) <| cl (Reg_slot σ x0 x1) fun r2 σ1 =>
    some (r2, σ1))
  else (
    ck (tg σ x0 = 8) <|
    ck (tg σ (gR σ x0 11) = 100 ∧ inb x1 (ln σ (gR σ x0 11))) <|
    some (gI σ (gR σ x0 11) (ix x1), σ))
theorem V.ctX7_operand (x0 : Nat) (x1 : Int32) : Ct yX7_operand  cX7_operand 2 (some .int) 1 21 eI [av x0, iv x1] (fun σ => Reg_operand σ x0 x1) := by
  refine Ct.of (own := RX7) (nm := "operand") (desc := "(I)I") rfl (by decide) (Nat.le_of_ble_eq_true rfl) (by decide) (fun X σ => ?_)
  show G X RX7 "operand" cX7_operand 2 (some .int) 1 21 enI 0 [(0, av x0), (1, iv x1)] [] σ (Reg_operand σ x0 x1)
  unfold Reg_operand
  refine g_aload_n 0 0 dX7_operand_0 rfl rfl ?_
  refine g_getR fdX7_30 dX7_operand_1 ?_
  refine g_iload_n 1 1 dX7_operand_4 rfl rfl ?_
  refine g_iaload dX7_operand_5 ?_
  refine g_if_ne 17 dX7_operand_6 (by decide) ?_ ?_
  · refine g_aload_n 0 0 dX7_operand_17 rfl rfl ?_
    refine g_getR fdX7_33 dX7_operand_18 ?_
    refine g_iload_n 1 1 dX7_operand_21 rfl rfl ?_
    refine g_iaload dX7_operand_22 ?_
    exact g_ireturn rfl dX7_operand_23
  · refine g_aload_n 0 0 dX7_operand_9 rfl rfl ?_
    refine g_iload_n 1 1 dX7_operand_10 rfl rfl ?_
    refine g_callV (fc := fun sς => Reg_slot sς x0 x1) (ci := 7) (as := [iv x1]) rfl rfl rfl q2434 qs147 mdX7_69 (ctX7_slot x0 x1) rfl (Nat.le_of_ble_eq_true rfl) (Nat.le_of_ble_eq_true rfl) (Nat.le_of_ble_eq_true rfl) pu_I dX7_operand_11 (fun r2 σ1 => ?_)
    refine g_goto 23 dX7_operand_14 (by decide) ?_
    exact g_ireturn rfl dX7_operand_23
theorem V.dX7_pop_0 : decode cX7_pop 0 = .ok (.aload_n 0, 1) := by decide +kernel
theorem V.dX7_pop_1 : decode cX7_pop 1 = .ok (.dup, 1) := by decide +kernel
theorem V.dX7_pop_2 : decode cX7_pop 2 = .ok (.getfield 72, 3) := by decide +kernel
theorem V.dX7_pop_5 : decode cX7_pop 5 = .ok (.iconst 1, 1) := by decide +kernel
theorem V.dX7_pop_6 : decode cX7_pop 6 = .ok (.isub, 1) := by decide +kernel
theorem V.dX7_pop_7 : decode cX7_pop 7 = .ok (.putfield 72, 3) := by decide +kernel
theorem V.dX7_pop_10 : decode cX7_pop 10 = .ok (.aload_n 0, 1) := by decide +kernel
theorem V.dX7_pop_11 : decode cX7_pop 11 = .ok (.aload_n 0, 1) := by decide +kernel
theorem V.dX7_pop_12 : decode cX7_pop 12 = .ok (.getfield 72, 3) := by decide +kernel
theorem V.dX7_pop_15 : decode cX7_pop 15 = .ok (.invokevirtual 75, 3) := by decide +kernel
theorem V.dX7_pop_18 : decode cX7_pop 18 = .ok (.ireturn, 1) := by decide +kernel
theorem V.mdX7_75 : MD RX7 75 yX7_operand cX7_operand 2 (some .int) 1 := ⟨Or.inl q2456, q367, q2459, by decide, by decide, by decide +kernel⟩
/-! ModuleEngine$Registers.pop()I -/
def V.Reg_pop (σ : HS) (x0 : Nat) : Option (Int32 × HS) :=
  ck (tg σ x0 = 8) <|
  ck (tg σ x0 = 8) <| bn (sI σ x0 12 ((gI σ x0 12) - (1 : Int32))) fun σ1 =>
  ck (tg σ1 x0 = 8) <|
  ck (tg σ1 x0 = 8) <| cl (Reg_operand σ1 x0 (gI σ1 x0 12)) fun r3 σ2 =>
  some (r3, σ2)
theorem V.ctX7_pop (x0 : Nat) : Ct yX7_pop  cX7_pop 1 (some .int) 2 42 eI [av x0] (fun σ => Reg_pop σ x0) := by
  refine Ct.of (own := RX7) (nm := "pop") (desc := "()I") rfl (by decide) (Nat.le_of_ble_eq_true rfl) (by decide) (fun X σ => ?_)
  show G X RX7 "pop" cX7_pop 1 (some .int) 2 42 enI 0 [(0, av x0)] [] σ (Reg_pop σ x0)
  unfold Reg_pop
  refine g_aload_n 0 0 dX7_pop_0 rfl rfl ?_
  refine g_dup dX7_pop_1 rfl ?_
  refine g_getI fdX7_72 dX7_pop_2 ?_
  refine g_iconst (v := 1) dX7_pop_5 (by decide) ?_
  refine g_isub dX7_pop_6 ?_
  refine g_putI fpX7_72 dX7_pop_7 (fun σ1 => ?_)
  refine g_aload_n 0 0 dX7_pop_10 rfl rfl ?_
  refine g_aload_n 0 0 dX7_pop_11 rfl rfl ?_
  refine g_getI fdX7_72 dX7_pop_12 ?_
  refine g_callV (fc := fun sς => Reg_operand sς x0 (gI σ1 x0 12)) (ci := 7) (as := [iv (gI σ1 x0 12)]) rfl rfl rfl q2458 qs153 mdX7_75 (ctX7_operand x0 (gI σ1 x0 12)) rfl (Nat.le_of_ble_eq_true rfl) (Nat.le_of_ble_eq_true rfl) (Nat.le_of_ble_eq_true rfl) pu_I dX7_pop_15 (fun r3 σ2 => ?_)
  exact g_ireturn rfl dX7_pop_18
theorem V.dX7_reach_0 : decode cX7_reach 0 = .ok (.iload_n 1, 1) := by decide +kernel
theorem V.dX7_reach_1 : decode cX7_reach 1 = .ok (.aload_n 0, 1) := by decide +kernel
theorem V.dX7_reach_2 : decode cX7_reach 2 = .ok (.getfield 119, 3) := by decide +kernel
theorem V.dX7_reach_5 : decode cX7_reach 5 = .ok (.if_icmp .le 10, 3) := by decide +kernel
theorem V.dX7_reach_8 : decode cX7_reach 8 = .ok (.aload_n 0, 1) := by decide +kernel
theorem V.dX7_reach_9 : decode cX7_reach 9 = .ok (.getfield 24, 3) := by decide +kernel
theorem V.dX7_reach_12 : decode cX7_reach 12 = .ok (.iload_n 1, 1) := by decide +kernel
theorem V.dX7_reach_13 : decode cX7_reach 13 = .ok (.iload_n 2, 1) := by decide +kernel
theorem V.dX7_reach_14 : decode cX7_reach 14 = .ok (.iastore, 1) := by decide +kernel
theorem V.dX7_reach_15 : decode cX7_reach 15 = .ok (.return_, 1) := by decide +kernel
theorem V.fdX7_119 : FD RX7 119 7 15 0 := ⟨(RX7, TX7, 17), tyX7, rfl, rfl, in_X7, by decide, Or.inl q708, rfl⟩
/-! ModuleEngine$Registers.reach(II)V -/
def V.Reg_reach (σ : HS) (x0 : Nat) (x1 : Int32) (x2 : Int32) : Option (Unit × HS) :=
  ck (tg σ x0 = 8) <|
  if x1 ≤ (gI σ x0 15) then (
    some ((), σ))
  else (
    ck (tg σ x0 = 8) <|
    ck (tg σ (gR σ x0 8) = 100 ∧ inb x1 (ln σ (gR σ x0 8))) <| bn (sI σ (gR σ x0 8) (ix x1) x2) fun σ1 =>
    some ((), σ1))
theorem V.ctX7_reach (x0 : Nat) (x1 : Int32) (x2 : Int32) : Ct yX7_reach  cX7_reach 3 none 0 0 eV [av x0, iv x1, iv x2] (fun σ => Reg_reach σ x0 x1 x2) := by
  refine Ct.of (own := RX7) (nm := "reach") (desc := "(II)V") rfl (by decide) (Nat.le_of_ble_eq_true rfl) (by decide) (fun X σ => ?_)
  show G X RX7 "reach" cX7_reach 3 none 0 0 enV 0 [(0, av x0), (1, iv x1), (2, iv x2)] [] σ (Reg_reach σ x0 x1 x2)
  unfold Reg_reach
  refine g_iload_n 1 1 dX7_reach_0 rfl rfl ?_
  refine g_aload_n 0 0 dX7_reach_1 rfl rfl ?_
  refine g_getI fdX7_119 dX7_reach_2 ?_
  refine g_icmp_le 15 dX7_reach_5 (by decide) ?_ ?_
  · exact g_return rfl dX7_reach_15
  · refine g_aload_n 0 0 dX7_reach_8 rfl rfl ?_
    refine g_getR fdX7_24 dX7_reach_9 ?_
    refine g_iload_n 1 1 dX7_reach_12 rfl rfl ?_
    refine g_iload_n 2 2 dX7_reach_13 rfl rfl ?_
    refine g_iastore dX7_reach_14 (fun σ1 => ?_)
    exact g_return rfl dX7_reach_15
theorem V.dX7_lower_0 : decode cX7_lower 0 = .ok (.aload_n 0, 1) := by decide +kernel
theorem V.dX7_lower_1 : decode cX7_lower 1 = .ok (.getfield 72, 3) := by decide +kernel
theorem V.dX7_lower_4 : decode cX7_lower 4 = .ok (.iload_n 1, 1) := by decide +kernel
theorem V.dX7_lower_5 : decode cX7_lower 5 = .ok (.isub, 1) := by decide +kernel
theorem V.dX7_lower_6 : decode cX7_lower 6 = .ok (.istore_n 3, 1) := by decide +kernel
theorem V.dX7_lower_7 : decode cX7_lower 7 = .ok (.iconst 0, 1) := by decide +kernel
theorem V.dX7_lower_8 : decode cX7_lower 8 = .ok (.istore 4, 2) := by decide +kernel
theorem V.dX7_lower_10 : decode cX7_lower 10 = .ok (.iload 4, 2) := by decide +kernel
theorem V.dX7_lower_12 : decode cX7_lower 12 = .ok (.iload_n 1, 1) := by decide +kernel
theorem V.dX7_lower_13 : decode cX7_lower 13 = .ok (.if_icmp .ge 41, 3) := by decide +kernel
theorem V.dX7_lower_16 : decode cX7_lower 16 = .ok (.iload_n 3, 1) := by decide +kernel
theorem V.dX7_lower_17 : decode cX7_lower 17 = .ok (.iload_n 2, 1) := by decide +kernel
theorem V.dX7_lower_18 : decode cX7_lower 18 = .ok (.if_icmp .eq 36, 3) := by decide +kernel
theorem V.dX7_lower_21 : decode cX7_lower 21 = .ok (.aload_n 0, 1) := by decide +kernel
theorem V.dX7_lower_22 : decode cX7_lower 22 = .ok (.sipush 300, 3) := by decide +kernel
theorem V.dX7_lower_25 : decode cX7_lower 25 = .ok (.aload_n 0, 1) := by decide +kernel
theorem V.dX7_lower_26 : decode cX7_lower 26 = .ok (.iload_n 2, 1) := by decide +kernel
theorem V.dX7_lower_27 : decode cX7_lower 27 = .ok (.iload 4, 2) := by decide +kernel
theorem V.dX7_lower_29 : decode cX7_lower 29 = .ok (.iadd, 1) := by decide +kernel
theorem V.dX7_lower_30 : decode cX7_lower 30 = .ok (.invokevirtual 69, 3) := by decide +kernel
theorem V.dX7_lower_33 : decode cX7_lower 33 = .ok (.aload_n 0, 1) := by decide +kernel
theorem V.dX7_lower_34 : decode cX7_lower 34 = .ok (.iload_n 3, 1) := by decide +kernel
theorem V.dX7_lower_35 : decode cX7_lower 35 = .ok (.iload 4, 2) := by decide +kernel
theorem V.dX7_lower_37 : decode cX7_lower 37 = .ok (.iadd, 1) := by decide +kernel
theorem V.dX7_lower_38 : decode cX7_lower 38 = .ok (.invokevirtual 69, 3) := by decide +kernel
theorem V.dX7_lower_41 : decode cX7_lower 41 = .ok (.iconst 0, 1) := by decide +kernel
theorem V.dX7_lower_42 : decode cX7_lower 42 = .ok (.iconst 0, 1) := by decide +kernel
theorem V.dX7_lower_43 : decode cX7_lower 43 = .ok (.iconst 0, 1) := by decide +kernel
theorem V.dX7_lower_44 : decode cX7_lower 44 = .ok (.invokevirtual 78, 3) := by decide +kernel
theorem V.dX7_lower_47 : decode cX7_lower 47 = .ok (.pop, 1) := by decide +kernel
theorem V.dX7_lower_48 : decode cX7_lower 48 = .ok (.iinc 4 1, 3) := by decide +kernel
theorem V.dX7_lower_51 : decode cX7_lower 51 = .ok (.goto (-41), 3) := by decide +kernel
theorem V.dX7_lower_54 : decode cX7_lower 54 = .ok (.return_, 1) := by decide +kernel
/-! ModuleEngine$Registers.lower(II)V -/
def V.Reg_lower_p10  : Nat → HS → Nat → Int32 → Int32 → Int32 → Int32 → Option (Unit × HS)
  | 0, _, _, _, _, _, _ => none
  | n + 1, σ, x0, x1, x2, x3, x4 =>
    if x1 ≤ x4 then (
      some ((), σ))
    else (
      if x3 = x2 then (
        some ((), σ))
      else (
        ck (tg σ x0 = 8) <| cl (Reg_slot σ x0 (x2 + x4)) fun r2 σ1 =>
        ck (tg σ1 x0 = 8) <| cl (Reg_slot σ1 x0 (x3 + x4)) fun r4 σ3 =>
        ck (tg σ3 x0 = 8) <| cl (Reg_emit σ3 x0 (300 : Int32) r2 r4 (0 : Int32) (0 : Int32) (0 : Int32)) fun r6 σ5 =>
        bn (x4 + (1 : Int32)) fun y7 =>
        Reg_lower_p10 n σ5 x0 x1 x2 x3 y7))
theorem V.gX7_lower_p10 {X : CX}  : ∀ (n : Nat) (σ : HS) (x0 : Nat) (x1 : Int32) (x2 : Int32) (x3 : Int32) (x4 : Int32), G X RX7 "lower" cX7_lower 5 none 1 28 enV 10 [(0, av x0), (1, iv x1), (2, iv x2), (3, iv x3), (4, iv x4)] [] σ (Reg_lower_p10 n σ x0 x1 x2 x3 x4)
  | 0, σ, x0, x1, x2, x3, x4 => by rw [Reg_lower_p10]; exact G.nul
  | n + 1, σ, x0, x1, x2, x3, x4 => by
    rw [Reg_lower_p10]
    refine g_iload 4 dX7_lower_10 rfl ?_
    refine g_iload_n 1 1 dX7_lower_12 rfl rfl ?_
    refine g_icmp_ge 54 dX7_lower_13 (by decide) ?_ ?_
    · exact g_return rfl dX7_lower_54
    · refine g_iload_n 3 3 dX7_lower_16 rfl rfl ?_
      refine g_iload_n 2 2 dX7_lower_17 rfl rfl ?_
      refine g_icmp_eq 54 dX7_lower_18 (by decide) ?_ ?_
      · exact g_return rfl dX7_lower_54
      · refine g_aload_n 0 0 dX7_lower_21 rfl rfl ?_
        refine g_sipush (v := 300) dX7_lower_22 (by decide) ?_
        refine g_aload_n 0 0 dX7_lower_25 rfl rfl ?_
        refine g_iload_n 2 2 dX7_lower_26 rfl rfl ?_
        refine g_iload 4 dX7_lower_27 rfl ?_
        refine g_iadd dX7_lower_29 ?_
        refine g_callV (fc := fun sς => Reg_slot sς x0 (x2 + x4)) (ci := 7) (as := [iv (x2 + x4)]) rfl rfl rfl q2434 qs147 mdX7_69 (ctX7_slot x0 (x2 + x4)) rfl (Nat.le_of_ble_eq_true rfl) (Nat.le_of_ble_eq_true rfl) (Nat.le_of_ble_eq_true rfl) pu_I dX7_lower_30 (fun r2 σ1 => ?_)
        refine g_aload_n 0 0 dX7_lower_33 rfl rfl ?_
        refine g_iload_n 3 3 dX7_lower_34 rfl rfl ?_
        refine g_iload 4 dX7_lower_35 rfl ?_
        refine g_iadd dX7_lower_37 ?_
        refine g_callV (fc := fun sς => Reg_slot sς x0 (x3 + x4)) (ci := 7) (as := [iv (x3 + x4)]) rfl rfl rfl q2434 qs147 mdX7_69 (ctX7_slot x0 (x3 + x4)) rfl (Nat.le_of_ble_eq_true rfl) (Nat.le_of_ble_eq_true rfl) (Nat.le_of_ble_eq_true rfl) pu_I dX7_lower_38 (fun r4 σ3 => ?_)
        refine g_iconst (v := 0) dX7_lower_41 (by decide) ?_
        refine g_iconst (v := 0) dX7_lower_42 (by decide) ?_
        refine g_iconst (v := 0) dX7_lower_43 (by decide) ?_
        refine g_callV (fc := fun sς => Reg_emit sς x0 (300 : Int32) r2 r4 (0 : Int32) (0 : Int32) (0 : Int32)) (ci := 7) (as := [iv (300 : Int32), iv r2, iv r4, iv (0 : Int32), iv (0 : Int32), iv (0 : Int32)]) rfl rfl rfl q2438 qs148 mdX7_78 (ctX7_emit x0 (300 : Int32) r2 r4 (0 : Int32) (0 : Int32) (0 : Int32)) rfl (Nat.le_of_ble_eq_true rfl) (Nat.le_of_ble_eq_true rfl) (Nat.le_of_ble_eq_true rfl) pu_I dX7_lower_44 (fun r6 σ5 => ?_)
        refine g_pop dX7_lower_47 rfl ?_
        refine g_iincB (w := 1) 4 dX7_lower_48 rfl (by decide) (by decide) (fun _ => rfl) (fun y7 => ?_)
        refine g_goto 10 dX7_lower_51 (by decide) ?_
        refine G.sub [1, 2, 3, 4, 0] rfl ?_
        exact gX7_lower_p10 n _ _ _ _ _ _
def V.Reg_lower (σ : HS) (x0 : Nat) (x1 : Int32) (x2 : Int32) : Option (Unit × HS) :=
  ck (tg σ x0 = 8) <|
  bn ((gI σ x0 12) - x1) fun y1 =>
  Reg_lower_p10 FU σ x0 x1 x2 y1 (0 : Int32)
theorem V.ctX7_lower (x0 : Nat) (x1 : Int32) (x2 : Int32) : Ct yX7_lower  cX7_lower 5 none 1 28 eV [av x0, iv x1, iv x2] (fun σ => Reg_lower σ x0 x1 x2) := by
  refine Ct.of (own := RX7) (nm := "lower") (desc := "(II)V") rfl (by decide) (Nat.le_of_ble_eq_true rfl) (by decide) (fun X σ => ?_)
  show G X RX7 "lower" cX7_lower 5 none 1 28 enV 0 [(0, av x0), (1, iv x1), (2, iv x2)] [] σ (Reg_lower σ x0 x1 x2)
  unfold Reg_lower
  refine g_aload_n 0 0 dX7_lower_0 rfl rfl ?_
  refine g_getI fdX7_72 dX7_lower_1 ?_
  refine g_iload_n 1 1 dX7_lower_4 rfl rfl ?_
  refine g_isub dX7_lower_5 ?_
  refine g_nmI (fun y1 => ?_)
  refine g_istore_n 3 dX7_lower_6 rfl (by decide) rfl ?_
  refine g_iconst (v := 0) dX7_lower_7 (by decide) ?_
  refine g_istore dX7_lower_8 (by decide) rfl ?_
  refine G.sub [2, 3, 4, 1, 0] rfl ?_
  exact gX7_lower_p10 FU _ _ _ _ _ _
theorem V.dX7_branchIf_0 : decode cX7_branchIf 0 = .ok (.aload_n 0, 1) := by decide +kernel
theorem V.dX7_branchIf_1 : decode cX7_branchIf 1 = .ok (.invokevirtual 134, 3) := by decide +kernel
theorem V.dX7_branchIf_4 : decode cX7_branchIf 4 = .ok (.istore 4, 2) := by decide +kernel
theorem V.dX7_branchIf_6 : decode cX7_branchIf 6 = .ok (.aload_n 0, 1) := by decide +kernel
theorem V.dX7_branchIf_7 : decode cX7_branchIf 7 = .ok (.iconst 0, 1) := by decide +kernel
theorem V.dX7_branchIf_8 : decode cX7_branchIf 8 = .ok (.invokevirtual 125, 3) := by decide +kernel
theorem V.dX7_branchIf_11 : decode cX7_branchIf 11 = .ok (.aload_n 0, 1) := by decide +kernel
theorem V.dX7_branchIf_12 : decode cX7_branchIf 12 = .ok (.sipush 303, 3) := by decide +kernel
theorem V.dX7_branchIf_15 : decode cX7_branchIf 15 = .ok (.iconst 0, 1) := by decide +kernel
theorem V.dX7_branchIf_16 : decode cX7_branchIf 16 = .ok (.iload 4, 2) := by decide +kernel
theorem V.dX7_branchIf_18 : decode cX7_branchIf 18 = .ok (.iconst 0, 1) := by decide +kernel
theorem V.dX7_branchIf_19 : decode cX7_branchIf 19 = .ok (.iconst 0, 1) := by decide +kernel
theorem V.dX7_branchIf_20 : decode cX7_branchIf 20 = .ok (.aload_n 0, 1) := by decide +kernel
theorem V.dX7_branchIf_21 : decode cX7_branchIf 21 = .ok (.iconst 1, 1) := by decide +kernel
theorem V.dX7_branchIf_22 : decode cX7_branchIf 22 = .ok (.invokevirtual 128, 3) := by decide +kernel
theorem V.dX7_branchIf_25 : decode cX7_branchIf 25 = .ok (.invokevirtual 78, 3) := by decide +kernel
theorem V.dX7_branchIf_28 : decode cX7_branchIf 28 = .ok (.istore 5, 2) := by decide +kernel
theorem V.dX7_branchIf_30 : decode cX7_branchIf 30 = .ok (.aload_n 0, 1) := by decide +kernel
theorem V.dX7_branchIf_31 : decode cX7_branchIf 31 = .ok (.iload_n 1, 1) := by decide +kernel
theorem V.dX7_branchIf_32 : decode cX7_branchIf 32 = .ok (.iload_n 2, 1) := by decide +kernel
theorem V.dX7_branchIf_33 : decode cX7_branchIf 33 = .ok (.iload_n 3, 1) := by decide +kernel
theorem V.dX7_branchIf_34 : decode cX7_branchIf 34 = .ok (.iadd, 1) := by decide +kernel
theorem V.dX7_branchIf_35 : decode cX7_branchIf 35 = .ok (.invokevirtual 137, 3) := by decide +kernel
theorem V.dX7_branchIf_38 : decode cX7_branchIf 38 = .ok (.aload_n 0, 1) := by decide +kernel
theorem V.dX7_branchIf_39 : decode cX7_branchIf 39 = .ok (.iload_n 2, 1) := by decide +kernel
theorem V.dX7_branchIf_40 : decode cX7_branchIf 40 = .ok (.iload_n 3, 1) := by decide +kernel
theorem V.dX7_branchIf_41 : decode cX7_branchIf 41 = .ok (.invokevirtual 140, 3) := by decide +kernel
theorem V.dX7_branchIf_44 : decode cX7_branchIf 44 = .ok (.aload_n 0, 1) := by decide +kernel
theorem V.dX7_branchIf_45 : decode cX7_branchIf 45 = .ok (.sipush 302, 3) := by decide +kernel
theorem V.dX7_branchIf_48 : decode cX7_branchIf 48 = .ok (.iload_n 1, 1) := by decide +kernel
theorem V.dX7_branchIf_49 : decode cX7_branchIf 49 = .ok (.iconst 0, 1) := by decide +kernel
theorem V.dX7_branchIf_50 : decode cX7_branchIf 50 = .ok (.iconst 0, 1) := by decide +kernel
theorem V.dX7_branchIf_51 : decode cX7_branchIf 51 = .ok (.iconst 0, 1) := by decide +kernel
theorem V.dX7_branchIf_52 : decode cX7_branchIf 52 = .ok (.iconst 0, 1) := by decide +kernel
theorem V.dX7_branchIf_53 : decode cX7_branchIf 53 = .ok (.invokevirtual 78, 3) := by decide +kernel
theorem V.dX7_branchIf_56 : decode cX7_branchIf 56 = .ok (.pop, 1) := by decide +kernel
theorem V.dX7_branchIf_57 : decode cX7_branchIf 57 = .ok (.aload_n 0, 1) := by decide +kernel
theorem V.dX7_branchIf_58 : decode cX7_branchIf 58 = .ok (.getfield 56, 3) := by decide +kernel
theorem V.dX7_branchIf_61 : decode cX7_branchIf 61 = .ok (.ifCond .ne 21, 3) := by decide +kernel
theorem V.dX7_branchIf_64 : decode cX7_branchIf 64 = .ok (.aload_n 0, 1) := by decide +kernel
theorem V.dX7_branchIf_65 : decode cX7_branchIf 65 = .ok (.getfield 7, 3) := by decide +kernel
theorem V.dX7_branchIf_68 : decode cX7_branchIf 68 = .ok (.bipush 6, 2) := by decide +kernel
theorem V.dX7_branchIf_70 : decode cX7_branchIf 70 = .ok (.iload 5, 2) := by decide +kernel
theorem V.dX7_branchIf_72 : decode cX7_branchIf 72 = .ok (.imul, 1) := by decide +kernel
theorem V.dX7_branchIf_73 : decode cX7_branchIf 73 = .ok (.iconst 1, 1) := by decide +kernel
theorem V.dX7_branchIf_74 : decode cX7_branchIf 74 = .ok (.iadd, 1) := by decide +kernel
theorem V.dX7_branchIf_75 : decode cX7_branchIf 75 = .ok (.iconst (-1), 1) := by decide +kernel
theorem V.dX7_branchIf_76 : decode cX7_branchIf 76 = .ok (.aload_n 0, 1) := by decide +kernel
theorem V.dX7_branchIf_77 : decode cX7_branchIf 77 = .ok (.getfield 52, 3) := by decide +kernel
theorem V.dX7_branchIf_80 : decode cX7_branchIf 80 = .ok (.isub, 1) := by decide +kernel
theorem V.dX7_branchIf_81 : decode cX7_branchIf 81 = .ok (.iastore, 1) := by decide +kernel
theorem V.dX7_branchIf_82 : decode cX7_branchIf 82 = .ok (.return_, 1) := by decide +kernel
theorem V.mdX7_134 : MD RX7 134 yX7_pop cX7_pop 1 (some .int) 0 := ⟨Or.inl q2452, q367, q2455, by decide, by decide, by decide +kernel⟩
theorem V.mdX7_137 : MD RX7 137 yX7_reach cX7_reach 3 none 2 := ⟨Or.inl q2460, q367, q2463, by decide, by decide, by decide +kernel⟩
theorem V.mdX7_140 : MD RX7 140 yX7_lower cX7_lower 5 none 2 := ⟨Or.inl q2464, q367, q2467, by decide, by decide, by decide +kernel⟩
theorem V.fdX7_56 : FD RX7 56 7 7 0 := ⟨(RX7, TX7, 17), tyX7, rfl, rfl, in_X7, by decide, Or.inl q700, rfl⟩
/-! ModuleEngine$Registers.branchIf(III)V -/
def V.Reg_branchIf (σ : HS) (x0 : Nat) (x1 : Int32) (x2 : Int32) (x3 : Int32) : Option (Unit × HS) :=
  ck (tg σ x0 = 8) <| cl (Reg_pop σ x0 ) fun r2 σ1 =>
  ck (tg σ1 x0 = 8) <| cl (Reg_settle σ1 x0 (0 : Int32)) fun _ σ3 =>
  ck (tg σ3 x0 = 8) <| cl (Reg_steps σ3 x0 (1 : Int32)) fun r5 σ4 =>
  ck (tg σ4 x0 = 8) <| cl (Reg_emit σ4 x0 (303 : Int32) (0 : Int32) r2 (0 : Int32) (0 : Int32) r5) fun r7 σ6 =>
  ck (tg σ6 x0 = 8) <| cl (Reg_reach σ6 x0 x1 (x2 + x3)) fun _ σ8 =>
  ck (tg σ8 x0 = 8) <| cl (Reg_lower σ8 x0 x2 x3) fun _ σ9 =>
  ck (tg σ9 x0 = 8) <| cl (Reg_emit σ9 x0 (302 : Int32) x1 (0 : Int32) (0 : Int32) (0 : Int32) (0 : Int32)) fun r11 σ10 =>
  ck (tg σ10 x0 = 8) <|
  if (gI σ10 x0 7) = 0 then (
    ck (tg σ10 x0 = 8) <|
    ck (tg σ10 x0 = 8) <|
    ck (tg σ10 (gR σ10 x0 2) = 100 ∧ inb (((6 : Int32) * r7) + (1 : Int32)) (ln σ10 (gR σ10 x0 2))) <| bn (sI σ10 (gR σ10 x0 2) (ix (((6 : Int32) * r7) + (1 : Int32))) ((-1 : Int32) - (gI σ10 x0 3))) fun σ12 =>
    some ((), σ12))
  else (
    some ((), σ10))
theorem V.ctX7_branchIf (x0 : Nat) (x1 : Int32) (x2 : Int32) (x3 : Int32) : Ct yX7_branchIf  cX7_branchIf 6 none 3 62 eV [av x0, iv x1, iv x2, iv x3] (fun σ => Reg_branchIf σ x0 x1 x2 x3) := by
  refine Ct.of (own := RX7) (nm := "branchIf") (desc := "(III)V") rfl (by decide) (Nat.le_of_ble_eq_true rfl) (by decide) (fun X σ => ?_)
  show G X RX7 "branchIf" cX7_branchIf 6 none 3 62 enV 0 [(0, av x0), (1, iv x1), (2, iv x2), (3, iv x3)] [] σ (Reg_branchIf σ x0 x1 x2 x3)
  unfold Reg_branchIf
  refine g_aload_n 0 0 dX7_branchIf_0 rfl rfl ?_
  refine g_callV (fc := fun sς => Reg_pop sς x0 ) (ci := 7) (as := []) rfl rfl rfl q2454 qs152 mdX7_134 (ctX7_pop x0 ) rfl (Nat.le_of_ble_eq_true rfl) (Nat.le_of_ble_eq_true rfl) (Nat.le_of_ble_eq_true rfl) pu_I dX7_branchIf_1 (fun r2 σ1 => ?_)
  refine g_istore dX7_branchIf_4 (by decide) rfl ?_
  refine g_aload_n 0 1 dX7_branchIf_6 rfl rfl ?_
  refine g_iconst (v := 0) dX7_branchIf_7 (by decide) ?_
  refine g_callV (fc := fun sς => Reg_settle sς x0 (0 : Int32)) (ci := 7) (as := [iv (0 : Int32)]) rfl rfl rfl q2430 qs146 mdX7_125 (ctX7_settle x0 (0 : Int32)) rfl (Nat.le_of_ble_eq_true rfl) (Nat.le_of_ble_eq_true rfl) (Nat.le_of_ble_eq_true rfl) pu_V dX7_branchIf_8 (fun _ σ3 => ?_)
  refine g_aload_n 0 1 dX7_branchIf_11 rfl rfl ?_
  refine g_sipush (v := 303) dX7_branchIf_12 (by decide) ?_
  refine g_iconst (v := 0) dX7_branchIf_15 (by decide) ?_
  refine g_iload 0 dX7_branchIf_16 rfl ?_
  refine g_iconst (v := 0) dX7_branchIf_18 (by decide) ?_
  refine g_iconst (v := 0) dX7_branchIf_19 (by decide) ?_
  refine g_aload_n 0 1 dX7_branchIf_20 rfl rfl ?_
  refine g_iconst (v := 1) dX7_branchIf_21 (by decide) ?_
  refine g_callV (fc := fun sς => Reg_steps sς x0 (1 : Int32)) (ci := 7) (as := [iv (1 : Int32)]) rfl rfl rfl q2442 qs149 mdX7_128 (ctX7_steps x0 (1 : Int32)) rfl (Nat.le_of_ble_eq_true rfl) (Nat.le_of_ble_eq_true rfl) (Nat.le_of_ble_eq_true rfl) pu_I dX7_branchIf_22 (fun r5 σ4 => ?_)
  refine g_callV (fc := fun sς => Reg_emit sς x0 (303 : Int32) (0 : Int32) r2 (0 : Int32) (0 : Int32) r5) (ci := 7) (as := [iv (303 : Int32), iv (0 : Int32), iv r2, iv (0 : Int32), iv (0 : Int32), iv r5]) rfl rfl rfl q2438 qs148 mdX7_78 (ctX7_emit x0 (303 : Int32) (0 : Int32) r2 (0 : Int32) (0 : Int32) r5) rfl (Nat.le_of_ble_eq_true rfl) (Nat.le_of_ble_eq_true rfl) (Nat.le_of_ble_eq_true rfl) pu_I dX7_branchIf_25 (fun r7 σ6 => ?_)
  refine g_istore dX7_branchIf_28 (by decide) rfl ?_
  refine g_aload_n 0 2 dX7_branchIf_30 rfl rfl ?_
  refine g_iload_n 1 3 dX7_branchIf_31 rfl rfl ?_
  refine g_iload_n 2 4 dX7_branchIf_32 rfl rfl ?_
  refine g_iload_n 3 5 dX7_branchIf_33 rfl rfl ?_
  refine g_iadd dX7_branchIf_34 ?_
  refine g_callV (fc := fun sς => Reg_reach sς x0 x1 (x2 + x3)) (ci := 7) (as := [iv x1, iv (x2 + x3)]) rfl rfl rfl q2462 qs154 mdX7_137 (ctX7_reach x0 x1 (x2 + x3)) rfl (Nat.le_of_ble_eq_true rfl) (Nat.le_of_ble_eq_true rfl) (Nat.le_of_ble_eq_true rfl) pu_V dX7_branchIf_35 (fun _ σ8 => ?_)
  refine g_aload_n 0 2 dX7_branchIf_38 rfl rfl ?_
  refine g_iload_n 2 4 dX7_branchIf_39 rfl rfl ?_
  refine g_iload_n 3 5 dX7_branchIf_40 rfl rfl ?_
  refine g_callV (fc := fun sς => Reg_lower sς x0 x2 x3) (ci := 7) (as := [iv x2, iv x3]) rfl rfl rfl q2466 qs155 mdX7_140 (ctX7_lower x0 x2 x3) rfl (Nat.le_of_ble_eq_true rfl) (Nat.le_of_ble_eq_true rfl) (Nat.le_of_ble_eq_true rfl) pu_V dX7_branchIf_41 (fun _ σ9 => ?_)
  refine g_aload_n 0 2 dX7_branchIf_44 rfl rfl ?_
  refine g_sipush (v := 302) dX7_branchIf_45 (by decide) ?_
  refine g_iload_n 1 3 dX7_branchIf_48 rfl rfl ?_
  refine g_iconst (v := 0) dX7_branchIf_49 (by decide) ?_
  refine g_iconst (v := 0) dX7_branchIf_50 (by decide) ?_
  refine g_iconst (v := 0) dX7_branchIf_51 (by decide) ?_
  refine g_iconst (v := 0) dX7_branchIf_52 (by decide) ?_
  refine g_callV (fc := fun sς => Reg_emit sς x0 (302 : Int32) x1 (0 : Int32) (0 : Int32) (0 : Int32) (0 : Int32)) (ci := 7) (as := [iv (302 : Int32), iv x1, iv (0 : Int32), iv (0 : Int32), iv (0 : Int32), iv (0 : Int32)]) rfl rfl rfl q2438 qs148 mdX7_78 (ctX7_emit x0 (302 : Int32) x1 (0 : Int32) (0 : Int32) (0 : Int32) (0 : Int32)) rfl (Nat.le_of_ble_eq_true rfl) (Nat.le_of_ble_eq_true rfl) (Nat.le_of_ble_eq_true rfl) pu_I dX7_branchIf_53 (fun r11 σ10 => ?_)
  refine g_pop dX7_branchIf_56 rfl ?_
  refine g_aload_n 0 2 dX7_branchIf_57 rfl rfl ?_
  refine g_getI fdX7_56 dX7_branchIf_58 ?_
  refine g_if_ne 82 dX7_branchIf_61 (by decide) ?_ ?_
  · exact g_return rfl dX7_branchIf_82
  · refine g_aload_n 0 2 dX7_branchIf_64 rfl rfl ?_
    refine g_getR fdX7_7 dX7_branchIf_65 ?_
    refine g_bipush (v := 6) dX7_branchIf_68 (by decide) ?_
    refine g_iload 0 dX7_branchIf_70 rfl ?_
    refine g_imul dX7_branchIf_72 ?_
    refine g_iconst (v := 1) dX7_branchIf_73 (by decide) ?_
    refine g_iadd dX7_branchIf_74 ?_
    refine g_iconst (v := (-1)) dX7_branchIf_75 (by decide) ?_
    refine g_aload_n 0 2 dX7_branchIf_76 rfl rfl ?_
    refine g_getI fdX7_52 dX7_branchIf_77 ?_
    refine g_isub dX7_branchIf_80 ?_
    refine g_iastore dX7_branchIf_81 (fun σ12 => ?_)
    exact g_return rfl dX7_branchIf_82
theorem V.dX7_table_0 : decode cX7_table 0 = .ok (.aload_n 0, 1) := by decide +kernel
theorem V.dX7_table_1 : decode cX7_table 1 = .ok (.invokevirtual 134, 3) := by decide +kernel
theorem V.dX7_table_4 : decode cX7_table 4 = .ok (.istore_n 3, 1) := by decide +kernel
theorem V.dX7_table_5 : decode cX7_table 5 = .ok (.aload_n 0, 1) := by decide +kernel
theorem V.dX7_table_6 : decode cX7_table 6 = .ok (.iconst 0, 1) := by decide +kernel
theorem V.dX7_table_7 : decode cX7_table 7 = .ok (.invokevirtual 125, 3) := by decide +kernel
theorem V.dX7_table_10 : decode cX7_table 10 = .ok (.aload_n 0, 1) := by decide +kernel
theorem V.dX7_table_11 : decode cX7_table 11 = .ok (.sipush 304, 3) := by decide +kernel
theorem V.dX7_table_14 : decode cX7_table 14 = .ok (.iload_n 2, 1) := by decide +kernel
theorem V.dX7_table_15 : decode cX7_table 15 = .ok (.iload_n 3, 1) := by decide +kernel
theorem V.dX7_table_16 : decode cX7_table 16 = .ok (.iconst 0, 1) := by decide +kernel
theorem V.dX7_table_17 : decode cX7_table 17 = .ok (.iconst 0, 1) := by decide +kernel
theorem V.dX7_table_18 : decode cX7_table 18 = .ok (.aload_n 0, 1) := by decide +kernel
theorem V.dX7_table_19 : decode cX7_table 19 = .ok (.iconst 1, 1) := by decide +kernel
theorem V.dX7_table_20 : decode cX7_table 20 = .ok (.invokevirtual 128, 3) := by decide +kernel
theorem V.dX7_table_23 : decode cX7_table 23 = .ok (.invokevirtual 78, 3) := by decide +kernel
theorem V.dX7_table_26 : decode cX7_table 26 = .ok (.pop, 1) := by decide +kernel
theorem V.dX7_table_27 : decode cX7_table 27 = .ok (.aload_n 0, 1) := by decide +kernel
theorem V.dX7_table_28 : decode cX7_table 28 = .ok (.getfield 52, 3) := by decide +kernel
theorem V.dX7_table_31 : decode cX7_table 31 = .ok (.istore 4, 2) := by decide +kernel
theorem V.dX7_table_33 : decode cX7_table 33 = .ok (.iconst 0, 1) := by decide +kernel
theorem V.dX7_table_34 : decode cX7_table 34 = .ok (.istore 5, 2) := by decide +kernel
theorem V.dX7_table_36 : decode cX7_table 36 = .ok (.iload 5, 2) := by decide +kernel
theorem V.dX7_table_38 : decode cX7_table 38 = .ok (.iload_n 2, 1) := by decide +kernel
theorem V.dX7_table_39 : decode cX7_table 39 = .ok (.if_icmp .gt 35, 3) := by decide +kernel
theorem V.dX7_table_42 : decode cX7_table 42 = .ok (.aload_n 0, 1) := by decide +kernel
theorem V.dX7_table_43 : decode cX7_table 43 = .ok (.sipush 302, 3) := by decide +kernel
theorem V.dX7_table_46 : decode cX7_table 46 = .ok (.aload_n 0, 1) := by decide +kernel
theorem V.dX7_table_47 : decode cX7_table 47 = .ok (.getfield 36, 3) := by decide +kernel
theorem V.dX7_table_50 : decode cX7_table 50 = .ok (.iload_n 1, 1) := by decide +kernel
theorem V.dX7_table_51 : decode cX7_table 51 = .ok (.iconst 1, 1) := by decide +kernel
theorem V.dX7_table_52 : decode cX7_table 52 = .ok (.iadd, 1) := by decide +kernel
theorem V.dX7_table_53 : decode cX7_table 53 = .ok (.iload 5, 2) := by decide +kernel
theorem V.dX7_table_55 : decode cX7_table 55 = .ok (.iadd, 1) := by decide +kernel
theorem V.dX7_table_56 : decode cX7_table 56 = .ok (.iconst 1, 1) := by decide +kernel
theorem V.dX7_table_57 : decode cX7_table 57 = .ok (.invokevirtual 106, 3) := by decide +kernel
theorem V.dX7_table_60 : decode cX7_table 60 = .ok (.iconst 0, 1) := by decide +kernel
theorem V.dX7_table_61 : decode cX7_table 61 = .ok (.iconst 0, 1) := by decide +kernel
theorem V.dX7_table_62 : decode cX7_table 62 = .ok (.iconst 0, 1) := by decide +kernel
theorem V.dX7_table_63 : decode cX7_table 63 = .ok (.iconst 0, 1) := by decide +kernel
theorem V.dX7_table_64 : decode cX7_table 64 = .ok (.invokevirtual 78, 3) := by decide +kernel
theorem V.dX7_table_67 : decode cX7_table 67 = .ok (.pop, 1) := by decide +kernel
theorem V.dX7_table_68 : decode cX7_table 68 = .ok (.iinc 5 1, 3) := by decide +kernel
theorem V.dX7_table_71 : decode cX7_table 71 = .ok (.goto (-35), 3) := by decide +kernel
theorem V.dX7_table_74 : decode cX7_table 74 = .ok (.iconst 0, 1) := by decide +kernel
theorem V.dX7_table_75 : decode cX7_table 75 = .ok (.istore 5, 2) := by decide +kernel
theorem V.dX7_table_77 : decode cX7_table 77 = .ok (.iload 5, 2) := by decide +kernel
theorem V.dX7_table_79 : decode cX7_table 79 = .ok (.iload_n 2, 1) := by decide +kernel
theorem V.dX7_table_80 : decode cX7_table 80 = .ok (.if_icmp .gt 143, 3) := by decide +kernel
theorem V.dX7_table_83 : decode cX7_table 83 = .ok (.aload_n 0, 1) := by decide +kernel
theorem V.dX7_table_84 : decode cX7_table 84 = .ok (.getfield 36, 3) := by decide +kernel
theorem V.dX7_table_87 : decode cX7_table 87 = .ok (.iload_n 1, 1) := by decide +kernel
theorem V.dX7_table_88 : decode cX7_table 88 = .ok (.iconst 1, 1) := by decide +kernel
theorem V.dX7_table_89 : decode cX7_table 89 = .ok (.iadd, 1) := by decide +kernel
theorem V.dX7_table_90 : decode cX7_table 90 = .ok (.iload 5, 2) := by decide +kernel
theorem V.dX7_table_92 : decode cX7_table 92 = .ok (.iadd, 1) := by decide +kernel
theorem V.dX7_table_93 : decode cX7_table 93 = .ok (.iconst 2, 1) := by decide +kernel
theorem V.dX7_table_94 : decode cX7_table 94 = .ok (.invokevirtual 106, 3) := by decide +kernel
theorem V.dX7_table_97 : decode cX7_table 97 = .ok (.istore 6, 2) := by decide +kernel
theorem V.dX7_table_99 : decode cX7_table 99 = .ok (.aload_n 0, 1) := by decide +kernel
theorem V.dX7_table_100 : decode cX7_table 100 = .ok (.getfield 36, 3) := by decide +kernel
theorem V.dX7_table_103 : decode cX7_table 103 = .ok (.iload_n 1, 1) := by decide +kernel
theorem V.dX7_table_104 : decode cX7_table 104 = .ok (.iconst 1, 1) := by decide +kernel
theorem V.dX7_table_105 : decode cX7_table 105 = .ok (.iadd, 1) := by decide +kernel
theorem V.dX7_table_106 : decode cX7_table 106 = .ok (.iload 5, 2) := by decide +kernel
theorem V.dX7_table_108 : decode cX7_table 108 = .ok (.iadd, 1) := by decide +kernel
theorem V.dX7_table_109 : decode cX7_table 109 = .ok (.iconst 3, 1) := by decide +kernel
theorem V.dX7_table_110 : decode cX7_table 110 = .ok (.invokevirtual 106, 3) := by decide +kernel
theorem V.dX7_table_113 : decode cX7_table 113 = .ok (.istore 7, 2) := by decide +kernel
theorem V.dX7_table_115 : decode cX7_table 115 = .ok (.aload_n 0, 1) := by decide +kernel
theorem V.dX7_table_116 : decode cX7_table 116 = .ok (.aload_n 0, 1) := by decide +kernel
theorem V.dX7_table_117 : decode cX7_table 117 = .ok (.getfield 36, 3) := by decide +kernel
theorem V.dX7_table_120 : decode cX7_table 120 = .ok (.iload_n 1, 1) := by decide +kernel
theorem V.dX7_table_121 : decode cX7_table 121 = .ok (.iconst 1, 1) := by decide +kernel
theorem V.dX7_table_122 : decode cX7_table 122 = .ok (.iadd, 1) := by decide +kernel
theorem V.dX7_table_123 : decode cX7_table 123 = .ok (.iload 5, 2) := by decide +kernel
theorem V.dX7_table_125 : decode cX7_table 125 = .ok (.iadd, 1) := by decide +kernel
theorem V.dX7_table_126 : decode cX7_table 126 = .ok (.iconst 1, 1) := by decide +kernel
theorem V.dX7_table_127 : decode cX7_table 127 = .ok (.invokevirtual 106, 3) := by decide +kernel
theorem V.dX7_table_130 : decode cX7_table 130 = .ok (.iload 6, 2) := by decide +kernel
theorem V.dX7_table_132 : decode cX7_table 132 = .ok (.iload 7, 2) := by decide +kernel
theorem V.dX7_table_134 : decode cX7_table 134 = .ok (.iadd, 1) := by decide +kernel
theorem V.dX7_table_135 : decode cX7_table 135 = .ok (.invokevirtual 137, 3) := by decide +kernel
theorem V.dX7_table_138 : decode cX7_table 138 = .ok (.iload 6, 2) := by decide +kernel
theorem V.dX7_table_140 : decode cX7_table 140 = .ok (.ifCond .le 77, 3) := by decide +kernel
theorem V.dX7_table_143 : decode cX7_table 143 = .ok (.aload_n 0, 1) := by decide +kernel
theorem V.dX7_table_144 : decode cX7_table 144 = .ok (.getfield 72, 3) := by decide +kernel
theorem V.dX7_table_147 : decode cX7_table 147 = .ok (.iload 6, 2) := by decide +kernel
theorem V.dX7_table_149 : decode cX7_table 149 = .ok (.isub, 1) := by decide +kernel
theorem V.dX7_table_150 : decode cX7_table 150 = .ok (.iload 7, 2) := by decide +kernel
theorem V.dX7_table_152 : decode cX7_table 152 = .ok (.if_icmp .eq 65, 3) := by decide +kernel
theorem V.dX7_table_155 : decode cX7_table 155 = .ok (.aload_n 0, 1) := by decide +kernel
theorem V.dX7_table_156 : decode cX7_table 156 = .ok (.getfield 56, 3) := by decide +kernel
theorem V.dX7_table_159 : decode cX7_table 159 = .ok (.ifCond .ne 58, 3) := by decide +kernel
theorem V.dX7_table_162 : decode cX7_table 162 = .ok (.aload_n 0, 1) := by decide +kernel
theorem V.dX7_table_163 : decode cX7_table 163 = .ok (.getfield 7, 3) := by decide +kernel
theorem V.dX7_table_166 : decode cX7_table 166 = .ok (.bipush 6, 2) := by decide +kernel
theorem V.dX7_table_168 : decode cX7_table 168 = .ok (.iload 4, 2) := by decide +kernel
theorem V.dX7_table_170 : decode cX7_table 170 = .ok (.iload 5, 2) := by decide +kernel
theorem V.dX7_table_172 : decode cX7_table 172 = .ok (.iadd, 1) := by decide +kernel
theorem V.dX7_table_173 : decode cX7_table 173 = .ok (.imul, 1) := by decide +kernel
theorem V.dX7_table_174 : decode cX7_table 174 = .ok (.iconst 1, 1) := by decide +kernel
theorem V.dX7_table_175 : decode cX7_table 175 = .ok (.iadd, 1) := by decide +kernel
theorem V.dX7_table_176 : decode cX7_table 176 = .ok (.iconst (-1), 1) := by decide +kernel
theorem V.dX7_table_177 : decode cX7_table 177 = .ok (.aload_n 0, 1) := by decide +kernel
theorem V.dX7_table_178 : decode cX7_table 178 = .ok (.getfield 52, 3) := by decide +kernel
theorem V.dX7_table_181 : decode cX7_table 181 = .ok (.isub, 1) := by decide +kernel
theorem V.dX7_table_182 : decode cX7_table 182 = .ok (.iastore, 1) := by decide +kernel
theorem V.dX7_table_183 : decode cX7_table 183 = .ok (.aload_n 0, 1) := by decide +kernel
theorem V.dX7_table_184 : decode cX7_table 184 = .ok (.iload 6, 2) := by decide +kernel
theorem V.dX7_table_186 : decode cX7_table 186 = .ok (.iload 7, 2) := by decide +kernel
theorem V.dX7_table_188 : decode cX7_table 188 = .ok (.invokevirtual 140, 3) := by decide +kernel
theorem V.dX7_table_191 : decode cX7_table 191 = .ok (.aload_n 0, 1) := by decide +kernel
theorem V.dX7_table_192 : decode cX7_table 192 = .ok (.sipush 302, 3) := by decide +kernel
theorem V.dX7_table_195 : decode cX7_table 195 = .ok (.aload_n 0, 1) := by decide +kernel
theorem V.dX7_table_196 : decode cX7_table 196 = .ok (.getfield 36, 3) := by decide +kernel
theorem V.dX7_table_199 : decode cX7_table 199 = .ok (.iload_n 1, 1) := by decide +kernel
theorem V.dX7_table_200 : decode cX7_table 200 = .ok (.iconst 1, 1) := by decide +kernel
theorem V.dX7_table_201 : decode cX7_table 201 = .ok (.iadd, 1) := by decide +kernel
theorem V.dX7_table_202 : decode cX7_table 202 = .ok (.iload 5, 2) := by decide +kernel
theorem V.dX7_table_204 : decode cX7_table 204 = .ok (.iadd, 1) := by decide +kernel
theorem V.dX7_table_205 : decode cX7_table 205 = .ok (.iconst 1, 1) := by decide +kernel
theorem V.dX7_table_206 : decode cX7_table 206 = .ok (.invokevirtual 106, 3) := by decide +kernel
theorem V.dX7_table_209 : decode cX7_table 209 = .ok (.iconst 0, 1) := by decide +kernel
theorem V.dX7_table_210 : decode cX7_table 210 = .ok (.iconst 0, 1) := by decide +kernel
theorem V.dX7_table_211 : decode cX7_table 211 = .ok (.iconst 0, 1) := by decide +kernel
theorem V.dX7_table_212 : decode cX7_table 212 = .ok (.iconst 0, 1) := by decide +kernel
theorem V.dX7_table_213 : decode cX7_table 213 = .ok (.invokevirtual 78, 3) := by decide +kernel
theorem V.dX7_table_216 : decode cX7_table 216 = .ok (.pop, 1) := by decide +kernel
theorem V.dX7_table_217 : decode cX7_table 217 = .ok (.iinc 5 1, 3) := by decide +kernel
theorem V.dX7_table_220 : decode cX7_table 220 = .ok (.goto (-143), 3) := by decide +kernel
theorem V.dX7_table_223 : decode cX7_table 223 = .ok (.aload_n 0, 1) := by decide +kernel
theorem V.dX7_table_224 : decode cX7_table 224 = .ok (.iconst 0, 1) := by decide +kernel
theorem V.dX7_table_225 : decode cX7_table 225 = .ok (.putfield 113, 3) := by decide +kernel
theorem V.dX7_table_228 : decode cX7_table 228 = .ok (.return_, 1) := by decide +kernel
theorem V.fdX7_36 : FD RX7 36 7 0 2 := ⟨(RX7, TX7, 17), tyX7, rfl, rfl, in_X7, by decide, Or.inl q691, rfl⟩
theorem V.mdX7_106 : MD RX7 106 yX6_fieldAt cX6_fieldAt 3 (some .int) 2 := ⟨Or.inl q2419, q366, q2422, by decide, by decide, by decide +kernel⟩
/-! ModuleEngine$Registers.table(II)V -/
def V.Reg_table_p217 (rec77 : HS → Nat → Int32 → Int32 → Int32 → Int32 → Option (Unit × HS)) (σ : HS) (x0 : Nat) (x1 : Int32) (x2 : Int32) (x4 : Int32) (x5 : Int32) : Option (Unit × HS) :=
  bn (x5 + (1 : Int32)) fun y1 =>
  rec77 σ x0 x1 x2 x4 y1
theorem V.gX7_table_p217 {X : CX} (rec77 : HS → Nat → Int32 → Int32 → Int32 → Int32 → Option (Unit × HS)) (hrec77 : ∀ (σ : HS) (x0 : Nat) (x1 : Int32) (x2 : Int32) (x4 : Int32) (x5 : Int32), G X RX7 "table" cX7_table 8 none 3 62 enV 77 [(0, av x0), (1, iv x1), (2, iv x2), (4, iv x4), (5, iv x5)] [] σ (rec77 σ x0 x1 x2 x4 x5)) (σ : HS) (x0 : Nat) (x1 : Int32) (x2 : Int32) (x4 : Int32) (x5 : Int32) : G X RX7 "table" cX7_table 8 none 3 62 enV 217 [(0, av x0), (1, iv x1), (2, iv x2), (4, iv x4), (5, iv x5)] [] σ (Reg_table_p217 rec77 σ x0 x1 x2 x4 x5) := by
  unfold Reg_table_p217
  refine g_iincB (w := 1) 4 dX7_table_217 rfl (by decide) (by decide) (fun _ => rfl) (fun y1 => ?_)
  refine g_goto 77 dX7_table_220 (by decide) ?_
  refine G.sub [1, 2, 3, 4, 0] rfl ?_
  exact hrec77 _ _ _ _ _ _
def V.Reg_table_p77  : Nat → HS → Nat → Int32 → Int32 → Int32 → Int32 → Option (Unit × HS)
  | 0, _, _, _, _, _, _ => none
  | n + 1, σ, x0, x1, x2, x4, x5 =>
    if x2 < x5 then (
      ck (tg σ x0 = 8) <| bn (sI σ x0 16 (0 : Int32)) fun σ1 =>
      some ((), σ1))
    else (
      ck (tg σ x0 = 8) <|
      ck (tg σ (gR σ x0 0) = 7) <| cl (Flt_fieldAt σ (gR σ x0 0) ((x1 + (1 : Int32)) + x5) (2 : Int32)) fun r3 σ2 =>
      ck (tg σ2 x0 = 8) <|
      ck (tg σ2 (gR σ2 x0 0) = 7) <| cl (Flt_fieldAt σ2 (gR σ2 x0 0) ((x1 + (1 : Int32)) + x5) (3 : Int32)) fun r5 σ4 =>
      ck (tg σ4 x0 = 8) <|
      ck (tg σ4 (gR σ4 x0 0) = 7) <| cl (Flt_fieldAt σ4 (gR σ4 x0 0) ((x1 + (1 : Int32)) + x5) (1 : Int32)) fun r7 σ6 =>
      ck (tg σ6 x0 = 8) <| cl (Reg_reach σ6 x0 r7 (r3 + r5)) fun _ σ8 =>
      if r3 ≤ 0 then (
        Reg_table_p217 (Reg_table_p77 n) σ8 x0 x1 x2 x4 x5)
      else (
        ck (tg σ8 x0 = 8) <|
        if ((gI σ8 x0 12) - r3) = r5 then (
          Reg_table_p217 (Reg_table_p77 n) σ8 x0 x1 x2 x4 x5)
        else (
          ck (tg σ8 x0 = 8) <|
          if (gI σ8 x0 7) = 0 then (
            ck (tg σ8 x0 = 8) <|
            ck (tg σ8 x0 = 8) <|
            ck (tg σ8 (gR σ8 x0 2) = 100 ∧ inb (((6 : Int32) * (x4 + x5)) + (1 : Int32)) (ln σ8 (gR σ8 x0 2))) <| bn (sI σ8 (gR σ8 x0 2) (ix (((6 : Int32) * (x4 + x5)) + (1 : Int32))) ((-1 : Int32) - (gI σ8 x0 3))) fun σ9 =>
            ck (tg σ9 x0 = 8) <| cl (Reg_lower σ9 x0 r3 r5) fun _ σ10 =>
            ck (tg σ10 x0 = 8) <|
            ck (tg σ10 (gR σ10 x0 0) = 7) <| cl (Flt_fieldAt σ10 (gR σ10 x0 0) ((x1 + (1 : Int32)) + x5) (1 : Int32)) fun r12 σ11 =>
            ck (tg σ11 x0 = 8) <| cl (Reg_emit σ11 x0 (302 : Int32) r12 (0 : Int32) (0 : Int32) (0 : Int32) (0 : Int32)) fun r14 σ13 =>
            Reg_table_p217 (Reg_table_p77 n) σ13 x0 x1 x2 x4 x5)
          else (
            Reg_table_p217 (Reg_table_p77 n) σ8 x0 x1 x2 x4 x5))))
theorem V.gX7_table_p77 {X : CX}  : ∀ (n : Nat) (σ : HS) (x0 : Nat) (x1 : Int32) (x2 : Int32) (x4 : Int32) (x5 : Int32), G X RX7 "table" cX7_table 8 none 3 62 enV 77 [(0, av x0), (1, iv x1), (2, iv x2), (4, iv x4), (5, iv x5)] [] σ (Reg_table_p77 n σ x0 x1 x2 x4 x5)
  | 0, σ, x0, x1, x2, x4, x5 => by rw [Reg_table_p77]; exact G.nul
  | n + 1, σ, x0, x1, x2, x4, x5 => by
    rw [Reg_table_p77]
    refine g_iload 4 dX7_table_77 rfl ?_
    refine g_iload_n 2 2 dX7_table_79 rfl rfl ?_
    refine g_icmp_gt 223 dX7_table_80 (by decide) ?_ ?_
    · refine g_aload_n 0 0 dX7_table_223 rfl rfl ?_
      refine g_iconst (v := 0) dX7_table_224 (by decide) ?_
      refine g_putZ fpX7_113 ⟨by decide +kernel, by decide +kernel⟩ dX7_table_225 (fun σ1 => ?_)
      exact g_return rfl dX7_table_228
    · refine g_aload_n 0 0 dX7_table_83 rfl rfl ?_
      refine g_getR fdX7_36 dX7_table_84 ?_
      refine g_iload_n 1 1 dX7_table_87 rfl rfl ?_
      refine g_iconst (v := 1) dX7_table_88 (by decide) ?_
      refine g_iadd dX7_table_89 ?_
      refine g_iload 4 dX7_table_90 rfl ?_
      refine g_iadd dX7_table_92 ?_
      refine g_iconst (v := 2) dX7_table_93 (by decide) ?_
      refine g_callV (fc := fun sς => Flt_fieldAt sς (gR σ x0 0) ((x1 + (1 : Int32)) + x5) (2 : Int32)) (ci := 6) (as := [iv ((x1 + (1 : Int32)) + x5), iv (2 : Int32)]) rfl rfl rfl q2420 q2421 mdX7_106 (ctX6_fieldAt (gR σ x0 0) ((x1 + (1 : Int32)) + x5) (2 : Int32)) rfl (Nat.le_of_ble_eq_true rfl) (Nat.le_of_ble_eq_true rfl) (Nat.le_of_ble_eq_true rfl) pu_I dX7_table_94 (fun r3 σ2 => ?_)
      refine g_istore dX7_table_97 (by decide) rfl ?_
      refine g_aload_n 0 1 dX7_table_99 rfl rfl ?_
      refine g_getR fdX7_36 dX7_table_100 ?_
      refine g_iload_n 1 2 dX7_table_103 rfl rfl ?_
      refine g_iconst (v := 1) dX7_table_104 (by decide) ?_
      refine g_iadd dX7_table_105 ?_
      refine g_iload 5 dX7_table_106 rfl ?_
      refine g_iadd dX7_table_108 ?_
      refine g_iconst (v := 3) dX7_table_109 (by decide) ?_
      refine g_callV (fc := fun sς => Flt_fieldAt sς (gR σ2 x0 0) ((x1 + (1 : Int32)) + x5) (3 : Int32)) (ci := 6) (as := [iv ((x1 + (1 : Int32)) + x5), iv (3 : Int32)]) rfl rfl rfl q2420 q2421 mdX7_106 (ctX6_fieldAt (gR σ2 x0 0) ((x1 + (1 : Int32)) + x5) (3 : Int32)) rfl (Nat.le_of_ble_eq_true rfl) (Nat.le_of_ble_eq_true rfl) (Nat.le_of_ble_eq_true rfl) pu_I dX7_table_110 (fun r5 σ4 => ?_)
      refine g_istore dX7_table_113 (by decide) rfl ?_
      refine g_aload_n 0 2 dX7_table_115 rfl rfl ?_
      refine g_aload_n 0 2 dX7_table_116 rfl rfl ?_
      refine g_getR fdX7_36 dX7_table_117 ?_
      refine g_iload_n 1 3 dX7_table_120 rfl rfl ?_
      refine g_iconst (v := 1) dX7_table_121 (by decide) ?_
      refine g_iadd dX7_table_122 ?_
      refine g_iload 6 dX7_table_123 rfl ?_
      refine g_iadd dX7_table_125 ?_
      refine g_iconst (v := 1) dX7_table_126 (by decide) ?_
      refine g_callV (fc := fun sς => Flt_fieldAt sς (gR σ4 x0 0) ((x1 + (1 : Int32)) + x5) (1 : Int32)) (ci := 6) (as := [iv ((x1 + (1 : Int32)) + x5), iv (1 : Int32)]) rfl rfl rfl q2420 q2421 mdX7_106 (ctX6_fieldAt (gR σ4 x0 0) ((x1 + (1 : Int32)) + x5) (1 : Int32)) rfl (Nat.le_of_ble_eq_true rfl) (Nat.le_of_ble_eq_true rfl) (Nat.le_of_ble_eq_true rfl) pu_I dX7_table_127 (fun r7 σ6 => ?_)
      refine g_iload 1 dX7_table_130 rfl ?_
      refine g_iload 0 dX7_table_132 rfl ?_
      refine g_iadd dX7_table_134 ?_
      refine g_callV (fc := fun sς => Reg_reach sς x0 r7 (r3 + r5)) (ci := 7) (as := [iv r7, iv (r3 + r5)]) rfl rfl rfl q2462 qs154 mdX7_137 (ctX7_reach x0 r7 (r3 + r5)) rfl (Nat.le_of_ble_eq_true rfl) (Nat.le_of_ble_eq_true rfl) (Nat.le_of_ble_eq_true rfl) pu_V dX7_table_135 (fun _ σ8 => ?_)
      refine g_iload 1 dX7_table_138 rfl ?_
      refine g_if_le 217 dX7_table_140 (by decide) ?_ ?_
      · refine G.sub [2, 3, 4, 5, 6] rfl ?_
        exact gX7_table_p217 (Reg_table_p77 n) (gX7_table_p77 n) _ _ _ _ _ _
      · refine g_aload_n 0 2 dX7_table_143 rfl rfl ?_
        refine g_getI fdX7_72 dX7_table_144 ?_
        refine g_iload 1 dX7_table_147 rfl ?_
        refine g_isub dX7_table_149 ?_
        refine g_iload 0 dX7_table_150 rfl ?_
        refine g_icmp_eq 217 dX7_table_152 (by decide) ?_ ?_
        · refine G.sub [2, 3, 4, 5, 6] rfl ?_
          exact gX7_table_p217 (Reg_table_p77 n) (gX7_table_p77 n) _ _ _ _ _ _
        · refine g_aload_n 0 2 dX7_table_155 rfl rfl ?_
          refine g_getI fdX7_56 dX7_table_156 ?_
          refine g_if_ne 217 dX7_table_159 (by decide) ?_ ?_
          · refine G.sub [2, 3, 4, 5, 6] rfl ?_
            exact gX7_table_p217 (Reg_table_p77 n) (gX7_table_p77 n) _ _ _ _ _ _
          · refine g_aload_n 0 2 dX7_table_162 rfl rfl ?_
            refine g_getR fdX7_7 dX7_table_163 ?_
            refine g_bipush (v := 6) dX7_table_166 (by decide) ?_
            refine g_iload 5 dX7_table_168 rfl ?_
            refine g_iload 6 dX7_table_170 rfl ?_
            refine g_iadd dX7_table_172 ?_
            refine g_imul dX7_table_173 ?_
            refine g_iconst (v := 1) dX7_table_174 (by decide) ?_
            refine g_iadd dX7_table_175 ?_
            refine g_iconst (v := (-1)) dX7_table_176 (by decide) ?_
            refine g_aload_n 0 2 dX7_table_177 rfl rfl ?_
            refine g_getI fdX7_52 dX7_table_178 ?_
            refine g_isub dX7_table_181 ?_
            refine g_iastore dX7_table_182 (fun σ9 => ?_)
            refine g_aload_n 0 2 dX7_table_183 rfl rfl ?_
            refine g_iload 1 dX7_table_184 rfl ?_
            refine g_iload 0 dX7_table_186 rfl ?_
            refine g_callV (fc := fun sς => Reg_lower sς x0 r3 r5) (ci := 7) (as := [iv r3, iv r5]) rfl rfl rfl q2466 qs155 mdX7_140 (ctX7_lower x0 r3 r5) rfl (Nat.le_of_ble_eq_true rfl) (Nat.le_of_ble_eq_true rfl) (Nat.le_of_ble_eq_true rfl) pu_V dX7_table_188 (fun _ σ10 => ?_)
            refine g_aload_n 0 2 dX7_table_191 rfl rfl ?_
            refine g_sipush (v := 302) dX7_table_192 (by decide) ?_
            refine g_aload_n 0 2 dX7_table_195 rfl rfl ?_
            refine g_getR fdX7_36 dX7_table_196 ?_
            refine g_iload_n 1 3 dX7_table_199 rfl rfl ?_
            refine g_iconst (v := 1) dX7_table_200 (by decide) ?_
            refine g_iadd dX7_table_201 ?_
            refine g_iload 6 dX7_table_202 rfl ?_
            refine g_iadd dX7_table_204 ?_
            refine g_iconst (v := 1) dX7_table_205 (by decide) ?_
            refine g_callV (fc := fun sς => Flt_fieldAt sς (gR σ10 x0 0) ((x1 + (1 : Int32)) + x5) (1 : Int32)) (ci := 6) (as := [iv ((x1 + (1 : Int32)) + x5), iv (1 : Int32)]) rfl rfl rfl q2420 q2421 mdX7_106 (ctX6_fieldAt (gR σ10 x0 0) ((x1 + (1 : Int32)) + x5) (1 : Int32)) rfl (Nat.le_of_ble_eq_true rfl) (Nat.le_of_ble_eq_true rfl) (Nat.le_of_ble_eq_true rfl) pu_I dX7_table_206 (fun r12 σ11 => ?_)
            refine g_iconst (v := 0) dX7_table_209 (by decide) ?_
            refine g_iconst (v := 0) dX7_table_210 (by decide) ?_
            refine g_iconst (v := 0) dX7_table_211 (by decide) ?_
            refine g_iconst (v := 0) dX7_table_212 (by decide) ?_
            refine g_callV (fc := fun sς => Reg_emit sς x0 (302 : Int32) r12 (0 : Int32) (0 : Int32) (0 : Int32) (0 : Int32)) (ci := 7) (as := [iv (302 : Int32), iv r12, iv (0 : Int32), iv (0 : Int32), iv (0 : Int32), iv (0 : Int32)]) rfl rfl rfl q2438 qs148 mdX7_78 (ctX7_emit x0 (302 : Int32) r12 (0 : Int32) (0 : Int32) (0 : Int32) (0 : Int32)) rfl (Nat.le_of_ble_eq_true rfl) (Nat.le_of_ble_eq_true rfl) (Nat.le_of_ble_eq_true rfl) pu_I dX7_table_213 (fun r14 σ13 => ?_)
            refine g_pop dX7_table_216 rfl ?_
            refine G.sub [2, 3, 4, 5, 6] rfl ?_
            exact gX7_table_p217 (Reg_table_p77 n) (gX7_table_p77 n) _ _ _ _ _ _
def V.Reg_table_p36  : Nat → HS → Nat → Int32 → Int32 → Int32 → Int32 → Option (Unit × HS)
  | 0, _, _, _, _, _, _ => none
  | n + 1, σ, x0, x1, x2, x4, x5 =>
    if x2 < x5 then (
      Reg_table_p77 FU σ x0 x1 x2 x4 (0 : Int32))
    else (
      ck (tg σ x0 = 8) <|
      ck (tg σ (gR σ x0 0) = 7) <| cl (Flt_fieldAt σ (gR σ x0 0) ((x1 + (1 : Int32)) + x5) (1 : Int32)) fun r2 σ1 =>
      ck (tg σ1 x0 = 8) <| cl (Reg_emit σ1 x0 (302 : Int32) r2 (0 : Int32) (0 : Int32) (0 : Int32) (0 : Int32)) fun r4 σ3 =>
      bn (x5 + (1 : Int32)) fun y5 =>
      Reg_table_p36 n σ3 x0 x1 x2 x4 y5)
theorem V.gX7_table_p36 {X : CX}  : ∀ (n : Nat) (σ : HS) (x0 : Nat) (x1 : Int32) (x2 : Int32) (x4 : Int32) (x5 : Int32), G X RX7 "table" cX7_table 8 none 3 62 enV 36 [(0, av x0), (1, iv x1), (2, iv x2), (4, iv x4), (5, iv x5)] [] σ (Reg_table_p36 n σ x0 x1 x2 x4 x5)
  | 0, σ, x0, x1, x2, x4, x5 => by rw [Reg_table_p36]; exact G.nul
  | n + 1, σ, x0, x1, x2, x4, x5 => by
    rw [Reg_table_p36]
    refine g_iload 4 dX7_table_36 rfl ?_
    refine g_iload_n 2 2 dX7_table_38 rfl rfl ?_
    refine g_icmp_gt 74 dX7_table_39 (by decide) ?_ ?_
    · refine g_iconst (v := 0) dX7_table_74 (by decide) ?_
      refine g_istore dX7_table_75 (by decide) rfl ?_
      refine G.sub [1, 2, 3, 4, 0] rfl ?_
      exact gX7_table_p77 FU _ _ _ _ _ _
    · refine g_aload_n 0 0 dX7_table_42 rfl rfl ?_
      refine g_sipush (v := 302) dX7_table_43 (by decide) ?_
      refine g_aload_n 0 0 dX7_table_46 rfl rfl ?_
      refine g_getR fdX7_36 dX7_table_47 ?_
      refine g_iload_n 1 1 dX7_table_50 rfl rfl ?_
      refine g_iconst (v := 1) dX7_table_51 (by decide) ?_
      refine g_iadd dX7_table_52 ?_
      refine g_iload 4 dX7_table_53 rfl ?_
      refine g_iadd dX7_table_55 ?_
      refine g_iconst (v := 1) dX7_table_56 (by decide) ?_
      refine g_callV (fc := fun sς => Flt_fieldAt sς (gR σ x0 0) ((x1 + (1 : Int32)) + x5) (1 : Int32)) (ci := 6) (as := [iv ((x1 + (1 : Int32)) + x5), iv (1 : Int32)]) rfl rfl rfl q2420 q2421 mdX7_106 (ctX6_fieldAt (gR σ x0 0) ((x1 + (1 : Int32)) + x5) (1 : Int32)) rfl (Nat.le_of_ble_eq_true rfl) (Nat.le_of_ble_eq_true rfl) (Nat.le_of_ble_eq_true rfl) pu_I dX7_table_57 (fun r2 σ1 => ?_)
      refine g_iconst (v := 0) dX7_table_60 (by decide) ?_
      refine g_iconst (v := 0) dX7_table_61 (by decide) ?_
      refine g_iconst (v := 0) dX7_table_62 (by decide) ?_
      refine g_iconst (v := 0) dX7_table_63 (by decide) ?_
      refine g_callV (fc := fun sς => Reg_emit sς x0 (302 : Int32) r2 (0 : Int32) (0 : Int32) (0 : Int32) (0 : Int32)) (ci := 7) (as := [iv (302 : Int32), iv r2, iv (0 : Int32), iv (0 : Int32), iv (0 : Int32), iv (0 : Int32)]) rfl rfl rfl q2438 qs148 mdX7_78 (ctX7_emit x0 (302 : Int32) r2 (0 : Int32) (0 : Int32) (0 : Int32) (0 : Int32)) rfl (Nat.le_of_ble_eq_true rfl) (Nat.le_of_ble_eq_true rfl) (Nat.le_of_ble_eq_true rfl) pu_I dX7_table_64 (fun r4 σ3 => ?_)
      refine g_pop dX7_table_67 rfl ?_
      refine g_iincB (w := 1) 4 dX7_table_68 rfl (by decide) (by decide) (fun _ => rfl) (fun y5 => ?_)
      refine g_goto 36 dX7_table_71 (by decide) ?_
      refine G.sub [1, 2, 3, 4, 0] rfl ?_
      exact gX7_table_p36 n _ _ _ _ _ _
def V.Reg_table (σ : HS) (x0 : Nat) (x1 : Int32) (x2 : Int32) : Option (Unit × HS) :=
  ck (tg σ x0 = 8) <| cl (Reg_pop σ x0 ) fun r2 σ1 =>
  ck (tg σ1 x0 = 8) <| cl (Reg_settle σ1 x0 (0 : Int32)) fun _ σ3 =>
  ck (tg σ3 x0 = 8) <| cl (Reg_steps σ3 x0 (1 : Int32)) fun r5 σ4 =>
  ck (tg σ4 x0 = 8) <| cl (Reg_emit σ4 x0 (304 : Int32) x2 r2 (0 : Int32) (0 : Int32) r5) fun r7 σ6 =>
  ck (tg σ6 x0 = 8) <|
  bn (gI σ6 x0 3) fun y8 =>
  Reg_table_p36 FU σ6 x0 x1 x2 y8 (0 : Int32)
theorem V.ctX7_table (x0 : Nat) (x1 : Int32) (x2 : Int32) : Ct yX7_table  cX7_table 8 none 3 62 eV [av x0, iv x1, iv x2] (fun σ => Reg_table σ x0 x1 x2) := by
  refine Ct.of (own := RX7) (nm := "table") (desc := "(II)V") rfl (by decide) (Nat.le_of_ble_eq_true rfl) (by decide) (fun X σ => ?_)
  show G X RX7 "table" cX7_table 8 none 3 62 enV 0 [(0, av x0), (1, iv x1), (2, iv x2)] [] σ (Reg_table σ x0 x1 x2)
  unfold Reg_table
  refine g_aload_n 0 0 dX7_table_0 rfl rfl ?_
  refine g_callV (fc := fun sς => Reg_pop sς x0 ) (ci := 7) (as := []) rfl rfl rfl q2454 qs152 mdX7_134 (ctX7_pop x0 ) rfl (Nat.le_of_ble_eq_true rfl) (Nat.le_of_ble_eq_true rfl) (Nat.le_of_ble_eq_true rfl) pu_I dX7_table_1 (fun r2 σ1 => ?_)
  refine g_istore_n 3 dX7_table_4 rfl (by decide) rfl ?_
  refine g_aload_n 0 1 dX7_table_5 rfl rfl ?_
  refine g_iconst (v := 0) dX7_table_6 (by decide) ?_
  refine g_callV (fc := fun sς => Reg_settle sς x0 (0 : Int32)) (ci := 7) (as := [iv (0 : Int32)]) rfl rfl rfl q2430 qs146 mdX7_125 (ctX7_settle x0 (0 : Int32)) rfl (Nat.le_of_ble_eq_true rfl) (Nat.le_of_ble_eq_true rfl) (Nat.le_of_ble_eq_true rfl) pu_V dX7_table_7 (fun _ σ3 => ?_)
  refine g_aload_n 0 1 dX7_table_10 rfl rfl ?_
  refine g_sipush (v := 304) dX7_table_11 (by decide) ?_
  refine g_iload_n 2 3 dX7_table_14 rfl rfl ?_
  refine g_iload_n 3 0 dX7_table_15 rfl rfl ?_
  refine g_iconst (v := 0) dX7_table_16 (by decide) ?_
  refine g_iconst (v := 0) dX7_table_17 (by decide) ?_
  refine g_aload_n 0 1 dX7_table_18 rfl rfl ?_
  refine g_iconst (v := 1) dX7_table_19 (by decide) ?_
  refine g_callV (fc := fun sς => Reg_steps sς x0 (1 : Int32)) (ci := 7) (as := [iv (1 : Int32)]) rfl rfl rfl q2442 qs149 mdX7_128 (ctX7_steps x0 (1 : Int32)) rfl (Nat.le_of_ble_eq_true rfl) (Nat.le_of_ble_eq_true rfl) (Nat.le_of_ble_eq_true rfl) pu_I dX7_table_20 (fun r5 σ4 => ?_)
  refine g_callV (fc := fun sς => Reg_emit sς x0 (304 : Int32) x2 r2 (0 : Int32) (0 : Int32) r5) (ci := 7) (as := [iv (304 : Int32), iv x2, iv r2, iv (0 : Int32), iv (0 : Int32), iv r5]) rfl rfl rfl q2438 qs148 mdX7_78 (ctX7_emit x0 (304 : Int32) x2 r2 (0 : Int32) (0 : Int32) r5) rfl (Nat.le_of_ble_eq_true rfl) (Nat.le_of_ble_eq_true rfl) (Nat.le_of_ble_eq_true rfl) pu_I dX7_table_23 (fun r7 σ6 => ?_)
  refine g_pop dX7_table_26 rfl ?_
  refine g_aload_n 0 1 dX7_table_27 rfl rfl ?_
  refine g_getI fdX7_52 dX7_table_28 ?_
  refine g_nmI (fun y8 => ?_)
  refine g_istore dX7_table_31 (by decide) rfl ?_
  refine g_iconst (v := 0) dX7_table_33 (by decide) ?_
  refine g_istore dX7_table_34 (by decide) rfl ?_
  refine G.sub [3, 4, 5, 1, 0] rfl ?_
  exact gX7_table_p36 FU _ _ _ _ _ _
theorem V.dX7_call_0 : decode cX7_call 0 = .ok (.aload_n 0, 1) := by decide +kernel
theorem V.dX7_call_1 : decode cX7_call 1 = .ok (.iload_n 1, 1) := by decide +kernel
theorem V.dX7_call_2 : decode cX7_call 2 = .ok (.aload_n 0, 1) := by decide +kernel
theorem V.dX7_call_3 : decode cX7_call 3 = .ok (.aload_n 0, 1) := by decide +kernel
theorem V.dX7_call_4 : decode cX7_call 4 = .ok (.getfield 72, 3) := by decide +kernel
theorem V.dX7_call_7 : decode cX7_call 7 = .ok (.iload 5, 2) := by decide +kernel
theorem V.dX7_call_9 : decode cX7_call 9 = .ok (.bipush 8, 2) := by decide +kernel
theorem V.dX7_call_11 : decode cX7_call 11 = .ok (.ishr, 1) := by decide +kernel
theorem V.dX7_call_12 : decode cX7_call 12 = .ok (.isub, 1) := by decide +kernel
theorem V.dX7_call_13 : decode cX7_call 13 = .ok (.invokevirtual 69, 3) := by decide +kernel
theorem V.dX7_call_16 : decode cX7_call 16 = .ok (.iload_n 2, 1) := by decide +kernel
theorem V.dX7_call_17 : decode cX7_call 17 = .ok (.iload 4, 2) := by decide +kernel
theorem V.dX7_call_19 : decode cX7_call 19 = .ok (.iload_n 3, 1) := by decide +kernel
theorem V.dX7_call_20 : decode cX7_call 20 = .ok (.aload_n 0, 1) := by decide +kernel
theorem V.dX7_call_21 : decode cX7_call 21 = .ok (.iconst 1, 1) := by decide +kernel
theorem V.dX7_call_22 : decode cX7_call 22 = .ok (.invokevirtual 128, 3) := by decide +kernel
theorem V.dX7_call_25 : decode cX7_call 25 = .ok (.invokevirtual 78, 3) := by decide +kernel
theorem V.dX7_call_28 : decode cX7_call 28 = .ok (.pop, 1) := by decide +kernel
theorem V.dX7_call_29 : decode cX7_call 29 = .ok (.aload_n 0, 1) := by decide +kernel
theorem V.dX7_call_30 : decode cX7_call 30 = .ok (.dup, 1) := by decide +kernel
theorem V.dX7_call_31 : decode cX7_call 31 = .ok (.getfield 72, 3) := by decide +kernel
theorem V.dX7_call_34 : decode cX7_call 34 = .ok (.iload 5, 2) := by decide +kernel
theorem V.dX7_call_36 : decode cX7_call 36 = .ok (.bipush 8, 2) := by decide +kernel
theorem V.dX7_call_38 : decode cX7_call 38 = .ok (.ishr, 1) := by decide +kernel
theorem V.dX7_call_39 : decode cX7_call 39 = .ok (.isub, 1) := by decide +kernel
theorem V.dX7_call_40 : decode cX7_call 40 = .ok (.putfield 72, 3) := by decide +kernel
theorem V.dX7_call_43 : decode cX7_call 43 = .ok (.iconst 0, 1) := by decide +kernel
theorem V.dX7_call_44 : decode cX7_call 44 = .ok (.istore 6, 2) := by decide +kernel
theorem V.dX7_call_46 : decode cX7_call 46 = .ok (.iload 6, 2) := by decide +kernel
theorem V.dX7_call_48 : decode cX7_call 48 = .ok (.iload 5, 2) := by decide +kernel
theorem V.dX7_call_50 : decode cX7_call 50 = .ok (.sipush 255, 3) := by decide +kernel
theorem V.dX7_call_53 : decode cX7_call 53 = .ok (.iand, 1) := by decide +kernel
theorem V.dX7_call_54 : decode cX7_call 54 = .ok (.if_icmp .ge 15, 3) := by decide +kernel
theorem V.dX7_call_57 : decode cX7_call 57 = .ok (.aload_n 0, 1) := by decide +kernel
theorem V.dX7_call_58 : decode cX7_call 58 = .ok (.iconst 0, 1) := by decide +kernel
theorem V.dX7_call_59 : decode cX7_call 59 = .ok (.iconst 0, 1) := by decide +kernel
theorem V.dX7_call_60 : decode cX7_call 60 = .ok (.invokevirtual 131, 3) := by decide +kernel
theorem V.dX7_call_63 : decode cX7_call 63 = .ok (.iinc 6 1, 3) := by decide +kernel
theorem V.dX7_call_66 : decode cX7_call 66 = .ok (.goto (-20), 3) := by decide +kernel
theorem V.dX7_call_69 : decode cX7_call 69 = .ok (.return_, 1) := by decide +kernel
/-! ModuleEngine$Registers.call(IIIII)V -/
def V.Reg_call_p46  : Nat → HS → Nat → Int32 → Int32 → Option (Unit × HS)
  | 0, _, _, _, _ => none
  | n + 1, σ, x0, x5, x6 =>
    if (x5 &&& (255 : Int32)) ≤ x6 then (
      some ((), σ))
    else (
      ck (tg σ x0 = 8) <| cl (Reg_push σ x0 (0 : Int32) (0 : Int32)) fun _ σ1 =>
      bn (x6 + (1 : Int32)) fun y2 =>
      Reg_call_p46 n σ1 x0 x5 y2)
theorem V.gX7_call_p46 {X : CX}  : ∀ (n : Nat) (σ : HS) (x0 : Nat) (x5 : Int32) (x6 : Int32), G X RX7 "call" cX7_call 7 none 1 28 enV 46 [(0, av x0), (5, iv x5), (6, iv x6)] [] σ (Reg_call_p46 n σ x0 x5 x6)
  | 0, σ, x0, x5, x6 => by rw [Reg_call_p46]; exact G.nul
  | n + 1, σ, x0, x5, x6 => by
    rw [Reg_call_p46]
    refine g_iload 2 dX7_call_46 rfl ?_
    refine g_iload 1 dX7_call_48 rfl ?_
    refine g_sipush (v := 255) dX7_call_50 (by decide) ?_
    refine g_iand dX7_call_53 ?_
    refine g_icmp_ge 69 dX7_call_54 (by decide) ?_ ?_
    · exact g_return rfl dX7_call_69
    · refine g_aload_n 0 0 dX7_call_57 rfl rfl ?_
      refine g_iconst (v := 0) dX7_call_58 (by decide) ?_
      refine g_iconst (v := 0) dX7_call_59 (by decide) ?_
      refine g_callV (fc := fun sς => Reg_push sς x0 (0 : Int32) (0 : Int32)) (ci := 7) (as := [iv (0 : Int32), iv (0 : Int32)]) rfl rfl rfl q2446 qs150 mdX7_131 (ctX7_push x0 (0 : Int32) (0 : Int32)) rfl (Nat.le_of_ble_eq_true rfl) (Nat.le_of_ble_eq_true rfl) (Nat.le_of_ble_eq_true rfl) pu_V dX7_call_60 (fun _ σ1 => ?_)
      refine g_iincB (w := 1) 2 dX7_call_63 rfl (by decide) (by decide) (fun _ => rfl) (fun y2 => ?_)
      refine g_goto 46 dX7_call_66 (by decide) ?_
      refine G.sub [1, 2, 0] rfl ?_
      exact gX7_call_p46 n _ _ _ _
def V.Reg_call (σ : HS) (x0 : Nat) (x1 : Int32) (x2 : Int32) (x3 : Int32) (x4 : Int32) (x5 : Int32) : Option (Unit × HS) :=
  ck (tg σ x0 = 8) <|
  ck (tg σ x0 = 8) <| cl (Reg_slot σ x0 ((gI σ x0 12) - (x5 >>> ((8 : Int32) &&& 31)))) fun r2 σ1 =>
  ck (tg σ1 x0 = 8) <| cl (Reg_steps σ1 x0 (1 : Int32)) fun r4 σ3 =>
  ck (tg σ3 x0 = 8) <| cl (Reg_emit σ3 x0 x1 r2 x2 x4 x3 r4) fun r6 σ5 =>
  ck (tg σ5 x0 = 8) <|
  ck (tg σ5 x0 = 8) <| bn (sI σ5 x0 12 ((gI σ5 x0 12) - (x5 >>> ((8 : Int32) &&& 31)))) fun σ7 =>
  Reg_call_p46 FU σ7 x0 x5 (0 : Int32)
theorem V.ctX7_call (x0 : Nat) (x1 : Int32) (x2 : Int32) (x3 : Int32) (x4 : Int32) (x5 : Int32) : Ct yX7_call  cX7_call 7 none 1 28 eV [av x0, iv x1, iv x2, iv x3, iv x4, iv x5] (fun σ => Reg_call σ x0 x1 x2 x3 x4 x5) := by
  refine Ct.of (own := RX7) (nm := "call") (desc := "(IIIII)V") rfl (by decide) (Nat.le_of_ble_eq_true rfl) (by decide) (fun X σ => ?_)
  show G X RX7 "call" cX7_call 7 none 1 28 enV 0 [(0, av x0), (1, iv x1), (2, iv x2), (3, iv x3), (4, iv x4), (5, iv x5)] [] σ (Reg_call σ x0 x1 x2 x3 x4 x5)
  unfold Reg_call
  refine g_aload_n 0 0 dX7_call_0 rfl rfl ?_
  refine g_iload_n 1 1 dX7_call_1 rfl rfl ?_
  refine g_aload_n 0 0 dX7_call_2 rfl rfl ?_
  refine g_aload_n 0 0 dX7_call_3 rfl rfl ?_
  refine g_getI fdX7_72 dX7_call_4 ?_
  refine g_iload 5 dX7_call_7 rfl ?_
  refine g_bipush (v := 8) dX7_call_9 (by decide) ?_
  refine g_ishr dX7_call_11 ?_
  refine g_isub dX7_call_12 ?_
  refine g_callV (fc := fun sς => Reg_slot sς x0 ((gI σ x0 12) - (x5 >>> ((8 : Int32) &&& 31)))) (ci := 7) (as := [iv ((gI σ x0 12) - (x5 >>> ((8 : Int32) &&& 31)))]) rfl rfl rfl q2434 qs147 mdX7_69 (ctX7_slot x0 ((gI σ x0 12) - (x5 >>> ((8 : Int32) &&& 31)))) rfl (Nat.le_of_ble_eq_true rfl) (Nat.le_of_ble_eq_true rfl) (Nat.le_of_ble_eq_true rfl) pu_I dX7_call_13 (fun r2 σ1 => ?_)
  refine g_iload_n 2 2 dX7_call_16 rfl rfl ?_
  refine g_iload 4 dX7_call_17 rfl ?_
  refine g_iload_n 3 3 dX7_call_19 rfl rfl ?_
  refine g_aload_n 0 0 dX7_call_20 rfl rfl ?_
  refine g_iconst (v := 1) dX7_call_21 (by decide) ?_
  refine g_callV (fc := fun sς => Reg_steps sς x0 (1 : Int32)) (ci := 7) (as := [iv (1 : Int32)]) rfl rfl rfl q2442 qs149 mdX7_128 (ctX7_steps x0 (1 : Int32)) rfl (Nat.le_of_ble_eq_true rfl) (Nat.le_of_ble_eq_true rfl) (Nat.le_of_ble_eq_true rfl) pu_I dX7_call_22 (fun r4 σ3 => ?_)
  refine g_callV (fc := fun sς => Reg_emit sς x0 x1 r2 x2 x4 x3 r4) (ci := 7) (as := [iv x1, iv r2, iv x2, iv x4, iv x3, iv r4]) rfl rfl rfl q2438 qs148 mdX7_78 (ctX7_emit x0 x1 r2 x2 x4 x3 r4) rfl (Nat.le_of_ble_eq_true rfl) (Nat.le_of_ble_eq_true rfl) (Nat.le_of_ble_eq_true rfl) pu_I dX7_call_25 (fun r6 σ5 => ?_)
  refine g_pop dX7_call_28 rfl ?_
  refine g_aload_n 0 0 dX7_call_29 rfl rfl ?_
  refine g_dup dX7_call_30 rfl ?_
  refine g_getI fdX7_72 dX7_call_31 ?_
  refine g_iload 5 dX7_call_34 rfl ?_
  refine g_bipush (v := 8) dX7_call_36 (by decide) ?_
  refine g_ishr dX7_call_38 ?_
  refine g_isub dX7_call_39 ?_
  refine g_putI fpX7_72 dX7_call_40 (fun σ7 => ?_)
  refine g_iconst (v := 0) dX7_call_43 (by decide) ?_
  refine g_istore dX7_call_44 (by decide) rfl ?_
  refine G.sub [1, 6, 0] rfl ?_
  exact gX7_call_p46 FU _ _ _ _
theorem V.dX7_free_0 : decode cX7_free 0 = .ok (.iconst 0, 1) := by decide +kernel
theorem V.dX7_free_1 : decode cX7_free 1 = .ok (.istore_n 2, 1) := by decide +kernel
theorem V.dX7_free_2 : decode cX7_free 2 = .ok (.iload_n 2, 1) := by decide +kernel
theorem V.dX7_free_3 : decode cX7_free 3 = .ok (.aload_n 0, 1) := by decide +kernel
theorem V.dX7_free_4 : decode cX7_free 4 = .ok (.getfield 72, 3) := by decide +kernel
theorem V.dX7_free_7 : decode cX7_free 7 = .ok (.if_icmp .ge 53, 3) := by decide +kernel
theorem V.dX7_free_10 : decode cX7_free 10 = .ok (.aload_n 0, 1) := by decide +kernel
theorem V.dX7_free_11 : decode cX7_free 11 = .ok (.getfield 30, 3) := by decide +kernel
theorem V.dX7_free_14 : decode cX7_free 14 = .ok (.iload_n 2, 1) := by decide +kernel
theorem V.dX7_free_15 : decode cX7_free 15 = .ok (.iaload, 1) := by decide +kernel
theorem V.dX7_free_16 : decode cX7_free 16 = .ok (.iconst 1, 1) := by decide +kernel
theorem V.dX7_free_17 : decode cX7_free 17 = .ok (.if_icmp .ne 37, 3) := by decide +kernel
theorem V.dX7_free_20 : decode cX7_free 20 = .ok (.aload_n 0, 1) := by decide +kernel
theorem V.dX7_free_21 : decode cX7_free 21 = .ok (.getfield 33, 3) := by decide +kernel
theorem V.dX7_free_24 : decode cX7_free 24 = .ok (.iload_n 2, 1) := by decide +kernel
theorem V.dX7_free_25 : decode cX7_free 25 = .ok (.iaload, 1) := by decide +kernel
theorem V.dX7_free_26 : decode cX7_free 26 = .ok (.iload_n 1, 1) := by decide +kernel
theorem V.dX7_free_27 : decode cX7_free 27 = .ok (.if_icmp .ne 27, 3) := by decide +kernel
theorem V.dX7_free_30 : decode cX7_free 30 = .ok (.aload_n 0, 1) := by decide +kernel
theorem V.dX7_free_31 : decode cX7_free 31 = .ok (.sipush 300, 3) := by decide +kernel
theorem V.dX7_free_34 : decode cX7_free 34 = .ok (.aload_n 0, 1) := by decide +kernel
theorem V.dX7_free_35 : decode cX7_free 35 = .ok (.iload_n 2, 1) := by decide +kernel
theorem V.dX7_free_36 : decode cX7_free 36 = .ok (.invokevirtual 69, 3) := by decide +kernel
theorem V.dX7_free_39 : decode cX7_free 39 = .ok (.iload_n 1, 1) := by decide +kernel
theorem V.dX7_free_40 : decode cX7_free 40 = .ok (.iconst 0, 1) := by decide +kernel
theorem V.dX7_free_41 : decode cX7_free 41 = .ok (.iconst 0, 1) := by decide +kernel
theorem V.dX7_free_42 : decode cX7_free 42 = .ok (.iconst 0, 1) := by decide +kernel
theorem V.dX7_free_43 : decode cX7_free 43 = .ok (.invokevirtual 78, 3) := by decide +kernel
theorem V.dX7_free_46 : decode cX7_free 46 = .ok (.pop, 1) := by decide +kernel
theorem V.dX7_free_47 : decode cX7_free 47 = .ok (.aload_n 0, 1) := by decide +kernel
theorem V.dX7_free_48 : decode cX7_free 48 = .ok (.getfield 30, 3) := by decide +kernel
theorem V.dX7_free_51 : decode cX7_free 51 = .ok (.iload_n 2, 1) := by decide +kernel
theorem V.dX7_free_52 : decode cX7_free 52 = .ok (.iconst 0, 1) := by decide +kernel
theorem V.dX7_free_53 : decode cX7_free 53 = .ok (.iastore, 1) := by decide +kernel
theorem V.dX7_free_54 : decode cX7_free 54 = .ok (.iinc 2 1, 3) := by decide +kernel
theorem V.dX7_free_57 : decode cX7_free 57 = .ok (.goto (-55), 3) := by decide +kernel
theorem V.dX7_free_60 : decode cX7_free 60 = .ok (.return_, 1) := by decide +kernel
/-! ModuleEngine$Registers.free(I)V -/
def V.Reg_free_p54 (rec2 : HS → Nat → Int32 → Int32 → Option (Unit × HS)) (σ : HS) (x0 : Nat) (x1 : Int32) (x2 : Int32) : Option (Unit × HS) :=
  bn (x2 + (1 : Int32)) fun y1 =>
  rec2 σ x0 x1 y1
theorem V.gX7_free_p54 {X : CX} (rec2 : HS → Nat → Int32 → Int32 → Option (Unit × HS)) (hrec2 : ∀ (σ : HS) (x0 : Nat) (x1 : Int32) (x2 : Int32), G X RX7 "free" cX7_free 3 none 1 28 enV 2 [(0, av x0), (1, iv x1), (2, iv x2)] [] σ (rec2 σ x0 x1 x2)) (σ : HS) (x0 : Nat) (x1 : Int32) (x2 : Int32) : G X RX7 "free" cX7_free 3 none 1 28 enV 54 [(0, av x0), (1, iv x1), (2, iv x2)] [] σ (Reg_free_p54 rec2 σ x0 x1 x2) := by
  unfold Reg_free_p54
  refine g_iincB (w := 1) 2 dX7_free_54 rfl (by decide) (by decide) (fun _ => rfl) (fun y1 => ?_)
  refine g_goto 2 dX7_free_57 (by decide) ?_
  refine G.sub [1, 2, 0] rfl ?_
  exact hrec2 _ _ _ _
def V.Reg_free_p2  : Nat → HS → Nat → Int32 → Int32 → Option (Unit × HS)
  | 0, _, _, _, _ => none
  | n + 1, σ, x0, x1, x2 =>
    ck (tg σ x0 = 8) <|
    if (gI σ x0 12) ≤ x2 then (
      some ((), σ))
    else (
      ck (tg σ x0 = 8) <|
      ck (tg σ (gR σ x0 10) = 100 ∧ inb x2 (ln σ (gR σ x0 10))) <|
      if (gI σ (gR σ x0 10) (ix x2)) = (1 : Int32) then (
        ck (tg σ x0 = 8) <|
        ck (tg σ (gR σ x0 11) = 100 ∧ inb x2 (ln σ (gR σ x0 11))) <|
        if (gI σ (gR σ x0 11) (ix x2)) = x1 then (
          ck (tg σ x0 = 8) <| cl (Reg_slot σ x0 x2) fun r2 σ1 =>
          ck (tg σ1 x0 = 8) <| cl (Reg_emit σ1 x0 (300 : Int32) r2 x1 (0 : Int32) (0 : Int32) (0 : Int32)) fun r4 σ3 =>
          ck (tg σ3 x0 = 8) <|
          ck (tg σ3 (gR σ3 x0 10) = 100 ∧ inb x2 (ln σ3 (gR σ3 x0 10))) <| bn (sI σ3 (gR σ3 x0 10) (ix x2) (0 : Int32)) fun σ5 =>
          Reg_free_p54 (Reg_free_p2 n) σ5 x0 x1 x2)
        else (
          Reg_free_p54 (Reg_free_p2 n) σ x0 x1 x2))
      else (
        Reg_free_p54 (Reg_free_p2 n) σ x0 x1 x2))
theorem V.gX7_free_p2 {X : CX}  : ∀ (n : Nat) (σ : HS) (x0 : Nat) (x1 : Int32) (x2 : Int32), G X RX7 "free" cX7_free 3 none 1 28 enV 2 [(0, av x0), (1, iv x1), (2, iv x2)] [] σ (Reg_free_p2 n σ x0 x1 x2)
  | 0, σ, x0, x1, x2 => by rw [Reg_free_p2]; exact G.nul
  | n + 1, σ, x0, x1, x2 => by
    rw [Reg_free_p2]
    refine g_iload_n 2 2 dX7_free_2 rfl rfl ?_
    refine g_aload_n 0 0 dX7_free_3 rfl rfl ?_
    refine g_getI fdX7_72 dX7_free_4 ?_
    refine g_icmp_ge 60 dX7_free_7 (by decide) ?_ ?_
    · exact g_return rfl dX7_free_60
    · refine g_aload_n 0 0 dX7_free_10 rfl rfl ?_
      refine g_getR fdX7_30 dX7_free_11 ?_
      refine g_iload_n 2 2 dX7_free_14 rfl rfl ?_
      refine g_iaload dX7_free_15 ?_
      refine g_iconst (v := 1) dX7_free_16 (by decide) ?_
      refine g_icmp_ne 54 dX7_free_17 (by decide) ?_ ?_
      · exact gX7_free_p54 (Reg_free_p2 n) (gX7_free_p2 n) _ _ _ _
      · refine g_aload_n 0 0 dX7_free_20 rfl rfl ?_
        refine g_getR fdX7_33 dX7_free_21 ?_
        refine g_iload_n 2 2 dX7_free_24 rfl rfl ?_
        refine g_iaload dX7_free_25 ?_
        refine g_iload_n 1 1 dX7_free_26 rfl rfl ?_
        refine g_icmp_ne 54 dX7_free_27 (by decide) ?_ ?_
        · exact gX7_free_p54 (Reg_free_p2 n) (gX7_free_p2 n) _ _ _ _
        · refine g_aload_n 0 0 dX7_free_30 rfl rfl ?_
          refine g_sipush (v := 300) dX7_free_31 (by decide) ?_
          refine g_aload_n 0 0 dX7_free_34 rfl rfl ?_
          refine g_iload_n 2 2 dX7_free_35 rfl rfl ?_
          refine g_callV (fc := fun sς => Reg_slot sς x0 x2) (ci := 7) (as := [iv x2]) rfl rfl rfl q2434 qs147 mdX7_69 (ctX7_slot x0 x2) rfl (Nat.le_of_ble_eq_true rfl) (Nat.le_of_ble_eq_true rfl) (Nat.le_of_ble_eq_true rfl) pu_I dX7_free_36 (fun r2 σ1 => ?_)
          refine g_iload_n 1 1 dX7_free_39 rfl rfl ?_
          refine g_iconst (v := 0) dX7_free_40 (by decide) ?_
          refine g_iconst (v := 0) dX7_free_41 (by decide) ?_
          refine g_iconst (v := 0) dX7_free_42 (by decide) ?_
          refine g_callV (fc := fun sς => Reg_emit sς x0 (300 : Int32) r2 x1 (0 : Int32) (0 : Int32) (0 : Int32)) (ci := 7) (as := [iv (300 : Int32), iv r2, iv x1, iv (0 : Int32), iv (0 : Int32), iv (0 : Int32)]) rfl rfl rfl q2438 qs148 mdX7_78 (ctX7_emit x0 (300 : Int32) r2 x1 (0 : Int32) (0 : Int32) (0 : Int32)) rfl (Nat.le_of_ble_eq_true rfl) (Nat.le_of_ble_eq_true rfl) (Nat.le_of_ble_eq_true rfl) pu_I dX7_free_43 (fun r4 σ3 => ?_)
          refine g_pop dX7_free_46 rfl ?_
          refine g_aload_n 0 0 dX7_free_47 rfl rfl ?_
          refine g_getR fdX7_30 dX7_free_48 ?_
          refine g_iload_n 2 2 dX7_free_51 rfl rfl ?_
          refine g_iconst (v := 0) dX7_free_52 (by decide) ?_
          refine g_iastore dX7_free_53 (fun σ5 => ?_)
          exact gX7_free_p54 (Reg_free_p2 n) (gX7_free_p2 n) _ _ _ _
def V.Reg_free (σ : HS) (x0 : Nat) (x1 : Int32) : Option (Unit × HS) :=
  Reg_free_p2 FU σ x0 x1 (0 : Int32)
theorem V.ctX7_free (x0 : Nat) (x1 : Int32) : Ct yX7_free  cX7_free 3 none 1 28 eV [av x0, iv x1] (fun σ => Reg_free σ x0 x1) := by
  refine Ct.of (own := RX7) (nm := "free") (desc := "(I)V") rfl (by decide) (Nat.le_of_ble_eq_true rfl) (by decide) (fun X σ => ?_)
  show G X RX7 "free" cX7_free 3 none 1 28 enV 0 [(0, av x0), (1, iv x1)] [] σ (Reg_free σ x0 x1)
  unfold Reg_free
  refine g_iconst (v := 0) dX7_free_0 (by decide) ?_
  refine g_istore_n 2 dX7_free_1 rfl (by decide) rfl ?_
  refine G.sub [1, 2, 0] rfl ?_
  exact gX7_free_p2 FU _ _ _ _
theorem V.dX7_constant_0 : decode cX7_constant 0 = .ok (.iconst 0, 1) := by decide +kernel
theorem V.dX7_constant_1 : decode cX7_constant 1 = .ok (.istore_n 3, 1) := by decide +kernel
theorem V.dX7_constant_2 : decode cX7_constant 2 = .ok (.iload_n 3, 1) := by decide +kernel
theorem V.dX7_constant_3 : decode cX7_constant 3 = .ok (.aload_n 0, 1) := by decide +kernel
theorem V.dX7_constant_4 : decode cX7_constant 4 = .ok (.getfield 63, 3) := by decide +kernel
theorem V.dX7_constant_7 : decode cX7_constant 7 = .ok (.if_icmp .ge 24, 3) := by decide +kernel
theorem V.dX7_constant_10 : decode cX7_constant 10 = .ok (.aload_n 0, 1) := by decide +kernel
theorem V.dX7_constant_11 : decode cX7_constant 11 = .ok (.getfield 13, 3) := by decide +kernel
theorem V.dX7_constant_14 : decode cX7_constant 14 = .ok (.iload_n 3, 1) := by decide +kernel
theorem V.dX7_constant_15 : decode cX7_constant 15 = .ok (.laload, 1) := by decide +kernel
theorem V.dX7_constant_16 : decode cX7_constant 16 = .ok (.lload_n 1, 1) := by decide +kernel
theorem V.dX7_constant_17 : decode cX7_constant 17 = .ok (.lcmp, 1) := by decide +kernel
theorem V.dX7_constant_18 : decode cX7_constant 18 = .ok (.ifCond .ne 7, 3) := by decide +kernel
theorem V.dX7_constant_21 : decode cX7_constant 21 = .ok (.iconst (-1), 1) := by decide +kernel
theorem V.dX7_constant_22 : decode cX7_constant 22 = .ok (.iload_n 3, 1) := by decide +kernel
theorem V.dX7_constant_23 : decode cX7_constant 23 = .ok (.isub, 1) := by decide +kernel
theorem V.dX7_constant_24 : decode cX7_constant 24 = .ok (.ireturn, 1) := by decide +kernel
theorem V.dX7_constant_25 : decode cX7_constant 25 = .ok (.iinc 3 1, 3) := by decide +kernel
theorem V.dX7_constant_28 : decode cX7_constant 28 = .ok (.goto (-26), 3) := by decide +kernel
theorem V.dX7_constant_31 : decode cX7_constant 31 = .ok (.aload_n 0, 1) := by decide +kernel
theorem V.dX7_constant_32 : decode cX7_constant 32 = .ok (.getfield 63, 3) := by decide +kernel
theorem V.dX7_constant_35 : decode cX7_constant 35 = .ok (.aload_n 0, 1) := by decide +kernel
theorem V.dX7_constant_36 : decode cX7_constant 36 = .ok (.getfield 13, 3) := by decide +kernel
theorem V.dX7_constant_39 : decode cX7_constant 39 = .ok (.arraylength, 1) := by decide +kernel
theorem V.dX7_constant_40 : decode cX7_constant 40 = .ok (.if_icmp .ne 46, 3) := by decide +kernel
theorem V.dX7_constant_43 : decode cX7_constant 43 = .ok (.iconst 2, 1) := by decide +kernel
theorem V.dX7_constant_44 : decode cX7_constant 44 = .ok (.aload_n 0, 1) := by decide +kernel
theorem V.dX7_constant_45 : decode cX7_constant 45 = .ok (.getfield 63, 3) := by decide +kernel
theorem V.dX7_constant_48 : decode cX7_constant 48 = .ok (.imul, 1) := by decide +kernel
theorem V.dX7_constant_49 : decode cX7_constant 49 = .ok (.newarray .long, 2) := by decide +kernel
theorem V.dX7_constant_51 : decode cX7_constant 51 = .ok (.astore_n 3, 1) := by decide +kernel
theorem V.dX7_constant_52 : decode cX7_constant 52 = .ok (.iconst 0, 1) := by decide +kernel
theorem V.dX7_constant_53 : decode cX7_constant 53 = .ok (.istore 4, 2) := by decide +kernel
theorem V.dX7_constant_55 : decode cX7_constant 55 = .ok (.iload 4, 2) := by decide +kernel
theorem V.dX7_constant_57 : decode cX7_constant 57 = .ok (.aload_n 0, 1) := by decide +kernel
theorem V.dX7_constant_58 : decode cX7_constant 58 = .ok (.getfield 63, 3) := by decide +kernel
theorem V.dX7_constant_61 : decode cX7_constant 61 = .ok (.if_icmp .ge 20, 3) := by decide +kernel
theorem V.dX7_constant_64 : decode cX7_constant 64 = .ok (.aload_n 3, 1) := by decide +kernel
theorem V.dX7_constant_65 : decode cX7_constant 65 = .ok (.iload 4, 2) := by decide +kernel
theorem V.dX7_constant_67 : decode cX7_constant 67 = .ok (.aload_n 0, 1) := by decide +kernel
theorem V.dX7_constant_68 : decode cX7_constant 68 = .ok (.getfield 13, 3) := by decide +kernel
theorem V.dX7_constant_71 : decode cX7_constant 71 = .ok (.iload 4, 2) := by decide +kernel
theorem V.dX7_constant_73 : decode cX7_constant 73 = .ok (.laload, 1) := by decide +kernel
theorem V.dX7_constant_74 : decode cX7_constant 74 = .ok (.lastore, 1) := by decide +kernel
theorem V.dX7_constant_75 : decode cX7_constant 75 = .ok (.iinc 4 1, 3) := by decide +kernel
theorem V.dX7_constant_78 : decode cX7_constant 78 = .ok (.goto (-23), 3) := by decide +kernel
theorem V.dX7_constant_81 : decode cX7_constant 81 = .ok (.aload_n 0, 1) := by decide +kernel
theorem V.dX7_constant_82 : decode cX7_constant 82 = .ok (.aload_n 3, 1) := by decide +kernel
theorem V.dX7_constant_83 : decode cX7_constant 83 = .ok (.putfield 13, 3) := by decide +kernel
theorem V.dX7_constant_86 : decode cX7_constant 86 = .ok (.aload_n 0, 1) := by decide +kernel
theorem V.dX7_constant_87 : decode cX7_constant 87 = .ok (.getfield 13, 3) := by decide +kernel
theorem V.dX7_constant_90 : decode cX7_constant 90 = .ok (.aload_n 0, 1) := by decide +kernel
theorem V.dX7_constant_91 : decode cX7_constant 91 = .ok (.getfield 63, 3) := by decide +kernel
theorem V.dX7_constant_94 : decode cX7_constant 94 = .ok (.lload_n 1, 1) := by decide +kernel
theorem V.dX7_constant_95 : decode cX7_constant 95 = .ok (.lastore, 1) := by decide +kernel
theorem V.dX7_constant_96 : decode cX7_constant 96 = .ok (.aload_n 0, 1) := by decide +kernel
theorem V.dX7_constant_97 : decode cX7_constant 97 = .ok (.dup, 1) := by decide +kernel
theorem V.dX7_constant_98 : decode cX7_constant 98 = .ok (.getfield 63, 3) := by decide +kernel
theorem V.dX7_constant_101 : decode cX7_constant 101 = .ok (.iconst 1, 1) := by decide +kernel
theorem V.dX7_constant_102 : decode cX7_constant 102 = .ok (.iadd, 1) := by decide +kernel
theorem V.dX7_constant_103 : decode cX7_constant 103 = .ok (.putfield 63, 3) := by decide +kernel
theorem V.dX7_constant_106 : decode cX7_constant 106 = .ok (.aload_n 0, 1) := by decide +kernel
theorem V.dX7_constant_107 : decode cX7_constant 107 = .ok (.getfield 63, 3) := by decide +kernel
theorem V.dX7_constant_110 : decode cX7_constant 110 = .ok (.ineg, 1) := by decide +kernel
theorem V.dX7_constant_111 : decode cX7_constant 111 = .ok (.ireturn, 1) := by decide +kernel
theorem V.fdX7_63 : FD RX7 63 7 5 0 := ⟨(RX7, TX7, 17), tyX7, rfl, rfl, in_X7, by decide, Or.inl q698, rfl⟩
theorem V.fdX7_13 : FD RX7 13 7 4 2 := ⟨(RX7, TX7, 17), tyX7, rfl, rfl, in_X7, by decide, Or.inl q696, rfl⟩
theorem V.fpX7_63 {nm : String} : FP RX7 nm 63 7 5 (.int) := ⟨(RX7, TX7, 17), tyX7, rfl, rfl, in_X7, by decide, tyX7_ok, nmX7, rfl, Or.inl ⟨rfl, Or.inl q698⟩⟩
/-! ModuleEngine$Registers.constant(J)I -/
def V.Reg_constant_p86  (σ : HS) (x0 : Nat) (x1 : Int64) : Option (Int32 × HS) :=
  ck (tg σ x0 = 8) <|
  ck (tg σ x0 = 8) <|
  ck (tg σ (gR σ x0 4) = 101 ∧ inb (gI σ x0 5) (ln σ (gR σ x0 4))) <| bn (sJ σ (gR σ x0 4) (ix (gI σ x0 5)) x1) fun σ1 =>
  ck (tg σ1 x0 = 8) <|
  ck (tg σ1 x0 = 8) <| bn (sI σ1 x0 5 ((gI σ1 x0 5) + (1 : Int32))) fun σ2 =>
  ck (tg σ2 x0 = 8) <|
  some (-(gI σ2 x0 5), σ2)
theorem V.gX7_constant_p86 {X : CX}  (σ : HS) (x0 : Nat) (x1 : Int64) : G X RX7 "constant" cX7_constant 5 (some .int) 0 0 enI 86 [(0, av x0), (1, jv x1)] [] σ (Reg_constant_p86 σ x0 x1) := by
  unfold Reg_constant_p86
  refine g_aload_n 0 0 dX7_constant_86 rfl rfl ?_
  refine g_getR fdX7_13 dX7_constant_87 ?_
  refine g_aload_n 0 0 dX7_constant_90 rfl rfl ?_
  refine g_getI fdX7_63 dX7_constant_91 ?_
  refine g_lload_n 1 1 dX7_constant_94 rfl rfl ?_
  refine g_lastore dX7_constant_95 (fun σ1 => ?_)
  refine g_aload_n 0 0 dX7_constant_96 rfl rfl ?_
  refine g_dup dX7_constant_97 rfl ?_
  refine g_getI fdX7_63 dX7_constant_98 ?_
  refine g_iconst (v := 1) dX7_constant_101 (by decide) ?_
  refine g_iadd dX7_constant_102 ?_
  refine g_putI fpX7_63 dX7_constant_103 (fun σ2 => ?_)
  refine g_aload_n 0 0 dX7_constant_106 rfl rfl ?_
  refine g_getI fdX7_63 dX7_constant_107 ?_
  refine g_ineg dX7_constant_110 ?_
  exact g_ireturn rfl dX7_constant_111
def V.Reg_constant_p55  : Nat → HS → Nat → Int64 → Nat → Int32 → Option (Int32 × HS)
  | 0, _, _, _, _, _ => none
  | n + 1, σ, x0, x1, x3, x4 =>
    ck (tg σ x0 = 8) <|
    if (gI σ x0 5) ≤ x4 then (
      ck (tg σ x0 = 8) <| bn (sR σ x0 4 x3) fun σ1 =>
      Reg_constant_p86 σ1 x0 x1)
    else (
      ck (tg σ x0 = 8) <|
      ck (tg σ (gR σ x0 4) = 101 ∧ inb x4 (ln σ (gR σ x0 4))) <|
      ck (tg σ x3 = 101 ∧ inb x4 (ln σ x3)) <| bn (sJ σ x3 (ix x4) (gJ σ (gR σ x0 4) (ix x4))) fun σ2 =>
      bn (x4 + (1 : Int32)) fun y3 =>
      Reg_constant_p55 n σ2 x0 x1 x3 y3)
theorem V.gX7_constant_p55 {X : CX}  : ∀ (n : Nat) (σ : HS) (x0 : Nat) (x1 : Int64) (x3 : Nat) (x4 : Int32), G X RX7 "constant" cX7_constant 5 (some .int) 0 0 enI 55 [(0, av x0), (1, jv x1), (3, av x3), (4, iv x4)] [] σ (Reg_constant_p55 n σ x0 x1 x3 x4)
  | 0, σ, x0, x1, x3, x4 => by rw [Reg_constant_p55]; exact G.nul
  | n + 1, σ, x0, x1, x3, x4 => by
    rw [Reg_constant_p55]
    refine g_iload 3 dX7_constant_55 rfl ?_
    refine g_aload_n 0 0 dX7_constant_57 rfl rfl ?_
    refine g_getI fdX7_63 dX7_constant_58 ?_
    refine g_icmp_ge 81 dX7_constant_61 (by decide) ?_ ?_
    · refine g_aload_n 0 0 dX7_constant_81 rfl rfl ?_
      refine g_aload_n 3 2 dX7_constant_82 rfl rfl ?_
      refine g_putR fpX7_13 rfl dX7_constant_83 (fun σ1 => ?_)
      refine G.sub [0, 1] rfl ?_
      exact gX7_constant_p86 _ _ _
    · refine g_aload_n 3 2 dX7_constant_64 rfl rfl ?_
      refine g_iload 3 dX7_constant_65 rfl ?_
      refine g_aload_n 0 0 dX7_constant_67 rfl rfl ?_
      refine g_getR fdX7_13 dX7_constant_68 ?_
      refine g_iload 3 dX7_constant_71 rfl ?_
      refine g_laload dX7_constant_73 ?_
      refine g_lastore dX7_constant_74 (fun σ2 => ?_)
      refine g_iincB (w := 1) 3 dX7_constant_75 rfl (by decide) (by decide) (fun _ => rfl) (fun y3 => ?_)
      refine g_goto 55 dX7_constant_78 (by decide) ?_
      refine G.sub [1, 2, 3, 0] rfl ?_
      exact gX7_constant_p55 n _ _ _ _ _
def V.Reg_constant_p2  : Nat → HS → Nat → Int64 → Int32 → Option (Int32 × HS)
  | 0, _, _, _, _ => none
  | n + 1, σ, x0, x1, x3 =>
    ck (tg σ x0 = 8) <|
    if (gI σ x0 5) ≤ x3 then (
      ck (tg σ x0 = 8) <|
      ck (tg σ x0 = 8) <|
      ck (tg σ (gR σ x0 4) = 101) <|
      if (gI σ x0 5) = (nI (ln σ (gR σ x0 4))) then (
        ck (tg σ x0 = 8) <|
        ck (lenok ((2 : Int32) * (gI σ x0 5))) <| newa σ 101 ((2 : Int32) * (gI σ x0 5)) fun a1 σ2 =>
        Reg_constant_p55 FU σ2 x0 x1 a1 (0 : Int32))
      else (
        Reg_constant_p86 σ x0 x1))
    else (
      ck (tg σ x0 = 8) <|
      ck (tg σ (gR σ x0 4) = 101 ∧ inb x3 (ln σ (gR σ x0 4))) <|
      if (gJ σ (gR σ x0 4) (ix x3)) = x1 then (
        some ((-1 : Int32) - x3, σ))
      else (
        bn (x3 + (1 : Int32)) fun y3 =>
        Reg_constant_p2 n σ x0 x1 y3))
theorem V.gX7_constant_p2 {X : CX}  : ∀ (n : Nat) (σ : HS) (x0 : Nat) (x1 : Int64) (x3 : Int32), G X RX7 "constant" cX7_constant 5 (some .int) 0 0 enI 2 [(0, av x0), (1, jv x1), (3, iv x3)] [] σ (Reg_constant_p2 n σ x0 x1 x3)
  | 0, σ, x0, x1, x3 => by rw [Reg_constant_p2]; exact G.nul
  | n + 1, σ, x0, x1, x3 => by
    rw [Reg_constant_p2]
    refine g_iload_n 3 2 dX7_constant_2 rfl rfl ?_
    refine g_aload_n 0 0 dX7_constant_3 rfl rfl ?_
    refine g_getI fdX7_63 dX7_constant_4 ?_
    refine g_icmp_ge 31 dX7_constant_7 (by decide) ?_ ?_
    · refine g_aload_n 0 0 dX7_constant_31 rfl rfl ?_
      refine g_getI fdX7_63 dX7_constant_32 ?_
      refine g_aload_n 0 0 dX7_constant_35 rfl rfl ?_
      refine g_getR fdX7_13 dX7_constant_36 ?_
      refine g_alen 1 rfl dX7_constant_39 ?_
      refine g_icmp_ne 86 dX7_constant_40 (by decide) ?_ ?_
      · refine G.sub [0, 1] rfl ?_
        exact gX7_constant_p86 _ _ _
      · refine g_iconst (v := 2) dX7_constant_43 (by decide) ?_
        refine g_aload_n 0 0 dX7_constant_44 rfl rfl ?_
        refine g_getI fdX7_63 dX7_constant_45 ?_
        refine g_imul dX7_constant_48 ?_
        refine g_na_long dX7_constant_49 (fun a1 σ2 => ?_)
        refine g_astore_n 3 dX7_constant_51 rfl (by decide) rfl ?_
        refine g_iconst (v := 0) dX7_constant_52 (by decide) ?_
        refine g_istore dX7_constant_53 (by decide) rfl ?_
        refine G.sub [2, 3, 1, 0] rfl ?_
        exact gX7_constant_p55 FU _ _ _ _ _
    · refine g_aload_n 0 0 dX7_constant_10 rfl rfl ?_
      refine g_getR fdX7_13 dX7_constant_11 ?_
      refine g_iload_n 3 2 dX7_constant_14 rfl rfl ?_
      refine g_laload dX7_constant_15 ?_
      refine g_lload_n 1 1 dX7_constant_16 rfl rfl ?_
      refine g_lcmp_ne 25 dX7_constant_17 dX7_constant_18 (by decide) ?_ ?_
      · refine g_iincB (w := 1) 2 dX7_constant_25 rfl (by decide) (by decide) (fun _ => rfl) (fun y3 => ?_)
        refine g_goto 2 dX7_constant_28 (by decide) ?_
        refine G.sub [1, 2, 0] rfl ?_
        exact gX7_constant_p2 n _ _ _ _
      · refine g_iconst (v := (-1)) dX7_constant_21 (by decide) ?_
        refine g_iload_n 3 2 dX7_constant_22 rfl rfl ?_
        refine g_isub dX7_constant_23 ?_
        exact g_ireturn rfl dX7_constant_24
def V.Reg_constant (σ : HS) (x0 : Nat) (x1 : Int64) : Option (Int32 × HS) :=
  Reg_constant_p2 FU σ x0 x1 (0 : Int32)
theorem V.ctX7_constant (x0 : Nat) (x1 : Int64) : Ct yX7_constant  cX7_constant 5 (some .int) 0 0 eI [av x0, jv x1] (fun σ => Reg_constant σ x0 x1) := by
  refine Ct.of (own := RX7) (nm := "constant") (desc := "(J)I") rfl (by decide) (Nat.le_of_ble_eq_true rfl) (by decide) (fun X σ => ?_)
  show G X RX7 "constant" cX7_constant 5 (some .int) 0 0 enI 0 [(0, av x0), (1, jv x1)] [] σ (Reg_constant σ x0 x1)
  unfold Reg_constant
  refine g_iconst (v := 0) dX7_constant_0 (by decide) ?_
  refine g_istore_n 3 dX7_constant_1 rfl (by decide) rfl ?_
  refine G.sub [1, 2, 0] rfl ?_
  exact gX7_constant_p2 FU _ _ _ _
theorem V.dX7_load_0 : decode cX7_load 0 = .ok (.aload_n 0, 1) := by decide +kernel
theorem V.dX7_load_1 : decode cX7_load 1 = .ok (.invokevirtual 134, 3) := by decide +kernel
theorem V.dX7_load_4 : decode cX7_load 4 = .ok (.istore_n 3, 1) := by decide +kernel
theorem V.dX7_load_5 : decode cX7_load 5 = .ok (.aload_n 0, 1) := by decide +kernel
theorem V.dX7_load_6 : decode cX7_load 6 = .ok (.iload_n 1, 1) := by decide +kernel
theorem V.dX7_load_7 : decode cX7_load 7 = .ok (.aload_n 0, 1) := by decide +kernel
theorem V.dX7_load_8 : decode cX7_load 8 = .ok (.aload_n 0, 1) := by decide +kernel
theorem V.dX7_load_9 : decode cX7_load 9 = .ok (.getfield 72, 3) := by decide +kernel
theorem V.dX7_load_12 : decode cX7_load 12 = .ok (.invokevirtual 69, 3) := by decide +kernel
theorem V.dX7_load_15 : decode cX7_load 15 = .ok (.iload_n 3, 1) := by decide +kernel
theorem V.dX7_load_16 : decode cX7_load 16 = .ok (.iload_n 2, 1) := by decide +kernel
theorem V.dX7_load_17 : decode cX7_load 17 = .ok (.iconst 0, 1) := by decide +kernel
theorem V.dX7_load_18 : decode cX7_load 18 = .ok (.aload_n 0, 1) := by decide +kernel
theorem V.dX7_load_19 : decode cX7_load 19 = .ok (.iconst 1, 1) := by decide +kernel
theorem V.dX7_load_20 : decode cX7_load 20 = .ok (.invokevirtual 128, 3) := by decide +kernel
theorem V.dX7_load_23 : decode cX7_load 23 = .ok (.invokevirtual 78, 3) := by decide +kernel
theorem V.dX7_load_26 : decode cX7_load 26 = .ok (.pop, 1) := by decide +kernel
theorem V.dX7_load_27 : decode cX7_load 27 = .ok (.aload_n 0, 1) := by decide +kernel
theorem V.dX7_load_28 : decode cX7_load 28 = .ok (.iconst 0, 1) := by decide +kernel
theorem V.dX7_load_29 : decode cX7_load 29 = .ok (.iconst 0, 1) := by decide +kernel
theorem V.dX7_load_30 : decode cX7_load 30 = .ok (.invokevirtual 131, 3) := by decide +kernel
theorem V.dX7_load_33 : decode cX7_load 33 = .ok (.return_, 1) := by decide +kernel
/-! ModuleEngine$Registers.load(II)V -/
def V.Reg_load (σ : HS) (x0 : Nat) (x1 : Int32) (x2 : Int32) : Option (Unit × HS) :=
  ck (tg σ x0 = 8) <| cl (Reg_pop σ x0 ) fun r2 σ1 =>
  ck (tg σ1 x0 = 8) <|
  ck (tg σ1 x0 = 8) <| cl (Reg_slot σ1 x0 (gI σ1 x0 12)) fun r4 σ3 =>
  ck (tg σ3 x0 = 8) <| cl (Reg_steps σ3 x0 (1 : Int32)) fun r6 σ5 =>
  ck (tg σ5 x0 = 8) <| cl (Reg_emit σ5 x0 x1 r4 r2 x2 (0 : Int32) r6) fun r8 σ7 =>
  ck (tg σ7 x0 = 8) <| cl (Reg_push σ7 x0 (0 : Int32) (0 : Int32)) fun _ σ9 =>
  some ((), σ9)
theorem V.ctX7_load (x0 : Nat) (x1 : Int32) (x2 : Int32) : Ct yX7_load  cX7_load 4 none 3 62 eV [av x0, iv x1, iv x2] (fun σ => Reg_load σ x0 x1 x2) := by
  refine Ct.of (own := RX7) (nm := "load") (desc := "(II)V") rfl (by decide) (Nat.le_of_ble_eq_true rfl) (by decide) (fun X σ => ?_)
  show G X RX7 "load" cX7_load 4 none 3 62 enV 0 [(0, av x0), (1, iv x1), (2, iv x2)] [] σ (Reg_load σ x0 x1 x2)
  unfold Reg_load
  refine g_aload_n 0 0 dX7_load_0 rfl rfl ?_
  refine g_callV (fc := fun sς => Reg_pop sς x0 ) (ci := 7) (as := []) rfl rfl rfl q2454 qs152 mdX7_134 (ctX7_pop x0 ) rfl (Nat.le_of_ble_eq_true rfl) (Nat.le_of_ble_eq_true rfl) (Nat.le_of_ble_eq_true rfl) pu_I dX7_load_1 (fun r2 σ1 => ?_)
  refine g_istore_n 3 dX7_load_4 rfl (by decide) rfl ?_
  refine g_aload_n 0 1 dX7_load_5 rfl rfl ?_
  refine g_iload_n 1 2 dX7_load_6 rfl rfl ?_
  refine g_aload_n 0 1 dX7_load_7 rfl rfl ?_
  refine g_aload_n 0 1 dX7_load_8 rfl rfl ?_
  refine g_getI fdX7_72 dX7_load_9 ?_
  refine g_callV (fc := fun sς => Reg_slot sς x0 (gI σ1 x0 12)) (ci := 7) (as := [iv (gI σ1 x0 12)]) rfl rfl rfl q2434 qs147 mdX7_69 (ctX7_slot x0 (gI σ1 x0 12)) rfl (Nat.le_of_ble_eq_true rfl) (Nat.le_of_ble_eq_true rfl) (Nat.le_of_ble_eq_true rfl) pu_I dX7_load_12 (fun r4 σ3 => ?_)
  refine g_iload_n 3 0 dX7_load_15 rfl rfl ?_
  refine g_iload_n 2 3 dX7_load_16 rfl rfl ?_
  refine g_iconst (v := 0) dX7_load_17 (by decide) ?_
  refine g_aload_n 0 1 dX7_load_18 rfl rfl ?_
  refine g_iconst (v := 1) dX7_load_19 (by decide) ?_
  refine g_callV (fc := fun sς => Reg_steps sς x0 (1 : Int32)) (ci := 7) (as := [iv (1 : Int32)]) rfl rfl rfl q2442 qs149 mdX7_128 (ctX7_steps x0 (1 : Int32)) rfl (Nat.le_of_ble_eq_true rfl) (Nat.le_of_ble_eq_true rfl) (Nat.le_of_ble_eq_true rfl) pu_I dX7_load_20 (fun r6 σ5 => ?_)
  refine g_callV (fc := fun sς => Reg_emit sς x0 x1 r4 r2 x2 (0 : Int32) r6) (ci := 7) (as := [iv x1, iv r4, iv r2, iv x2, iv (0 : Int32), iv r6]) rfl rfl rfl q2438 qs148 mdX7_78 (ctX7_emit x0 x1 r4 r2 x2 (0 : Int32) r6) rfl (Nat.le_of_ble_eq_true rfl) (Nat.le_of_ble_eq_true rfl) (Nat.le_of_ble_eq_true rfl) pu_I dX7_load_23 (fun r8 σ7 => ?_)
  refine g_pop dX7_load_26 rfl ?_
  refine g_aload_n 0 1 dX7_load_27 rfl rfl ?_
  refine g_iconst (v := 0) dX7_load_28 (by decide) ?_
  refine g_iconst (v := 0) dX7_load_29 (by decide) ?_
  refine g_callV (fc := fun sς => Reg_push sς x0 (0 : Int32) (0 : Int32)) (ci := 7) (as := [iv (0 : Int32), iv (0 : Int32)]) rfl rfl rfl q2446 qs150 mdX7_131 (ctX7_push x0 (0 : Int32) (0 : Int32)) rfl (Nat.le_of_ble_eq_true rfl) (Nat.le_of_ble_eq_true rfl) (Nat.le_of_ble_eq_true rfl) pu_V dX7_load_30 (fun _ σ9 => ?_)
  exact g_return rfl dX7_load_33
theorem V.dX7_place_0 : decode cX7_place 0 = .ok (.aload_n 0, 1) := by decide +kernel
theorem V.dX7_place_1 : decode cX7_place 1 = .ok (.getfield 36, 3) := by decide +kernel
theorem V.dX7_place_4 : decode cX7_place 4 = .ok (.iload_n 1, 1) := by decide +kernel
theorem V.dX7_place_5 : decode cX7_place 5 = .ok (.invokevirtual 179, 3) := by decide +kernel
theorem V.dX7_place_8 : decode cX7_place 8 = .ok (.istore 4, 2) := by decide +kernel
theorem V.dX7_place_10 : decode cX7_place 10 = .ok (.aload_n 0, 1) := by decide +kernel
theorem V.dX7_place_11 : decode cX7_place 11 = .ok (.aload_n 0, 1) := by decide +kernel
theorem V.dX7_place_12 : decode cX7_place 12 = .ok (.getfield 72, 3) := by decide +kernel
theorem V.dX7_place_15 : decode cX7_place 15 = .ok (.iload 4, 2) := by decide +kernel
theorem V.dX7_place_17 : decode cX7_place 17 = .ok (.isub, 1) := by decide +kernel
theorem V.dX7_place_18 : decode cX7_place 18 = .ok (.invokevirtual 125, 3) := by decide +kernel
theorem V.dX7_place_21 : decode cX7_place 21 = .ok (.aload_n 0, 1) := by decide +kernel
theorem V.dX7_place_22 : decode cX7_place 22 = .ok (.iload_n 1, 1) := by decide +kernel
theorem V.dX7_place_23 : decode cX7_place 23 = .ok (.aload_n 0, 1) := by decide +kernel
theorem V.dX7_place_24 : decode cX7_place 24 = .ok (.aload_n 0, 1) := by decide +kernel
theorem V.dX7_place_25 : decode cX7_place 25 = .ok (.getfield 72, 3) := by decide +kernel
theorem V.dX7_place_28 : decode cX7_place 28 = .ok (.iload 4, 2) := by decide +kernel
theorem V.dX7_place_30 : decode cX7_place 30 = .ok (.isub, 1) := by decide +kernel
theorem V.dX7_place_31 : decode cX7_place 31 = .ok (.invokevirtual 69, 3) := by decide +kernel
theorem V.dX7_place_34 : decode cX7_place 34 = .ok (.iload_n 2, 1) := by decide +kernel
theorem V.dX7_place_35 : decode cX7_place 35 = .ok (.iload_n 3, 1) := by decide +kernel
theorem V.dX7_place_36 : decode cX7_place 36 = .ok (.iconst 0, 1) := by decide +kernel
theorem V.dX7_place_37 : decode cX7_place 37 = .ok (.aload_n 0, 1) := by decide +kernel
theorem V.dX7_place_38 : decode cX7_place 38 = .ok (.iconst 1, 1) := by decide +kernel
theorem V.dX7_place_39 : decode cX7_place 39 = .ok (.invokevirtual 128, 3) := by decide +kernel
theorem V.dX7_place_42 : decode cX7_place 42 = .ok (.invokevirtual 78, 3) := by decide +kernel
theorem V.dX7_place_45 : decode cX7_place 45 = .ok (.pop, 1) := by decide +kernel
theorem V.dX7_place_46 : decode cX7_place 46 = .ok (.aload_n 0, 1) := by decide +kernel
theorem V.dX7_place_47 : decode cX7_place 47 = .ok (.dup, 1) := by decide +kernel
theorem V.dX7_place_48 : decode cX7_place 48 = .ok (.getfield 72, 3) := by decide +kernel
theorem V.dX7_place_51 : decode cX7_place 51 = .ok (.iload 4, 2) := by decide +kernel
theorem V.dX7_place_53 : decode cX7_place 53 = .ok (.isub, 1) := by decide +kernel
theorem V.dX7_place_54 : decode cX7_place 54 = .ok (.putfield 72, 3) := by decide +kernel
theorem V.dX7_place_57 : decode cX7_place 57 = .ok (.aload_n 0, 1) := by decide +kernel
theorem V.dX7_place_58 : decode cX7_place 58 = .ok (.getfield 36, 3) := by decide +kernel
theorem V.dX7_place_61 : decode cX7_place 61 = .ok (.iload_n 1, 1) := by decide +kernel
theorem V.dX7_place_62 : decode cX7_place 62 = .ok (.invokevirtual 182, 3) := by decide +kernel
theorem V.dX7_place_65 : decode cX7_place 65 = .ok (.ifCond .le 9, 3) := by decide +kernel
theorem V.dX7_place_68 : decode cX7_place 68 = .ok (.aload_n 0, 1) := by decide +kernel
theorem V.dX7_place_69 : decode cX7_place 69 = .ok (.iconst 0, 1) := by decide +kernel
theorem V.dX7_place_70 : decode cX7_place 70 = .ok (.iconst 0, 1) := by decide +kernel
theorem V.dX7_place_71 : decode cX7_place 71 = .ok (.invokevirtual 131, 3) := by decide +kernel
theorem V.dX7_place_74 : decode cX7_place 74 = .ok (.return_, 1) := by decide +kernel
theorem V.mdX7_179 : MD RX7 179 yX6_in cX6_in 2 (some .int) 1 := ⟨Or.inl q2502, q366, q2123, by decide, by decide, by decide +kernel⟩
theorem V.mdX7_182 : MD RX7 182 yX6_out cX6_out 2 (some .int) 1 := ⟨Or.inl q2503, q366, q2131, by decide, by decide, by decide +kernel⟩
/-! ModuleEngine$Registers.place(III)V -/
def V.Reg_place (σ : HS) (x0 : Nat) (x1 : Int32) (x2 : Int32) (x3 : Int32) : Option (Unit × HS) :=
  ck (tg σ x0 = 8) <|
  ck (tg σ (gR σ x0 0) = 7) <| cl (Flt_in σ (gR σ x0 0) x1) fun r2 σ1 =>
  ck (tg σ1 x0 = 8) <|
  ck (tg σ1 x0 = 8) <| cl (Reg_settle σ1 x0 ((gI σ1 x0 12) - r2)) fun _ σ3 =>
  ck (tg σ3 x0 = 8) <|
  ck (tg σ3 x0 = 8) <| cl (Reg_slot σ3 x0 ((gI σ3 x0 12) - r2)) fun r5 σ4 =>
  ck (tg σ4 x0 = 8) <| cl (Reg_steps σ4 x0 (1 : Int32)) fun r7 σ6 =>
  ck (tg σ6 x0 = 8) <| cl (Reg_emit σ6 x0 x1 r5 x2 x3 (0 : Int32) r7) fun r9 σ8 =>
  ck (tg σ8 x0 = 8) <|
  ck (tg σ8 x0 = 8) <| bn (sI σ8 x0 12 ((gI σ8 x0 12) - r2)) fun σ10 =>
  ck (tg σ10 x0 = 8) <|
  ck (tg σ10 (gR σ10 x0 0) = 7) <| cl (Flt_out σ10 (gR σ10 x0 0) x1) fun r12 σ11 =>
  if r12 ≤ 0 then (
    some ((), σ11))
  else (
    ck (tg σ11 x0 = 8) <| cl (Reg_push σ11 x0 (0 : Int32) (0 : Int32)) fun _ σ13 =>
    some ((), σ13))
theorem V.ctX7_place (x0 : Nat) (x1 : Int32) (x2 : Int32) (x3 : Int32) : Ct yX7_place  cX7_place 5 none 2 50 eV [av x0, iv x1, iv x2, iv x3] (fun σ => Reg_place σ x0 x1 x2 x3) := by
  refine Ct.of (own := RX7) (nm := "place") (desc := "(III)V") rfl (by decide) (Nat.le_of_ble_eq_true rfl) (by decide) (fun X σ => ?_)
  show G X RX7 "place" cX7_place 5 none 2 50 enV 0 [(0, av x0), (1, iv x1), (2, iv x2), (3, iv x3)] [] σ (Reg_place σ x0 x1 x2 x3)
  unfold Reg_place
  refine g_aload_n 0 0 dX7_place_0 rfl rfl ?_
  refine g_getR fdX7_36 dX7_place_1 ?_
  refine g_iload_n 1 1 dX7_place_4 rfl rfl ?_
  refine g_callV (fc := fun sς => Flt_in sς (gR σ x0 0) x1) (ci := 6) (as := [iv x1]) rfl rfl rfl q2121 q2122 mdX7_179 (ctX6_in (gR σ x0 0) x1) rfl (Nat.le_of_ble_eq_true rfl) (Nat.le_of_ble_eq_true rfl) (Nat.le_of_ble_eq_true rfl) pu_I dX7_place_5 (fun r2 σ1 => ?_)
  refine g_istore dX7_place_8 (by decide) rfl ?_
  refine g_aload_n 0 1 dX7_place_10 rfl rfl ?_
  refine g_aload_n 0 1 dX7_place_11 rfl rfl ?_
  refine g_getI fdX7_72 dX7_place_12 ?_
  refine g_iload 0 dX7_place_15 rfl ?_
  refine g_isub dX7_place_17 ?_
  refine g_callV (fc := fun sς => Reg_settle sς x0 ((gI σ1 x0 12) - r2)) (ci := 7) (as := [iv ((gI σ1 x0 12) - r2)]) rfl rfl rfl q2430 qs146 mdX7_125 (ctX7_settle x0 ((gI σ1 x0 12) - r2)) rfl (Nat.le_of_ble_eq_true rfl) (Nat.le_of_ble_eq_true rfl) (Nat.le_of_ble_eq_true rfl) pu_V dX7_place_18 (fun _ σ3 => ?_)
  refine g_aload_n 0 1 dX7_place_21 rfl rfl ?_
  refine g_iload_n 1 2 dX7_place_22 rfl rfl ?_
  refine g_aload_n 0 1 dX7_place_23 rfl rfl ?_
  refine g_aload_n 0 1 dX7_place_24 rfl rfl ?_
  refine g_getI fdX7_72 dX7_place_25 ?_
  refine g_iload 0 dX7_place_28 rfl ?_
  refine g_isub dX7_place_30 ?_
  refine g_callV (fc := fun sς => Reg_slot sς x0 ((gI σ3 x0 12) - r2)) (ci := 7) (as := [iv ((gI σ3 x0 12) - r2)]) rfl rfl rfl q2434 qs147 mdX7_69 (ctX7_slot x0 ((gI σ3 x0 12) - r2)) rfl (Nat.le_of_ble_eq_true rfl) (Nat.le_of_ble_eq_true rfl) (Nat.le_of_ble_eq_true rfl) pu_I dX7_place_31 (fun r5 σ4 => ?_)
  refine g_iload_n 2 3 dX7_place_34 rfl rfl ?_
  refine g_iload_n 3 4 dX7_place_35 rfl rfl ?_
  refine g_iconst (v := 0) dX7_place_36 (by decide) ?_
  refine g_aload_n 0 1 dX7_place_37 rfl rfl ?_
  refine g_iconst (v := 1) dX7_place_38 (by decide) ?_
  refine g_callV (fc := fun sς => Reg_steps sς x0 (1 : Int32)) (ci := 7) (as := [iv (1 : Int32)]) rfl rfl rfl q2442 qs149 mdX7_128 (ctX7_steps x0 (1 : Int32)) rfl (Nat.le_of_ble_eq_true rfl) (Nat.le_of_ble_eq_true rfl) (Nat.le_of_ble_eq_true rfl) pu_I dX7_place_39 (fun r7 σ6 => ?_)
  refine g_callV (fc := fun sς => Reg_emit sς x0 x1 r5 x2 x3 (0 : Int32) r7) (ci := 7) (as := [iv x1, iv r5, iv x2, iv x3, iv (0 : Int32), iv r7]) rfl rfl rfl q2438 qs148 mdX7_78 (ctX7_emit x0 x1 r5 x2 x3 (0 : Int32) r7) rfl (Nat.le_of_ble_eq_true rfl) (Nat.le_of_ble_eq_true rfl) (Nat.le_of_ble_eq_true rfl) pu_I dX7_place_42 (fun r9 σ8 => ?_)
  refine g_pop dX7_place_45 rfl ?_
  refine g_aload_n 0 1 dX7_place_46 rfl rfl ?_
  refine g_dup dX7_place_47 rfl ?_
  refine g_getI fdX7_72 dX7_place_48 ?_
  refine g_iload 0 dX7_place_51 rfl ?_
  refine g_isub dX7_place_53 ?_
  refine g_putI fpX7_72 dX7_place_54 (fun σ10 => ?_)
  refine g_aload_n 0 1 dX7_place_57 rfl rfl ?_
  refine g_getR fdX7_36 dX7_place_58 ?_
  refine g_iload_n 1 2 dX7_place_61 rfl rfl ?_
  refine g_callV (fc := fun sς => Flt_out sς (gR σ10 x0 0) x1) (ci := 6) (as := [iv x1]) rfl rfl rfl q2129 q2130 mdX7_182 (ctX6_out (gR σ10 x0 0) x1) rfl (Nat.le_of_ble_eq_true rfl) (Nat.le_of_ble_eq_true rfl) (Nat.le_of_ble_eq_true rfl) pu_I dX7_place_62 (fun r12 σ11 => ?_)
  refine g_if_le 74 dX7_place_65 (by decide) ?_ ?_
  · exact g_return rfl dX7_place_74
  · refine g_aload_n 0 1 dX7_place_68 rfl rfl ?_
    refine g_iconst (v := 0) dX7_place_69 (by decide) ?_
    refine g_iconst (v := 0) dX7_place_70 (by decide) ?_
    refine g_callV (fc := fun sς => Reg_push sς x0 (0 : Int32) (0 : Int32)) (ci := 7) (as := [iv (0 : Int32), iv (0 : Int32)]) rfl rfl rfl q2446 qs150 mdX7_131 (ctX7_push x0 (0 : Int32) (0 : Int32)) rfl (Nat.le_of_ble_eq_true rfl) (Nat.le_of_ble_eq_true rfl) (Nat.le_of_ble_eq_true rfl) pu_V dX7_place_71 (fun _ σ13 => ?_)
    exact g_return rfl dX7_place_74
theorem V.dX7_store_0 : decode cX7_store 0 = .ok (.aload_n 0, 1) := by decide +kernel
theorem V.dX7_store_1 : decode cX7_store 1 = .ok (.invokevirtual 134, 3) := by decide +kernel
theorem V.dX7_store_4 : decode cX7_store 4 = .ok (.istore_n 3, 1) := by decide +kernel
theorem V.dX7_store_5 : decode cX7_store 5 = .ok (.aload_n 0, 1) := by decide +kernel
theorem V.dX7_store_6 : decode cX7_store 6 = .ok (.invokevirtual 134, 3) := by decide +kernel
theorem V.dX7_store_9 : decode cX7_store 9 = .ok (.istore 4, 2) := by decide +kernel
theorem V.dX7_store_11 : decode cX7_store 11 = .ok (.aload_n 0, 1) := by decide +kernel
theorem V.dX7_store_12 : decode cX7_store 12 = .ok (.iload_n 1, 1) := by decide +kernel
theorem V.dX7_store_13 : decode cX7_store 13 = .ok (.iload_n 3, 1) := by decide +kernel
theorem V.dX7_store_14 : decode cX7_store 14 = .ok (.iload 4, 2) := by decide +kernel
theorem V.dX7_store_16 : decode cX7_store 16 = .ok (.iload_n 2, 1) := by decide +kernel
theorem V.dX7_store_17 : decode cX7_store 17 = .ok (.iconst 0, 1) := by decide +kernel
theorem V.dX7_store_18 : decode cX7_store 18 = .ok (.aload_n 0, 1) := by decide +kernel
theorem V.dX7_store_19 : decode cX7_store 19 = .ok (.iconst 1, 1) := by decide +kernel
theorem V.dX7_store_20 : decode cX7_store 20 = .ok (.invokevirtual 128, 3) := by decide +kernel
theorem V.dX7_store_23 : decode cX7_store 23 = .ok (.invokevirtual 78, 3) := by decide +kernel
theorem V.dX7_store_26 : decode cX7_store 26 = .ok (.pop, 1) := by decide +kernel
theorem V.dX7_store_27 : decode cX7_store 27 = .ok (.return_, 1) := by decide +kernel
/-! ModuleEngine$Registers.store(II)V -/
def V.Reg_store (σ : HS) (x0 : Nat) (x1 : Int32) (x2 : Int32) : Option (Unit × HS) :=
  ck (tg σ x0 = 8) <| cl (Reg_pop σ x0 ) fun r2 σ1 =>
  ck (tg σ1 x0 = 8) <| cl (Reg_pop σ1 x0 ) fun r4 σ3 =>
  ck (tg σ3 x0 = 8) <| cl (Reg_steps σ3 x0 (1 : Int32)) fun r6 σ5 =>
  ck (tg σ5 x0 = 8) <| cl (Reg_emit σ5 x0 x1 r2 r4 x2 (0 : Int32) r6) fun r8 σ7 =>
  some ((), σ7)
theorem V.ctX7_store (x0 : Nat) (x1 : Int32) (x2 : Int32) : Ct yX7_store  cX7_store 5 none 3 62 eV [av x0, iv x1, iv x2] (fun σ => Reg_store σ x0 x1 x2) := by
  refine Ct.of (own := RX7) (nm := "store") (desc := "(II)V") rfl (by decide) (Nat.le_of_ble_eq_true rfl) (by decide) (fun X σ => ?_)
  show G X RX7 "store" cX7_store 5 none 3 62 enV 0 [(0, av x0), (1, iv x1), (2, iv x2)] [] σ (Reg_store σ x0 x1 x2)
  unfold Reg_store
  refine g_aload_n 0 0 dX7_store_0 rfl rfl ?_
  refine g_callV (fc := fun sς => Reg_pop sς x0 ) (ci := 7) (as := []) rfl rfl rfl q2454 qs152 mdX7_134 (ctX7_pop x0 ) rfl (Nat.le_of_ble_eq_true rfl) (Nat.le_of_ble_eq_true rfl) (Nat.le_of_ble_eq_true rfl) pu_I dX7_store_1 (fun r2 σ1 => ?_)
  refine g_istore_n 3 dX7_store_4 rfl (by decide) rfl ?_
  refine g_aload_n 0 1 dX7_store_5 rfl rfl ?_
  refine g_callV (fc := fun sς => Reg_pop sς x0 ) (ci := 7) (as := []) rfl rfl rfl q2454 qs152 mdX7_134 (ctX7_pop x0 ) rfl (Nat.le_of_ble_eq_true rfl) (Nat.le_of_ble_eq_true rfl) (Nat.le_of_ble_eq_true rfl) pu_I dX7_store_6 (fun r4 σ3 => ?_)
  refine g_istore dX7_store_9 (by decide) rfl ?_
  refine g_aload_n 0 2 dX7_store_11 rfl rfl ?_
  refine g_iload_n 1 3 dX7_store_12 rfl rfl ?_
  refine g_iload_n 3 1 dX7_store_13 rfl rfl ?_
  refine g_iload 0 dX7_store_14 rfl ?_
  refine g_iload_n 2 4 dX7_store_16 rfl rfl ?_
  refine g_iconst (v := 0) dX7_store_17 (by decide) ?_
  refine g_aload_n 0 2 dX7_store_18 rfl rfl ?_
  refine g_iconst (v := 1) dX7_store_19 (by decide) ?_
  refine g_callV (fc := fun sς => Reg_steps sς x0 (1 : Int32)) (ci := 7) (as := [iv (1 : Int32)]) rfl rfl rfl q2442 qs149 mdX7_128 (ctX7_steps x0 (1 : Int32)) rfl (Nat.le_of_ble_eq_true rfl) (Nat.le_of_ble_eq_true rfl) (Nat.le_of_ble_eq_true rfl) pu_I dX7_store_20 (fun r6 σ5 => ?_)
  refine g_callV (fc := fun sς => Reg_emit sς x0 x1 r2 r4 x2 (0 : Int32) r6) (ci := 7) (as := [iv x1, iv r2, iv r4, iv x2, iv (0 : Int32), iv r6]) rfl rfl rfl q2438 qs148 mdX7_78 (ctX7_emit x0 x1 r2 r4 x2 (0 : Int32) r6) rfl (Nat.le_of_ble_eq_true rfl) (Nat.le_of_ble_eq_true rfl) (Nat.le_of_ble_eq_true rfl) pu_I dX7_store_23 (fun r8 σ7 => ?_)
  refine g_pop dX7_store_26 rfl ?_
  exact g_return rfl dX7_store_27
theorem V.dX7_calculate_0 : decode cX7_calculate 0 = .ok (.aload_n 0, 1) := by decide +kernel
theorem V.dX7_calculate_1 : decode cX7_calculate 1 = .ok (.getfield 40, 3) := by decide +kernel
theorem V.dX7_calculate_4 : decode cX7_calculate 4 = .ok (.iload_n 1, 1) := by decide +kernel
theorem V.dX7_calculate_5 : decode cX7_calculate 5 = .ok (.invokevirtual 185, 3) := by decide +kernel
theorem V.dX7_calculate_8 : decode cX7_calculate 8 = .ok (.iconst 2, 1) := by decide +kernel
theorem V.dX7_calculate_9 : decode cX7_calculate 9 = .ok (.if_icmp .ne 7, 3) := by decide +kernel
theorem V.dX7_calculate_12 : decode cX7_calculate 12 = .ok (.iconst 1, 1) := by decide +kernel
theorem V.dX7_calculate_13 : decode cX7_calculate 13 = .ok (.goto 4, 3) := by decide +kernel
theorem V.dX7_calculate_16 : decode cX7_calculate 16 = .ok (.iconst 0, 1) := by decide +kernel
theorem V.dX7_calculate_17 : decode cX7_calculate 17 = .ok (.istore_n 2, 1) := by decide +kernel
theorem V.dX7_calculate_18 : decode cX7_calculate 18 = .ok (.aload_n 0, 1) := by decide +kernel
theorem V.dX7_calculate_19 : decode cX7_calculate 19 = .ok (.invokevirtual 134, 3) := by decide +kernel
theorem V.dX7_calculate_22 : decode cX7_calculate 22 = .ok (.istore_n 3, 1) := by decide +kernel
theorem V.dX7_calculate_23 : decode cX7_calculate 23 = .ok (.iload_n 2, 1) := by decide +kernel
theorem V.dX7_calculate_24 : decode cX7_calculate 24 = .ok (.ifCond .eq 10, 3) := by decide +kernel
theorem V.dX7_calculate_27 : decode cX7_calculate 27 = .ok (.aload_n 0, 1) := by decide +kernel
theorem V.dX7_calculate_28 : decode cX7_calculate 28 = .ok (.invokevirtual 134, 3) := by decide +kernel
theorem V.dX7_calculate_31 : decode cX7_calculate 31 = .ok (.goto 4, 3) := by decide +kernel
theorem V.dX7_calculate_34 : decode cX7_calculate 34 = .ok (.iload_n 3, 1) := by decide +kernel
theorem V.dX7_calculate_35 : decode cX7_calculate 35 = .ok (.istore 4, 2) := by decide +kernel
theorem V.dX7_calculate_37 : decode cX7_calculate 37 = .ok (.iload 4, 2) := by decide +kernel
theorem V.dX7_calculate_39 : decode cX7_calculate 39 = .ok (.ifCond .ge 35, 3) := by decide +kernel
theorem V.dX7_calculate_42 : decode cX7_calculate 42 = .ok (.iload_n 3, 1) := by decide +kernel
theorem V.dX7_calculate_43 : decode cX7_calculate 43 = .ok (.ifCond .ge 31, 3) := by decide +kernel
theorem V.dX7_calculate_46 : decode cX7_calculate 46 = .ok (.aload_n 0, 1) := by decide +kernel
theorem V.dX7_calculate_47 : decode cX7_calculate 47 = .ok (.getfield 40, 3) := by decide +kernel
theorem V.dX7_calculate_50 : decode cX7_calculate 50 = .ok (.iload_n 1, 1) := by decide +kernel
theorem V.dX7_calculate_51 : decode cX7_calculate 51 = .ok (.aload_n 0, 1) := by decide +kernel
theorem V.dX7_calculate_52 : decode cX7_calculate 52 = .ok (.getfield 13, 3) := by decide +kernel
theorem V.dX7_calculate_55 : decode cX7_calculate 55 = .ok (.iconst (-1), 1) := by decide +kernel
theorem V.dX7_calculate_56 : decode cX7_calculate 56 = .ok (.iload 4, 2) := by decide +kernel
theorem V.dX7_calculate_58 : decode cX7_calculate 58 = .ok (.isub, 1) := by decide +kernel
theorem V.dX7_calculate_59 : decode cX7_calculate 59 = .ok (.laload, 1) := by decide +kernel
theorem V.dX7_calculate_60 : decode cX7_calculate 60 = .ok (.aload_n 0, 1) := by decide +kernel
theorem V.dX7_calculate_61 : decode cX7_calculate 61 = .ok (.getfield 13, 3) := by decide +kernel
theorem V.dX7_calculate_64 : decode cX7_calculate 64 = .ok (.iconst (-1), 1) := by decide +kernel
theorem V.dX7_calculate_65 : decode cX7_calculate 65 = .ok (.iload_n 3, 1) := by decide +kernel
theorem V.dX7_calculate_66 : decode cX7_calculate 66 = .ok (.isub, 1) := by decide +kernel
theorem V.dX7_calculate_67 : decode cX7_calculate 67 = .ok (.laload, 1) := by decide +kernel
theorem V.dX7_calculate_68 : decode cX7_calculate 68 = .ok (.invokevirtual 189, 3) := by decide +kernel
theorem V.dX7_calculate_71 : decode cX7_calculate 71 = .ok (.goto 4, 3) := by decide +kernel
theorem V.dX7_calculate_74 : decode cX7_calculate 74 = .ok (.lconst 0, 1) := by decide +kernel
theorem V.dX7_calculate_75 : decode cX7_calculate 75 = .ok (.lstore 5, 2) := by decide +kernel
theorem V.dX7_calculate_77 : decode cX7_calculate 77 = .ok (.iload 4, 2) := by decide +kernel
theorem V.dX7_calculate_79 : decode cX7_calculate 79 = .ok (.ifCond .ge 39, 3) := by decide +kernel
theorem V.dX7_calculate_82 : decode cX7_calculate 82 = .ok (.iload_n 3, 1) := by decide +kernel
theorem V.dX7_calculate_83 : decode cX7_calculate 83 = .ok (.ifCond .ge 35, 3) := by decide +kernel
theorem V.dX7_calculate_86 : decode cX7_calculate 86 = .ok (.aload_n 0, 1) := by decide +kernel
theorem V.dX7_calculate_87 : decode cX7_calculate 87 = .ok (.getfield 40, 3) := by decide +kernel
theorem V.dX7_calculate_90 : decode cX7_calculate 90 = .ok (.invokevirtual 193, 3) := by decide +kernel
theorem V.dX7_calculate_93 : decode cX7_calculate 93 = .ok (.ifCond .ne 25, 3) := by decide +kernel
theorem V.dX7_calculate_96 : decode cX7_calculate 96 = .ok (.aload_n 0, 1) := by decide +kernel
theorem V.dX7_calculate_97 : decode cX7_calculate 97 = .ok (.iconst 2, 1) := by decide +kernel
theorem V.dX7_calculate_98 : decode cX7_calculate 98 = .ok (.aload_n 0, 1) := by decide +kernel
theorem V.dX7_calculate_99 : decode cX7_calculate 99 = .ok (.lload 5, 2) := by decide +kernel
theorem V.dX7_calculate_101 : decode cX7_calculate 101 = .ok (.invokevirtual 164, 3) := by decide +kernel
theorem V.dX7_calculate_104 : decode cX7_calculate 104 = .ok (.invokevirtual 131, 3) := by decide +kernel
theorem V.dX7_calculate_107 : decode cX7_calculate 107 = .ok (.aload_n 0, 1) := by decide +kernel
theorem V.dX7_calculate_108 : decode cX7_calculate 108 = .ok (.dup, 1) := by decide +kernel
theorem V.dX7_calculate_109 : decode cX7_calculate 109 = .ok (.getfield 60, 3) := by decide +kernel
theorem V.dX7_calculate_112 : decode cX7_calculate 112 = .ok (.iconst 1, 1) := by decide +kernel
theorem V.dX7_calculate_113 : decode cX7_calculate 113 = .ok (.iadd, 1) := by decide +kernel
theorem V.dX7_calculate_114 : decode cX7_calculate 114 = .ok (.putfield 60, 3) := by decide +kernel
theorem V.dX7_calculate_117 : decode cX7_calculate 117 = .ok (.return_, 1) := by decide +kernel
theorem V.dX7_calculate_118 : decode cX7_calculate 118 = .ok (.aload_n 0, 1) := by decide +kernel
theorem V.dX7_calculate_119 : decode cX7_calculate 119 = .ok (.iload_n 1, 1) := by decide +kernel
theorem V.dX7_calculate_120 : decode cX7_calculate 120 = .ok (.aload_n 0, 1) := by decide +kernel
theorem V.dX7_calculate_121 : decode cX7_calculate 121 = .ok (.aload_n 0, 1) := by decide +kernel
theorem V.dX7_calculate_122 : decode cX7_calculate 122 = .ok (.getfield 72, 3) := by decide +kernel
theorem V.dX7_calculate_125 : decode cX7_calculate 125 = .ok (.invokevirtual 69, 3) := by decide +kernel
theorem V.dX7_calculate_128 : decode cX7_calculate 128 = .ok (.iload 4, 2) := by decide +kernel
theorem V.dX7_calculate_130 : decode cX7_calculate 130 = .ok (.iload_n 3, 1) := by decide +kernel
theorem V.dX7_calculate_131 : decode cX7_calculate 131 = .ok (.iconst 0, 1) := by decide +kernel
theorem V.dX7_calculate_132 : decode cX7_calculate 132 = .ok (.aload_n 0, 1) := by decide +kernel
theorem V.dX7_calculate_133 : decode cX7_calculate 133 = .ok (.iconst 1, 1) := by decide +kernel
theorem V.dX7_calculate_134 : decode cX7_calculate 134 = .ok (.invokevirtual 128, 3) := by decide +kernel
theorem V.dX7_calculate_137 : decode cX7_calculate 137 = .ok (.invokevirtual 78, 3) := by decide +kernel
theorem V.dX7_calculate_140 : decode cX7_calculate 140 = .ok (.pop, 1) := by decide +kernel
theorem V.dX7_calculate_141 : decode cX7_calculate 141 = .ok (.aload_n 0, 1) := by decide +kernel
theorem V.dX7_calculate_142 : decode cX7_calculate 142 = .ok (.iconst 0, 1) := by decide +kernel
theorem V.dX7_calculate_143 : decode cX7_calculate 143 = .ok (.iconst 0, 1) := by decide +kernel
theorem V.dX7_calculate_144 : decode cX7_calculate 144 = .ok (.invokevirtual 131, 3) := by decide +kernel
theorem V.dX7_calculate_147 : decode cX7_calculate 147 = .ok (.return_, 1) := by decide +kernel
theorem V.fdX7_40 : FD RX7 40 7 1 2 := ⟨(RX7, TX7, 17), tyX7, rfl, rfl, in_X7, by decide, Or.inl q692, rfl⟩
theorem V.mdX7_185 : MD RX7 185 yX4_operands cX4_operands 2 (some .int) 1 := ⟨Or.inl q2512, q364, q2127, by decide, by decide, by decide +kernel⟩
theorem V.mdX7_189 : MD RX7 189 yX4_apply cX4_apply 6 (some .long) 3 := ⟨Or.inl q2513, q364, q2516, by decide, by decide, by decide +kernel⟩
theorem V.mdX7_193 : MD RX7 193 yX4_trap cX4_trap 1 (some .int) 0 := ⟨Or.inl q2666, q364, q2669, by decide, by decide, by decide +kernel⟩
theorem V.mdX7_164 : MD RX7 164 yX7_constant cX7_constant 5 (some .int) 1 := ⟨Or.inl q2490, q367, q2493, by decide, by decide, by decide +kernel⟩
/-! ModuleEngine$Registers.calculate(I)V -/
def V.Reg_calculate_p118  (σ : HS) (x0 : Nat) (x1 : Int32) (x3 : Int32) (x4 : Int32) : Option (Unit × HS) :=
  ck (tg σ x0 = 8) <|
  ck (tg σ x0 = 8) <| cl (Reg_slot σ x0 (gI σ x0 12)) fun r2 σ1 =>
  ck (tg σ1 x0 = 8) <| cl (Reg_steps σ1 x0 (1 : Int32)) fun r4 σ3 =>
  ck (tg σ3 x0 = 8) <| cl (Reg_emit σ3 x0 x1 r2 x4 x3 (0 : Int32) r4) fun r6 σ5 =>
  ck (tg σ5 x0 = 8) <| cl (Reg_push σ5 x0 (0 : Int32) (0 : Int32)) fun _ σ7 =>
  some ((), σ7)
theorem V.gX7_calculate_p118 {X : CX}  (σ : HS) (x0 : Nat) (x1 : Int32) (x3 : Int32) (x4 : Int32) : G X RX7 "calculate" cX7_calculate 7 none 7 191 enV 118 [(0, av x0), (1, iv x1), (3, iv x3), (4, iv x4)] [] σ (Reg_calculate_p118 σ x0 x1 x3 x4) := by
  unfold Reg_calculate_p118
  refine g_aload_n 0 0 dX7_calculate_118 rfl rfl ?_
  refine g_iload_n 1 1 dX7_calculate_119 rfl rfl ?_
  refine g_aload_n 0 0 dX7_calculate_120 rfl rfl ?_
  refine g_aload_n 0 0 dX7_calculate_121 rfl rfl ?_
  refine g_getI fdX7_72 dX7_calculate_122 ?_
  refine g_callV (fc := fun sς => Reg_slot sς x0 (gI σ x0 12)) (ci := 7) (as := [iv (gI σ x0 12)]) rfl rfl rfl q2434 qs147 mdX7_69 (ctX7_slot x0 (gI σ x0 12)) rfl (Nat.le_of_ble_eq_true rfl) (Nat.le_of_ble_eq_true rfl) (Nat.le_of_ble_eq_true rfl) pu_I dX7_calculate_125 (fun r2 σ1 => ?_)
  refine g_iload 3 dX7_calculate_128 rfl ?_
  refine g_iload_n 3 2 dX7_calculate_130 rfl rfl ?_
  refine g_iconst (v := 0) dX7_calculate_131 (by decide) ?_
  refine g_aload_n 0 0 dX7_calculate_132 rfl rfl ?_
  refine g_iconst (v := 1) dX7_calculate_133 (by decide) ?_
  refine g_callV (fc := fun sς => Reg_steps sς x0 (1 : Int32)) (ci := 7) (as := [iv (1 : Int32)]) rfl rfl rfl q2442 qs149 mdX7_128 (ctX7_steps x0 (1 : Int32)) rfl (Nat.le_of_ble_eq_true rfl) (Nat.le_of_ble_eq_true rfl) (Nat.le_of_ble_eq_true rfl) pu_I dX7_calculate_134 (fun r4 σ3 => ?_)
  refine g_callV (fc := fun sς => Reg_emit sς x0 x1 r2 x4 x3 (0 : Int32) r4) (ci := 7) (as := [iv x1, iv r2, iv x4, iv x3, iv (0 : Int32), iv r4]) rfl rfl rfl q2438 qs148 mdX7_78 (ctX7_emit x0 x1 r2 x4 x3 (0 : Int32) r4) rfl (Nat.le_of_ble_eq_true rfl) (Nat.le_of_ble_eq_true rfl) (Nat.le_of_ble_eq_true rfl) pu_I dX7_calculate_137 (fun r6 σ5 => ?_)
  refine g_pop dX7_calculate_140 rfl ?_
  refine g_aload_n 0 0 dX7_calculate_141 rfl rfl ?_
  refine g_iconst (v := 0) dX7_calculate_142 (by decide) ?_
  refine g_iconst (v := 0) dX7_calculate_143 (by decide) ?_
  refine g_callV (fc := fun sς => Reg_push sς x0 (0 : Int32) (0 : Int32)) (ci := 7) (as := [iv (0 : Int32), iv (0 : Int32)]) rfl rfl rfl q2446 qs150 mdX7_131 (ctX7_push x0 (0 : Int32) (0 : Int32)) rfl (Nat.le_of_ble_eq_true rfl) (Nat.le_of_ble_eq_true rfl) (Nat.le_of_ble_eq_true rfl) pu_V dX7_calculate_144 (fun _ σ7 => ?_)
  exact g_return rfl dX7_calculate_147
def V.Reg_calculate_p75  (σ : HS) (x0 : Nat) (x1 : Int32) (x3 : Int32) (x4 : Int32) (s0 : Int64) : Option (Unit × HS) :=
  if 0 ≤ x4 then (
    Reg_calculate_p118 σ x0 x1 x3 x4)
  else (
    if 0 ≤ x3 then (
      Reg_calculate_p118 σ x0 x1 x3 x4)
    else (
      ck (tg σ x0 = 8) <|
      ck (tg σ (gR σ x0 1) = 5) <| cl (Num_trap σ (gR σ x0 1) ) fun r2 σ1 =>
      if r2 = 0 then (
        ck (tg σ1 x0 = 8) <| cl (Reg_constant σ1 x0 s0) fun r4 σ3 =>
        ck (tg σ3 x0 = 8) <| cl (Reg_push σ3 x0 (2 : Int32) r4) fun _ σ5 =>
        ck (tg σ5 x0 = 8) <|
        ck (tg σ5 x0 = 8) <| bn (sI σ5 x0 14 ((gI σ5 x0 14) + (1 : Int32))) fun σ6 =>
        some ((), σ6))
      else (
        Reg_calculate_p118 σ1 x0 x1 x3 x4)))
theorem V.gX7_calculate_p75 {X : CX}  (σ : HS) (x0 : Nat) (x1 : Int32) (x3 : Int32) (x4 : Int32) (s0 : Int64) : G X RX7 "calculate" cX7_calculate 7 none 7 191 enV 75 [(0, av x0), (1, iv x1), (3, iv x3), (4, iv x4)] [jv s0] σ (Reg_calculate_p75 σ x0 x1 x3 x4 s0) := by
  unfold Reg_calculate_p75
  refine g_lstore dX7_calculate_75 (by decide) rfl ?_
  refine g_iload 4 dX7_calculate_77 rfl ?_
  refine g_if_ge 118 dX7_calculate_79 (by decide) ?_ ?_
  · refine G.sub [1, 2, 3, 4] rfl ?_
    exact gX7_calculate_p118 _ _ _ _ _
  · refine g_iload_n 3 3 dX7_calculate_82 rfl rfl ?_
    refine g_if_ge 118 dX7_calculate_83 (by decide) ?_ ?_
    · refine G.sub [1, 2, 3, 4] rfl ?_
      exact gX7_calculate_p118 _ _ _ _ _
    · refine g_aload_n 0 1 dX7_calculate_86 rfl rfl ?_
      refine g_getR fdX7_40 dX7_calculate_87 ?_
      refine g_callV (fc := fun sς => Num_trap sς (gR σ x0 1) ) (ci := 4) (as := []) rfl rfl rfl q2667 q2668 mdX7_193 (ctX4_trap (gR σ x0 1) ) rfl (Nat.le_of_ble_eq_true rfl) (Nat.le_of_ble_eq_true rfl) (Nat.le_of_ble_eq_true rfl) pu_I dX7_calculate_90 (fun r2 σ1 => ?_)
      refine g_if_ne 118 dX7_calculate_93 (by decide) ?_ ?_
      · refine G.sub [1, 2, 3, 4] rfl ?_
        exact gX7_calculate_p118 _ _ _ _ _
      · refine g_aload_n 0 1 dX7_calculate_96 rfl rfl ?_
        refine g_iconst (v := 2) dX7_calculate_97 (by decide) ?_
        refine g_aload_n 0 1 dX7_calculate_98 rfl rfl ?_
        refine g_lload 0 dX7_calculate_99 rfl ?_
        refine g_callV (fc := fun sς => Reg_constant sς x0 s0) (ci := 7) (as := [jv s0]) rfl rfl rfl q2492 qs161 mdX7_164 (ctX7_constant x0 s0) rfl (Nat.le_of_ble_eq_true rfl) (Nat.le_of_ble_eq_true rfl) (Nat.le_of_ble_eq_true rfl) pu_I dX7_calculate_101 (fun r4 σ3 => ?_)
        refine g_callV (fc := fun sς => Reg_push sς x0 (2 : Int32) r4) (ci := 7) (as := [iv (2 : Int32), iv r4]) rfl rfl rfl q2446 qs150 mdX7_131 (ctX7_push x0 (2 : Int32) r4) rfl (Nat.le_of_ble_eq_true rfl) (Nat.le_of_ble_eq_true rfl) (Nat.le_of_ble_eq_true rfl) pu_V dX7_calculate_104 (fun _ σ5 => ?_)
        refine g_aload_n 0 1 dX7_calculate_107 rfl rfl ?_
        refine g_dup dX7_calculate_108 rfl ?_
        refine g_getI fdX7_60 dX7_calculate_109 ?_
        refine g_iconst (v := 1) dX7_calculate_112 (by decide) ?_
        refine g_iadd dX7_calculate_113 ?_
        refine g_putI fpX7_60 dX7_calculate_114 (fun σ6 => ?_)
        exact g_return rfl dX7_calculate_117
def V.Reg_calculate_p74  (σ : HS) (x0 : Nat) (x1 : Int32) (x3 : Int32) (x4 : Int32) : Option (Unit × HS) :=
  Reg_calculate_p75 σ x0 x1 x3 x4 (0 : Int64)
theorem V.gX7_calculate_p74 {X : CX}  (σ : HS) (x0 : Nat) (x1 : Int32) (x3 : Int32) (x4 : Int32) : G X RX7 "calculate" cX7_calculate 7 none 7 191 enV 74 [(0, av x0), (1, iv x1), (3, iv x3), (4, iv x4)] [] σ (Reg_calculate_p74 σ x0 x1 x3 x4) := by
  unfold Reg_calculate_p74
  refine g_lconst (v := 0) dX7_calculate_74 (by decide) ?_
  exact gX7_calculate_p75 _ _ _ _ _ _
def V.Reg_calculate_p35  (σ : HS) (x0 : Nat) (x1 : Int32) (x3 : Int32) (s0 : Int32) : Option (Unit × HS) :=
  if 0 ≤ s0 then (
    Reg_calculate_p74 σ x0 x1 x3 s0)
  else (
    if 0 ≤ x3 then (
      Reg_calculate_p74 σ x0 x1 x3 s0)
    else (
      ck (tg σ x0 = 8) <|
      ck (tg σ x0 = 8) <|
      ck (tg σ (gR σ x0 4) = 101 ∧ inb ((-1 : Int32) - s0) (ln σ (gR σ x0 4))) <|
      ck (tg σ x0 = 8) <|
      ck (tg σ (gR σ x0 4) = 101 ∧ inb ((-1 : Int32) - x3) (ln σ (gR σ x0 4))) <|
      ck (tg σ (gR σ x0 1) = 5) <| cl (Num_apply σ (gR σ x0 1) x1 (gJ σ (gR σ x0 4) (ix ((-1 : Int32) - s0))) (gJ σ (gR σ x0 4) (ix ((-1 : Int32) - x3)))) fun r2 σ1 =>
      Reg_calculate_p75 σ1 x0 x1 x3 s0 r2))
theorem V.gX7_calculate_p35 {X : CX}  (σ : HS) (x0 : Nat) (x1 : Int32) (x3 : Int32) (s0 : Int32) : G X RX7 "calculate" cX7_calculate 7 none 7 191 enV 35 [(0, av x0), (1, iv x1), (3, iv x3)] [iv s0] σ (Reg_calculate_p35 σ x0 x1 x3 s0) := by
  unfold Reg_calculate_p35
  refine g_istore dX7_calculate_35 (by decide) rfl ?_
  refine g_iload 0 dX7_calculate_37 rfl ?_
  refine g_if_ge 74 dX7_calculate_39 (by decide) ?_ ?_
  · refine G.sub [1, 2, 3, 0] rfl ?_
    exact gX7_calculate_p74 _ _ _ _ _
  · refine g_iload_n 3 3 dX7_calculate_42 rfl rfl ?_
    refine g_if_ge 74 dX7_calculate_43 (by decide) ?_ ?_
    · refine G.sub [1, 2, 3, 0] rfl ?_
      exact gX7_calculate_p74 _ _ _ _ _
    · refine g_aload_n 0 1 dX7_calculate_46 rfl rfl ?_
      refine g_getR fdX7_40 dX7_calculate_47 ?_
      refine g_iload_n 1 2 dX7_calculate_50 rfl rfl ?_
      refine g_aload_n 0 1 dX7_calculate_51 rfl rfl ?_
      refine g_getR fdX7_13 dX7_calculate_52 ?_
      refine g_iconst (v := (-1)) dX7_calculate_55 (by decide) ?_
      refine g_iload 0 dX7_calculate_56 rfl ?_
      refine g_isub dX7_calculate_58 ?_
      refine g_laload dX7_calculate_59 ?_
      refine g_aload_n 0 1 dX7_calculate_60 rfl rfl ?_
      refine g_getR fdX7_13 dX7_calculate_61 ?_
      refine g_iconst (v := (-1)) dX7_calculate_64 (by decide) ?_
      refine g_iload_n 3 3 dX7_calculate_65 rfl rfl ?_
      refine g_isub dX7_calculate_66 ?_
      refine g_laload dX7_calculate_67 ?_
      refine g_callV (fc := fun sς => Num_apply sς (gR σ x0 1) x1 (gJ σ (gR σ x0 4) (ix ((-1 : Int32) - s0))) (gJ σ (gR σ x0 4) (ix ((-1 : Int32) - x3)))) (ci := 4) (as := [iv x1, jv (gJ σ (gR σ x0 4) (ix ((-1 : Int32) - s0))), jv (gJ σ (gR σ x0 4) (ix ((-1 : Int32) - x3)))]) rfl rfl rfl q2514 q2515 mdX7_189 (ctX4_apply (gR σ x0 1) x1 (gJ σ (gR σ x0 4) (ix ((-1 : Int32) - s0))) (gJ σ (gR σ x0 4) (ix ((-1 : Int32) - x3)))) rfl (Nat.le_of_ble_eq_true rfl) (Nat.le_of_ble_eq_true rfl) (Nat.le_of_ble_eq_true rfl) pu_J dX7_calculate_68 (fun r2 σ1 => ?_)
      refine g_goto 75 dX7_calculate_71 (by decide) ?_
      refine G.sub [1, 2, 3, 0] rfl ?_
      exact gX7_calculate_p75 _ _ _ _ _ _
def V.Reg_calculate_p17  (σ : HS) (x0 : Nat) (x1 : Int32) (s0 : Int32) : Option (Unit × HS) :=
  ck (tg σ x0 = 8) <| cl (Reg_pop σ x0 ) fun r2 σ1 =>
  if s0 = 0 then (
    Reg_calculate_p35 σ1 x0 x1 r2 r2)
  else (
    ck (tg σ1 x0 = 8) <| cl (Reg_pop σ1 x0 ) fun r4 σ3 =>
    Reg_calculate_p35 σ3 x0 x1 r2 r4)
theorem V.gX7_calculate_p17 {X : CX}  (σ : HS) (x0 : Nat) (x1 : Int32) (s0 : Int32) : G X RX7 "calculate" cX7_calculate 7 none 7 191 enV 17 [(0, av x0), (1, iv x1)] [iv s0] σ (Reg_calculate_p17 σ x0 x1 s0) := by
  unfold Reg_calculate_p17
  refine g_istore_n 2 dX7_calculate_17 rfl (by decide) rfl ?_
  refine g_aload_n 0 1 dX7_calculate_18 rfl rfl ?_
  refine g_callV (fc := fun sς => Reg_pop sς x0 ) (ci := 7) (as := []) rfl rfl rfl q2454 qs152 mdX7_134 (ctX7_pop x0 ) rfl (Nat.le_of_ble_eq_true rfl) (Nat.le_of_ble_eq_true rfl) (Nat.le_of_ble_eq_true rfl) pu_I dX7_calculate_19 (fun r2 σ1 => ?_)
  refine g_istore_n 3 dX7_calculate_22 rfl (by decide) rfl ?_
  refine g_iload_n 2 1 dX7_calculate_23 rfl rfl ?_
  refine g_if_eq 34 dX7_calculate_24 (by decide) ?_ ?_
  · refine g_iload_n 3 0 dX7_calculate_34 rfl rfl ?_
    refine G.sub [2, 3, 0] rfl ?_
    exact gX7_calculate_p35 _ _ _ _ _
  · refine g_aload_n 0 2 dX7_calculate_27 rfl rfl ?_
    refine g_callV (fc := fun sς => Reg_pop sς x0 ) (ci := 7) (as := []) rfl rfl rfl q2454 qs152 mdX7_134 (ctX7_pop x0 ) rfl (Nat.le_of_ble_eq_true rfl) (Nat.le_of_ble_eq_true rfl) (Nat.le_of_ble_eq_true rfl) pu_I dX7_calculate_28 (fun r4 σ3 => ?_)
    refine g_goto 35 dX7_calculate_31 (by decide) ?_
    refine G.sub [2, 3, 0] rfl ?_
    exact gX7_calculate_p35 _ _ _ _ _
def V.Reg_calculate (σ : HS) (x0 : Nat) (x1 : Int32) : Option (Unit × HS) :=
  ck (tg σ x0 = 8) <|
  ck (tg σ (gR σ x0 1) = 5) <| cl (Num_operands σ (gR σ x0 1) x1) fun r2 σ1 =>
  if r2 = (2 : Int32) then (
    Reg_calculate_p17 σ1 x0 x1 (1 : Int32))
  else (
    Reg_calculate_p17 σ1 x0 x1 (0 : Int32))
theorem V.ctX7_calculate (x0 : Nat) (x1 : Int32) : Ct yX7_calculate  cX7_calculate 7 none 7 191 eV [av x0, iv x1] (fun σ => Reg_calculate σ x0 x1) := by
  refine Ct.of (own := RX7) (nm := "calculate") (desc := "(I)V") rfl (by decide) (Nat.le_of_ble_eq_true rfl) (by decide) (fun X σ => ?_)
  show G X RX7 "calculate" cX7_calculate 7 none 7 191 enV 0 [(0, av x0), (1, iv x1)] [] σ (Reg_calculate σ x0 x1)
  unfold Reg_calculate
  refine g_aload_n 0 0 dX7_calculate_0 rfl rfl ?_
  refine g_getR fdX7_40 dX7_calculate_1 ?_
  refine g_iload_n 1 1 dX7_calculate_4 rfl rfl ?_
  refine g_callV (fc := fun sς => Num_operands sς (gR σ x0 1) x1) (ci := 4) (as := [iv x1]) rfl rfl rfl q2125 q2126 mdX7_185 (ctX4_operands (gR σ x0 1) x1) rfl (Nat.le_of_ble_eq_true rfl) (Nat.le_of_ble_eq_true rfl) (Nat.le_of_ble_eq_true rfl) pu_I dX7_calculate_5 (fun r2 σ1 => ?_)
  refine g_iconst (v := 2) dX7_calculate_8 (by decide) ?_
  refine g_icmp_ne 16 dX7_calculate_9 (by decide) ?_ ?_
  · refine g_iconst (v := 0) dX7_calculate_16 (by decide) ?_
    exact gX7_calculate_p17 _ _ _ _
  · refine g_iconst (v := 1) dX7_calculate_12 (by decide) ?_
    refine g_goto 17 dX7_calculate_13 (by decide) ?_
    exact gX7_calculate_p17 _ _ _ _
theorem V.dX7_plain_0 : decode cX7_plain 0 = .ok (.iload_n 1, 1) := by decide +kernel
theorem V.dX7_plain_1 : decode cX7_plain 1 = .ok (.lookupswitch 472 #[(26, 115), (27, 133), (32, 186), (33, 205), (34, 237), (35, 279), (36, 311), (63, 337), (65, 369), (66, 369), (208, 369), (209, 430), (210, 439)], 115) := by decide +kernel
theorem V.dX7_plain_116 : decode cX7_plain 116 = .ok (.aload_n 0, 1) := by decide +kernel
theorem V.dX7_plain_117 : decode cX7_plain 117 = .ok (.invokevirtual 134, 3) := by decide +kernel
theorem V.dX7_plain_120 : decode cX7_plain 120 = .ok (.pop, 1) := by decide +kernel
theorem V.dX7_plain_121 : decode cX7_plain 121 = .ok (.aload_n 0, 1) := by decide +kernel
theorem V.dX7_plain_122 : decode cX7_plain 122 = .ok (.dup, 1) := by decide +kernel
theorem V.dX7_plain_123 : decode cX7_plain 123 = .ok (.getfield 60, 3) := by decide +kernel
theorem V.dX7_plain_126 : decode cX7_plain 126 = .ok (.iconst 1, 1) := by decide +kernel
theorem V.dX7_plain_127 : decode cX7_plain 127 = .ok (.iadd, 1) := by decide +kernel
theorem V.dX7_plain_128 : decode cX7_plain 128 = .ok (.putfield 60, 3) := by decide +kernel
theorem V.dX7_plain_131 : decode cX7_plain 131 = .ok (.goto 418, 3) := by decide +kernel
theorem V.dX7_plain_134 : decode cX7_plain 134 = .ok (.aload_n 0, 1) := by decide +kernel
theorem V.dX7_plain_135 : decode cX7_plain 135 = .ok (.invokevirtual 134, 3) := by decide +kernel
theorem V.dX7_plain_138 : decode cX7_plain 138 = .ok (.istore 4, 2) := by decide +kernel
theorem V.dX7_plain_140 : decode cX7_plain 140 = .ok (.aload_n 0, 1) := by decide +kernel
theorem V.dX7_plain_141 : decode cX7_plain 141 = .ok (.invokevirtual 134, 3) := by decide +kernel
theorem V.dX7_plain_144 : decode cX7_plain 144 = .ok (.istore 5, 2) := by decide +kernel
theorem V.dX7_plain_146 : decode cX7_plain 146 = .ok (.aload_n 0, 1) := by decide +kernel
theorem V.dX7_plain_147 : decode cX7_plain 147 = .ok (.invokevirtual 134, 3) := by decide +kernel
theorem V.dX7_plain_150 : decode cX7_plain 150 = .ok (.istore 6, 2) := by decide +kernel
theorem V.dX7_plain_152 : decode cX7_plain 152 = .ok (.aload_n 0, 1) := by decide +kernel
theorem V.dX7_plain_153 : decode cX7_plain 153 = .ok (.bipush 27, 2) := by decide +kernel
theorem V.dX7_plain_155 : decode cX7_plain 155 = .ok (.aload_n 0, 1) := by decide +kernel
theorem V.dX7_plain_156 : decode cX7_plain 156 = .ok (.aload_n 0, 1) := by decide +kernel
theorem V.dX7_plain_157 : decode cX7_plain 157 = .ok (.getfield 72, 3) := by decide +kernel
theorem V.dX7_plain_160 : decode cX7_plain 160 = .ok (.invokevirtual 69, 3) := by decide +kernel
theorem V.dX7_plain_163 : decode cX7_plain 163 = .ok (.iload 6, 2) := by decide +kernel
theorem V.dX7_plain_165 : decode cX7_plain 165 = .ok (.iload 5, 2) := by decide +kernel
theorem V.dX7_plain_167 : decode cX7_plain 167 = .ok (.iload 4, 2) := by decide +kernel
theorem V.dX7_plain_169 : decode cX7_plain 169 = .ok (.aload_n 0, 1) := by decide +kernel
theorem V.dX7_plain_170 : decode cX7_plain 170 = .ok (.iconst 1, 1) := by decide +kernel
theorem V.dX7_plain_171 : decode cX7_plain 171 = .ok (.invokevirtual 128, 3) := by decide +kernel
theorem V.dX7_plain_174 : decode cX7_plain 174 = .ok (.invokevirtual 78, 3) := by decide +kernel
theorem V.dX7_plain_177 : decode cX7_plain 177 = .ok (.pop, 1) := by decide +kernel
theorem V.dX7_plain_178 : decode cX7_plain 178 = .ok (.aload_n 0, 1) := by decide +kernel
theorem V.dX7_plain_179 : decode cX7_plain 179 = .ok (.iconst 0, 1) := by decide +kernel
theorem V.dX7_plain_180 : decode cX7_plain 180 = .ok (.iconst 0, 1) := by decide +kernel
theorem V.dX7_plain_181 : decode cX7_plain 181 = .ok (.invokevirtual 131, 3) := by decide +kernel
theorem V.dX7_plain_184 : decode cX7_plain 184 = .ok (.goto 365, 3) := by decide +kernel
theorem V.dX7_plain_187 : decode cX7_plain 187 = .ok (.aload_n 0, 1) := by decide +kernel
theorem V.dX7_plain_188 : decode cX7_plain 188 = .ok (.iconst 1, 1) := by decide +kernel
theorem V.dX7_plain_189 : decode cX7_plain 189 = .ok (.iload_n 2, 1) := by decide +kernel
theorem V.dX7_plain_190 : decode cX7_plain 190 = .ok (.invokevirtual 131, 3) := by decide +kernel
theorem V.dX7_plain_193 : decode cX7_plain 193 = .ok (.aload_n 0, 1) := by decide +kernel
theorem V.dX7_plain_194 : decode cX7_plain 194 = .ok (.dup, 1) := by decide +kernel
theorem V.dX7_plain_195 : decode cX7_plain 195 = .ok (.getfield 60, 3) := by decide +kernel
theorem V.dX7_plain_198 : decode cX7_plain 198 = .ok (.iconst 1, 1) := by decide +kernel
theorem V.dX7_plain_199 : decode cX7_plain 199 = .ok (.iadd, 1) := by decide +kernel
theorem V.dX7_plain_200 : decode cX7_plain 200 = .ok (.putfield 60, 3) := by decide +kernel
theorem V.dX7_plain_203 : decode cX7_plain 203 = .ok (.goto 346, 3) := by decide +kernel
theorem V.dX7_plain_206 : decode cX7_plain 206 = .ok (.aload_n 0, 1) := by decide +kernel
theorem V.dX7_plain_207 : decode cX7_plain 207 = .ok (.invokevirtual 134, 3) := by decide +kernel
theorem V.dX7_plain_210 : decode cX7_plain 210 = .ok (.istore 7, 2) := by decide +kernel
theorem V.dX7_plain_212 : decode cX7_plain 212 = .ok (.aload_n 0, 1) := by decide +kernel
theorem V.dX7_plain_213 : decode cX7_plain 213 = .ok (.iload_n 2, 1) := by decide +kernel
theorem V.dX7_plain_214 : decode cX7_plain 214 = .ok (.invokevirtual 157, 3) := by decide +kernel
theorem V.dX7_plain_217 : decode cX7_plain 217 = .ok (.aload_n 0, 1) := by decide +kernel
theorem V.dX7_plain_218 : decode cX7_plain 218 = .ok (.sipush 300, 3) := by decide +kernel
theorem V.dX7_plain_221 : decode cX7_plain 221 = .ok (.iload_n 2, 1) := by decide +kernel
theorem V.dX7_plain_222 : decode cX7_plain 222 = .ok (.iload 7, 2) := by decide +kernel
theorem V.dX7_plain_224 : decode cX7_plain 224 = .ok (.iconst 0, 1) := by decide +kernel
theorem V.dX7_plain_225 : decode cX7_plain 225 = .ok (.iconst 0, 1) := by decide +kernel
theorem V.dX7_plain_226 : decode cX7_plain 226 = .ok (.aload_n 0, 1) := by decide +kernel
theorem V.dX7_plain_227 : decode cX7_plain 227 = .ok (.iconst 1, 1) := by decide +kernel
theorem V.dX7_plain_228 : decode cX7_plain 228 = .ok (.invokevirtual 128, 3) := by decide +kernel
theorem V.dX7_plain_231 : decode cX7_plain 231 = .ok (.invokevirtual 78, 3) := by decide +kernel
theorem V.dX7_plain_234 : decode cX7_plain 234 = .ok (.pop, 1) := by decide +kernel
theorem V.dX7_plain_235 : decode cX7_plain 235 = .ok (.goto 314, 3) := by decide +kernel
theorem V.dX7_plain_238 : decode cX7_plain 238 = .ok (.aload_n 0, 1) := by decide +kernel
theorem V.dX7_plain_239 : decode cX7_plain 239 = .ok (.invokevirtual 134, 3) := by decide +kernel
theorem V.dX7_plain_242 : decode cX7_plain 242 = .ok (.istore 8, 2) := by decide +kernel
theorem V.dX7_plain_244 : decode cX7_plain 244 = .ok (.aload_n 0, 1) := by decide +kernel
theorem V.dX7_plain_245 : decode cX7_plain 245 = .ok (.iload_n 2, 1) := by decide +kernel
theorem V.dX7_plain_246 : decode cX7_plain 246 = .ok (.invokevirtual 157, 3) := by decide +kernel
theorem V.dX7_plain_249 : decode cX7_plain 249 = .ok (.aload_n 0, 1) := by decide +kernel
theorem V.dX7_plain_250 : decode cX7_plain 250 = .ok (.sipush 300, 3) := by decide +kernel
theorem V.dX7_plain_253 : decode cX7_plain 253 = .ok (.iload_n 2, 1) := by decide +kernel
theorem V.dX7_plain_254 : decode cX7_plain 254 = .ok (.iload 8, 2) := by decide +kernel
theorem V.dX7_plain_256 : decode cX7_plain 256 = .ok (.iconst 0, 1) := by decide +kernel
theorem V.dX7_plain_257 : decode cX7_plain 257 = .ok (.iconst 0, 1) := by decide +kernel
theorem V.dX7_plain_258 : decode cX7_plain 258 = .ok (.aload_n 0, 1) := by decide +kernel
theorem V.dX7_plain_259 : decode cX7_plain 259 = .ok (.iconst 1, 1) := by decide +kernel
theorem V.dX7_plain_260 : decode cX7_plain 260 = .ok (.invokevirtual 128, 3) := by decide +kernel
theorem V.dX7_plain_263 : decode cX7_plain 263 = .ok (.invokevirtual 78, 3) := by decide +kernel
theorem V.dX7_plain_266 : decode cX7_plain 266 = .ok (.pop, 1) := by decide +kernel
theorem V.dX7_plain_267 : decode cX7_plain 267 = .ok (.aload_n 0, 1) := by decide +kernel
theorem V.dX7_plain_268 : decode cX7_plain 268 = .ok (.dup, 1) := by decide +kernel
theorem V.dX7_plain_269 : decode cX7_plain 269 = .ok (.getfield 72, 3) := by decide +kernel
theorem V.dX7_plain_272 : decode cX7_plain 272 = .ok (.iconst 1, 1) := by decide +kernel
theorem V.dX7_plain_273 : decode cX7_plain 273 = .ok (.iadd, 1) := by decide +kernel
theorem V.dX7_plain_274 : decode cX7_plain 274 = .ok (.putfield 72, 3) := by decide +kernel
theorem V.dX7_plain_277 : decode cX7_plain 277 = .ok (.goto 272, 3) := by decide +kernel
theorem V.dX7_plain_280 : decode cX7_plain 280 = .ok (.aload_n 0, 1) := by decide +kernel
theorem V.dX7_plain_281 : decode cX7_plain 281 = .ok (.bipush 35, 2) := by decide +kernel
theorem V.dX7_plain_283 : decode cX7_plain 283 = .ok (.aload_n 0, 1) := by decide +kernel
theorem V.dX7_plain_284 : decode cX7_plain 284 = .ok (.aload_n 0, 1) := by decide +kernel
theorem V.dX7_plain_285 : decode cX7_plain 285 = .ok (.getfield 72, 3) := by decide +kernel
theorem V.dX7_plain_288 : decode cX7_plain 288 = .ok (.invokevirtual 69, 3) := by decide +kernel
theorem V.dX7_plain_291 : decode cX7_plain 291 = .ok (.iload_n 2, 1) := by decide +kernel
theorem V.dX7_plain_292 : decode cX7_plain 292 = .ok (.iconst 0, 1) := by decide +kernel
theorem V.dX7_plain_293 : decode cX7_plain 293 = .ok (.iconst 0, 1) := by decide +kernel
theorem V.dX7_plain_294 : decode cX7_plain 294 = .ok (.aload_n 0, 1) := by decide +kernel
theorem V.dX7_plain_295 : decode cX7_plain 295 = .ok (.iconst 1, 1) := by decide +kernel
theorem V.dX7_plain_296 : decode cX7_plain 296 = .ok (.invokevirtual 128, 3) := by decide +kernel
theorem V.dX7_plain_299 : decode cX7_plain 299 = .ok (.invokevirtual 78, 3) := by decide +kernel
theorem V.dX7_plain_302 : decode cX7_plain 302 = .ok (.pop, 1) := by decide +kernel
theorem V.dX7_plain_303 : decode cX7_plain 303 = .ok (.aload_n 0, 1) := by decide +kernel
theorem V.dX7_plain_304 : decode cX7_plain 304 = .ok (.iconst 0, 1) := by decide +kernel
theorem V.dX7_plain_305 : decode cX7_plain 305 = .ok (.iconst 0, 1) := by decide +kernel
theorem V.dX7_plain_306 : decode cX7_plain 306 = .ok (.invokevirtual 131, 3) := by decide +kernel
theorem V.dX7_plain_309 : decode cX7_plain 309 = .ok (.goto 240, 3) := by decide +kernel
theorem V.dX7_plain_312 : decode cX7_plain 312 = .ok (.aload_n 0, 1) := by decide +kernel
theorem V.dX7_plain_313 : decode cX7_plain 313 = .ok (.invokevirtual 134, 3) := by decide +kernel
theorem V.dX7_plain_316 : decode cX7_plain 316 = .ok (.istore 9, 2) := by decide +kernel
theorem V.dX7_plain_318 : decode cX7_plain 318 = .ok (.aload_n 0, 1) := by decide +kernel
theorem V.dX7_plain_319 : decode cX7_plain 319 = .ok (.bipush 36, 2) := by decide +kernel
theorem V.dX7_plain_321 : decode cX7_plain 321 = .ok (.iload_n 2, 1) := by decide +kernel
theorem V.dX7_plain_322 : decode cX7_plain 322 = .ok (.iload 9, 2) := by decide +kernel
theorem V.dX7_plain_324 : decode cX7_plain 324 = .ok (.iconst 0, 1) := by decide +kernel
theorem V.dX7_plain_325 : decode cX7_plain 325 = .ok (.iconst 0, 1) := by decide +kernel
theorem V.dX7_plain_326 : decode cX7_plain 326 = .ok (.aload_n 0, 1) := by decide +kernel
theorem V.dX7_plain_327 : decode cX7_plain 327 = .ok (.iconst 1, 1) := by decide +kernel
theorem V.dX7_plain_328 : decode cX7_plain 328 = .ok (.invokevirtual 128, 3) := by decide +kernel
theorem V.dX7_plain_331 : decode cX7_plain 331 = .ok (.invokevirtual 78, 3) := by decide +kernel
theorem V.dX7_plain_334 : decode cX7_plain 334 = .ok (.pop, 1) := by decide +kernel
theorem V.dX7_plain_335 : decode cX7_plain 335 = .ok (.goto 214, 3) := by decide +kernel
theorem V.dX7_plain_338 : decode cX7_plain 338 = .ok (.aload_n 0, 1) := by decide +kernel
theorem V.dX7_plain_339 : decode cX7_plain 339 = .ok (.bipush 63, 2) := by decide +kernel
theorem V.dX7_plain_341 : decode cX7_plain 341 = .ok (.aload_n 0, 1) := by decide +kernel
theorem V.dX7_plain_342 : decode cX7_plain 342 = .ok (.aload_n 0, 1) := by decide +kernel
theorem V.dX7_plain_343 : decode cX7_plain 343 = .ok (.getfield 72, 3) := by decide +kernel
theorem V.dX7_plain_346 : decode cX7_plain 346 = .ok (.invokevirtual 69, 3) := by decide +kernel
theorem V.dX7_plain_349 : decode cX7_plain 349 = .ok (.iconst 0, 1) := by decide +kernel
theorem V.dX7_plain_350 : decode cX7_plain 350 = .ok (.iconst 0, 1) := by decide +kernel
theorem V.dX7_plain_351 : decode cX7_plain 351 = .ok (.iconst 0, 1) := by decide +kernel
theorem V.dX7_plain_352 : decode cX7_plain 352 = .ok (.aload_n 0, 1) := by decide +kernel
theorem V.dX7_plain_353 : decode cX7_plain 353 = .ok (.iconst 1, 1) := by decide +kernel
theorem V.dX7_plain_354 : decode cX7_plain 354 = .ok (.invokevirtual 128, 3) := by decide +kernel
theorem V.dX7_plain_357 : decode cX7_plain 357 = .ok (.invokevirtual 78, 3) := by decide +kernel
theorem V.dX7_plain_360 : decode cX7_plain 360 = .ok (.pop, 1) := by decide +kernel
theorem V.dX7_plain_361 : decode cX7_plain 361 = .ok (.aload_n 0, 1) := by decide +kernel
theorem V.dX7_plain_362 : decode cX7_plain 362 = .ok (.iconst 0, 1) := by decide +kernel
theorem V.dX7_plain_363 : decode cX7_plain 363 = .ok (.iconst 0, 1) := by decide +kernel
theorem V.dX7_plain_364 : decode cX7_plain 364 = .ok (.invokevirtual 131, 3) := by decide +kernel
theorem V.dX7_plain_367 : decode cX7_plain 367 = .ok (.goto 182, 3) := by decide +kernel
theorem V.dX7_plain_370 : decode cX7_plain 370 = .ok (.aload_n 0, 1) := by decide +kernel
theorem V.dX7_plain_371 : decode cX7_plain 371 = .ok (.iconst 2, 1) := by decide +kernel
theorem V.dX7_plain_372 : decode cX7_plain 372 = .ok (.aload_n 0, 1) := by decide +kernel
theorem V.dX7_plain_373 : decode cX7_plain 373 = .ok (.iload_n 1, 1) := by decide +kernel
theorem V.dX7_plain_374 : decode cX7_plain 374 = .ok (.bipush 65, 2) := by decide +kernel
theorem V.dX7_plain_376 : decode cX7_plain 376 = .ok (.if_icmp .ne 12, 3) := by decide +kernel
theorem V.dX7_plain_379 : decode cX7_plain 379 = .ok (.iload_n 2, 1) := by decide +kernel
theorem V.dX7_plain_380 : decode cX7_plain 380 = .ok (.i2l, 1) := by decide +kernel
theorem V.dX7_plain_381 : decode cX7_plain 381 = .ok (.ldc2_w 160, 3) := by decide +kernel
theorem V.dX7_plain_384 : decode cX7_plain 384 = .ok (.land, 1) := by decide +kernel
theorem V.dX7_plain_385 : decode cX7_plain 385 = .ok (.goto 27, 3) := by decide +kernel
theorem V.dX7_plain_388 : decode cX7_plain 388 = .ok (.iload_n 1, 1) := by decide +kernel
theorem V.dX7_plain_389 : decode cX7_plain 389 = .ok (.bipush 66, 2) := by decide +kernel
theorem V.dX7_plain_391 : decode cX7_plain 391 = .ok (.if_icmp .ne 18, 3) := by decide +kernel
theorem V.dX7_plain_394 : decode cX7_plain 394 = .ok (.iload_n 3, 1) := by decide +kernel
theorem V.dX7_plain_395 : decode cX7_plain 395 = .ok (.i2l, 1) := by decide +kernel
theorem V.dX7_plain_396 : decode cX7_plain 396 = .ok (.bipush 32, 2) := by decide +kernel
theorem V.dX7_plain_398 : decode cX7_plain 398 = .ok (.lshl, 1) := by decide +kernel
theorem V.dX7_plain_399 : decode cX7_plain 399 = .ok (.iload_n 2, 1) := by decide +kernel
theorem V.dX7_plain_400 : decode cX7_plain 400 = .ok (.i2l, 1) := by decide +kernel
theorem V.dX7_plain_401 : decode cX7_plain 401 = .ok (.ldc2_w 160, 3) := by decide +kernel
theorem V.dX7_plain_404 : decode cX7_plain 404 = .ok (.land, 1) := by decide +kernel
theorem V.dX7_plain_405 : decode cX7_plain 405 = .ok (.lor, 1) := by decide +kernel
theorem V.dX7_plain_406 : decode cX7_plain 406 = .ok (.goto 6, 3) := by decide +kernel
theorem V.dX7_plain_409 : decode cX7_plain 409 = .ok (.ldc2_w 162, 3) := by decide +kernel
theorem V.dX7_plain_412 : decode cX7_plain 412 = .ok (.invokevirtual 164, 3) := by decide +kernel
theorem V.dX7_plain_415 : decode cX7_plain 415 = .ok (.invokevirtual 131, 3) := by decide +kernel
theorem V.dX7_plain_418 : decode cX7_plain 418 = .ok (.aload_n 0, 1) := by decide +kernel
theorem V.dX7_plain_419 : decode cX7_plain 419 = .ok (.dup, 1) := by decide +kernel
theorem V.dX7_plain_420 : decode cX7_plain 420 = .ok (.getfield 60, 3) := by decide +kernel
theorem V.dX7_plain_423 : decode cX7_plain 423 = .ok (.iconst 1, 1) := by decide +kernel
theorem V.dX7_plain_424 : decode cX7_plain 424 = .ok (.iadd, 1) := by decide +kernel
theorem V.dX7_plain_425 : decode cX7_plain 425 = .ok (.putfield 60, 3) := by decide +kernel
theorem V.dX7_plain_428 : decode cX7_plain 428 = .ok (.goto 121, 3) := by decide +kernel
theorem V.dX7_plain_431 : decode cX7_plain 431 = .ok (.aload_n 0, 1) := by decide +kernel
theorem V.dX7_plain_432 : decode cX7_plain 432 = .ok (.iload_n 1, 1) := by decide +kernel
theorem V.dX7_plain_433 : decode cX7_plain 433 = .ok (.iconst 0, 1) := by decide +kernel
theorem V.dX7_plain_434 : decode cX7_plain 434 = .ok (.invokevirtual 168, 3) := by decide +kernel
theorem V.dX7_plain_437 : decode cX7_plain 437 = .ok (.goto 112, 3) := by decide +kernel
theorem V.dX7_plain_440 : decode cX7_plain 440 = .ok (.aload_n 0, 1) := by decide +kernel
theorem V.dX7_plain_441 : decode cX7_plain 441 = .ok (.sipush 210, 3) := by decide +kernel
theorem V.dX7_plain_444 : decode cX7_plain 444 = .ok (.aload_n 0, 1) := by decide +kernel
theorem V.dX7_plain_445 : decode cX7_plain 445 = .ok (.aload_n 0, 1) := by decide +kernel
theorem V.dX7_plain_446 : decode cX7_plain 446 = .ok (.getfield 72, 3) := by decide +kernel
theorem V.dX7_plain_449 : decode cX7_plain 449 = .ok (.invokevirtual 69, 3) := by decide +kernel
theorem V.dX7_plain_452 : decode cX7_plain 452 = .ok (.iload_n 2, 1) := by decide +kernel
theorem V.dX7_plain_453 : decode cX7_plain 453 = .ok (.iconst 0, 1) := by decide +kernel
theorem V.dX7_plain_454 : decode cX7_plain 454 = .ok (.iconst 0, 1) := by decide +kernel
theorem V.dX7_plain_455 : decode cX7_plain 455 = .ok (.aload_n 0, 1) := by decide +kernel
theorem V.dX7_plain_456 : decode cX7_plain 456 = .ok (.iconst 1, 1) := by decide +kernel
theorem V.dX7_plain_457 : decode cX7_plain 457 = .ok (.invokevirtual 128, 3) := by decide +kernel
theorem V.dX7_plain_460 : decode cX7_plain 460 = .ok (.invokevirtual 78, 3) := by decide +kernel
theorem V.dX7_plain_463 : decode cX7_plain 463 = .ok (.pop, 1) := by decide +kernel
theorem V.dX7_plain_464 : decode cX7_plain 464 = .ok (.aload_n 0, 1) := by decide +kernel
theorem V.dX7_plain_465 : decode cX7_plain 465 = .ok (.iconst 0, 1) := by decide +kernel
theorem V.dX7_plain_466 : decode cX7_plain 466 = .ok (.iconst 0, 1) := by decide +kernel
theorem V.dX7_plain_467 : decode cX7_plain 467 = .ok (.invokevirtual 131, 3) := by decide +kernel
theorem V.dX7_plain_470 : decode cX7_plain 470 = .ok (.goto 79, 3) := by decide +kernel
theorem V.dX7_plain_473 : decode cX7_plain 473 = .ok (.iload_n 1, 1) := by decide +kernel
theorem V.dX7_plain_474 : decode cX7_plain 474 = .ok (.sipush 207, 3) := by decide +kernel
theorem V.dX7_plain_477 : decode cX7_plain 477 = .ok (.if_icmp .gt 15, 3) := by decide +kernel
theorem V.dX7_plain_480 : decode cX7_plain 480 = .ok (.iload_n 1, 1) := by decide +kernel
theorem V.dX7_plain_481 : decode cX7_plain 481 = .ok (.bipush 37, 2) := by decide +kernel
theorem V.dX7_plain_483 : decode cX7_plain 483 = .ok (.if_icmp .eq 9, 3) := by decide +kernel
theorem V.dX7_plain_486 : decode cX7_plain 486 = .ok (.iload_n 1, 1) := by decide +kernel
theorem V.dX7_plain_487 : decode cX7_plain 487 = .ok (.bipush 38, 2) := by decide +kernel
theorem V.dX7_plain_489 : decode cX7_plain 489 = .ok (.if_icmp .ne 13, 3) := by decide +kernel
theorem V.dX7_plain_492 : decode cX7_plain 492 = .ok (.aload_n 0, 1) := by decide +kernel
theorem V.dX7_plain_493 : decode cX7_plain 493 = .ok (.iload_n 1, 1) := by decide +kernel
theorem V.dX7_plain_494 : decode cX7_plain 494 = .ok (.iload_n 2, 1) := by decide +kernel
theorem V.dX7_plain_495 : decode cX7_plain 495 = .ok (.iload_n 3, 1) := by decide +kernel
theorem V.dX7_plain_496 : decode cX7_plain 496 = .ok (.invokevirtual 171, 3) := by decide +kernel
theorem V.dX7_plain_499 : decode cX7_plain 499 = .ok (.goto 50, 3) := by decide +kernel
theorem V.dX7_plain_502 : decode cX7_plain 502 = .ok (.iload_n 1, 1) := by decide +kernel
theorem V.dX7_plain_503 : decode cX7_plain 503 = .ok (.bipush 53, 2) := by decide +kernel
theorem V.dX7_plain_505 : decode cX7_plain 505 = .ok (.if_icmp .le 18, 3) := by decide +kernel
theorem V.dX7_plain_508 : decode cX7_plain 508 = .ok (.iload_n 1, 1) := by decide +kernel
theorem V.dX7_plain_509 : decode cX7_plain 509 = .ok (.bipush 63, 2) := by decide +kernel
theorem V.dX7_plain_511 : decode cX7_plain 511 = .ok (.if_icmp .ge 12, 3) := by decide +kernel
theorem V.dX7_plain_514 : decode cX7_plain 514 = .ok (.aload_n 0, 1) := by decide +kernel
theorem V.dX7_plain_515 : decode cX7_plain 515 = .ok (.iload_n 1, 1) := by decide +kernel
theorem V.dX7_plain_516 : decode cX7_plain 516 = .ok (.iload_n 2, 1) := by decide +kernel
theorem V.dX7_plain_517 : decode cX7_plain 517 = .ok (.invokevirtual 173, 3) := by decide +kernel
theorem V.dX7_plain_520 : decode cX7_plain 520 = .ok (.goto 29, 3) := by decide +kernel
theorem V.dX7_plain_523 : decode cX7_plain 523 = .ok (.iload_n 1, 1) := by decide +kernel
theorem V.dX7_plain_524 : decode cX7_plain 524 = .ok (.bipush 54, 2) := by decide +kernel
theorem V.dX7_plain_526 : decode cX7_plain 526 = .ok (.if_icmp .lt 9, 3) := by decide +kernel
theorem V.dX7_plain_529 : decode cX7_plain 529 = .ok (.iload_n 1, 1) := by decide +kernel
theorem V.dX7_plain_530 : decode cX7_plain 530 = .ok (.bipush 64, 2) := by decide +kernel
theorem V.dX7_plain_532 : decode cX7_plain 532 = .ok (.if_icmp .ne 12, 3) := by decide +kernel
theorem V.dX7_plain_535 : decode cX7_plain 535 = .ok (.aload_n 0, 1) := by decide +kernel
theorem V.dX7_plain_536 : decode cX7_plain 536 = .ok (.iload_n 1, 1) := by decide +kernel
theorem V.dX7_plain_537 : decode cX7_plain 537 = .ok (.iload_n 2, 1) := by decide +kernel
theorem V.dX7_plain_538 : decode cX7_plain 538 = .ok (.invokevirtual 168, 3) := by decide +kernel
theorem V.dX7_plain_541 : decode cX7_plain 541 = .ok (.goto 8, 3) := by decide +kernel
theorem V.dX7_plain_544 : decode cX7_plain 544 = .ok (.aload_n 0, 1) := by decide +kernel
theorem V.dX7_plain_545 : decode cX7_plain 545 = .ok (.iload_n 1, 1) := by decide +kernel
theorem V.dX7_plain_546 : decode cX7_plain 546 = .ok (.invokevirtual 176, 3) := by decide +kernel
theorem V.dX7_plain_549 : decode cX7_plain 549 = .ok (.return_, 1) := by decide +kernel
theorem V.mdX7_157 : MD RX7 157 yX7_free cX7_free 3 none 1 := ⟨Or.inl q2484, q367, q2487, by decide, by decide, by decide +kernel⟩
theorem V.mdX7_168 : MD RX7 168 yX7_load cX7_load 4 none 2 := ⟨Or.inl q2494, q367, q2497, by decide, by decide, by decide +kernel⟩
theorem V.mdX7_173 : MD RX7 173 yX7_store cX7_store 5 none 2 := ⟨Or.inl q2504, q367, q2507, by decide, by decide, by decide +kernel⟩
theorem V.mdX7_171 : MD RX7 171 yX7_place cX7_place 5 none 3 := ⟨Or.inl q2498, q367, q2501, by decide, by decide, by decide +kernel⟩
theorem V.mdX7_176 : MD RX7 176 yX7_calculate cX7_calculate 7 none 1 := ⟨Or.inl q2508, q367, q2511, by decide, by decide, by decide +kernel⟩
/-! ModuleEngine$Registers.plain(III)V -/
def V.Reg_plain_p412  (σ : HS) (x0 : Nat) (s0 : Int64) (s1 : Nat) (s2 : Int32) (s3 : Nat) : Option (Unit × HS) :=
  ck (tg σ s1 = 8) <| cl (Reg_constant σ s1 s0) fun r2 σ1 =>
  ck (tg σ1 s3 = 8) <| cl (Reg_push σ1 s3 s2 r2) fun _ σ3 =>
  ck (tg σ3 x0 = 8) <|
  ck (tg σ3 x0 = 8) <| bn (sI σ3 x0 14 ((gI σ3 x0 14) + (1 : Int32))) fun σ4 =>
  some ((), σ4)
theorem V.gX7_plain_p412 {X : CX}  (σ : HS) (x0 : Nat) (s0 : Int64) (s1 : Nat) (s2 : Int32) (s3 : Nat) : G X RX7 "plain" cX7_plain 10 none 8 217 enV 412 [(0, av x0)] [jv s0, av s1, iv s2, av s3] σ (Reg_plain_p412 σ x0 s0 s1 s2 s3) := by
  unfold Reg_plain_p412
  refine g_callV (fc := fun sς => Reg_constant sς s1 s0) (ci := 7) (as := [jv s0]) rfl rfl rfl q2492 qs161 mdX7_164 (ctX7_constant s1 s0) rfl (Nat.le_of_ble_eq_true rfl) (Nat.le_of_ble_eq_true rfl) (Nat.le_of_ble_eq_true rfl) pu_I dX7_plain_412 (fun r2 σ1 => ?_)
  refine g_callV (fc := fun sς => Reg_push sς s3 s2 r2) (ci := 7) (as := [iv s2, iv r2]) rfl rfl rfl q2446 qs150 mdX7_131 (ctX7_push s3 s2 r2) rfl (Nat.le_of_ble_eq_true rfl) (Nat.le_of_ble_eq_true rfl) (Nat.le_of_ble_eq_true rfl) pu_V dX7_plain_415 (fun _ σ3 => ?_)
  refine g_aload_n 0 0 dX7_plain_418 rfl rfl ?_
  refine g_dup dX7_plain_419 rfl ?_
  refine g_getI fdX7_60 dX7_plain_420 ?_
  refine g_iconst (v := 1) dX7_plain_423 (by decide) ?_
  refine g_iadd dX7_plain_424 ?_
  refine g_putI fpX7_60 dX7_plain_425 (fun σ4 => ?_)
  refine g_goto 549 dX7_plain_428 (by decide) ?_
  exact g_return rfl dX7_plain_549
def V.Reg_plain_p370  (σ : HS) (x0 : Nat) (x1 : Int32) (x2 : Int32) (x3 : Int32) : Option (Unit × HS) :=
  if x1 = (65 : Int32) then (
    Reg_plain_p412 σ x0 (x2.toInt64 &&& (4294967295 : Int64)) x0 (2 : Int32) x0)
  else (
    if x1 = (66 : Int32) then (
      Reg_plain_p412 σ x0 ((lshl x3.toInt64 (32 : Int32)) ||| (x2.toInt64 &&& (4294967295 : Int64))) x0 (2 : Int32) x0)
    else (
      Reg_plain_p412 σ x0 (-1 : Int64) x0 (2 : Int32) x0))
theorem V.gX7_plain_p370 {X : CX}  (σ : HS) (x0 : Nat) (x1 : Int32) (x2 : Int32) (x3 : Int32) : G X RX7 "plain" cX7_plain 10 none 8 217 enV 370 [(0, av x0), (1, iv x1), (2, iv x2), (3, iv x3)] [] σ (Reg_plain_p370 σ x0 x1 x2 x3) := by
  unfold Reg_plain_p370
  refine g_aload_n 0 0 dX7_plain_370 rfl rfl ?_
  refine g_iconst (v := 2) dX7_plain_371 (by decide) ?_
  refine g_aload_n 0 0 dX7_plain_372 rfl rfl ?_
  refine g_iload_n 1 1 dX7_plain_373 rfl rfl ?_
  refine g_bipush (v := 65) dX7_plain_374 (by decide) ?_
  refine g_icmp_ne 388 dX7_plain_376 (by decide) ?_ ?_
  · refine g_iload_n 1 1 dX7_plain_388 rfl rfl ?_
    refine g_bipush (v := 66) dX7_plain_389 (by decide) ?_
    refine g_icmp_ne 409 dX7_plain_391 (by decide) ?_ ?_
    · refine g_ldc2 q2489 dX7_plain_409 ?_
      refine G.sub [0] rfl ?_
      exact gX7_plain_p412 _ _ _ _ _ _
    · refine g_iload_n 3 3 dX7_plain_394 rfl rfl ?_
      refine g_i2l dX7_plain_395 ?_
      refine g_bipush (v := 32) dX7_plain_396 (by decide) ?_
      refine g_lshl dX7_plain_398 ?_
      refine g_iload_n 2 2 dX7_plain_399 rfl rfl ?_
      refine g_i2l dX7_plain_400 ?_
      refine g_ldc2 q2488 dX7_plain_401 ?_
      refine g_land dX7_plain_404 ?_
      refine g_lor dX7_plain_405 ?_
      refine g_goto 412 dX7_plain_406 (by decide) ?_
      refine G.sub [0] rfl ?_
      exact gX7_plain_p412 _ _ _ _ _ _
  · refine g_iload_n 2 2 dX7_plain_379 rfl rfl ?_
    refine g_i2l dX7_plain_380 ?_
    refine g_ldc2 q2488 dX7_plain_381 ?_
    refine g_land dX7_plain_384 ?_
    refine g_goto 412 dX7_plain_385 (by decide) ?_
    refine G.sub [0] rfl ?_
    exact gX7_plain_p412 _ _ _ _ _ _
def V.Reg_plain_p492  (σ : HS) (x0 : Nat) (x1 : Int32) (x2 : Int32) (x3 : Int32) : Option (Unit × HS) :=
  ck (tg σ x0 = 8) <| cl (Reg_place σ x0 x1 x2 x3) fun _ σ1 =>
  some ((), σ1)
theorem V.gX7_plain_p492 {X : CX}  (σ : HS) (x0 : Nat) (x1 : Int32) (x2 : Int32) (x3 : Int32) : G X RX7 "plain" cX7_plain 10 none 8 217 enV 492 [(0, av x0), (1, iv x1), (2, iv x2), (3, iv x3)] [] σ (Reg_plain_p492 σ x0 x1 x2 x3) := by
  unfold Reg_plain_p492
  refine g_aload_n 0 0 dX7_plain_492 rfl rfl ?_
  refine g_iload_n 1 1 dX7_plain_493 rfl rfl ?_
  refine g_iload_n 2 2 dX7_plain_494 rfl rfl ?_
  refine g_iload_n 3 3 dX7_plain_495 rfl rfl ?_
  refine g_callV (fc := fun sς => Reg_place sς x0 x1 x2 x3) (ci := 7) (as := [iv x1, iv x2, iv x3]) rfl rfl rfl q2500 qs163 mdX7_171 (ctX7_place x0 x1 x2 x3) rfl (Nat.le_of_ble_eq_true rfl) (Nat.le_of_ble_eq_true rfl) (Nat.le_of_ble_eq_true rfl) pu_V dX7_plain_496 (fun _ σ1 => ?_)
  refine g_goto 549 dX7_plain_499 (by decide) ?_
  exact g_return rfl dX7_plain_549
def V.Reg_plain_p535  (σ : HS) (x0 : Nat) (x1 : Int32) (x2 : Int32) : Option (Unit × HS) :=
  ck (tg σ x0 = 8) <| cl (Reg_load σ x0 x1 x2) fun _ σ1 =>
  some ((), σ1)
theorem V.gX7_plain_p535 {X : CX}  (σ : HS) (x0 : Nat) (x1 : Int32) (x2 : Int32) : G X RX7 "plain" cX7_plain 10 none 8 217 enV 535 [(0, av x0), (1, iv x1), (2, iv x2)] [] σ (Reg_plain_p535 σ x0 x1 x2) := by
  unfold Reg_plain_p535
  refine g_aload_n 0 0 dX7_plain_535 rfl rfl ?_
  refine g_iload_n 1 1 dX7_plain_536 rfl rfl ?_
  refine g_iload_n 2 2 dX7_plain_537 rfl rfl ?_
  refine g_callV (fc := fun sς => Reg_load sς x0 x1 x2) (ci := 7) (as := [iv x1, iv x2]) rfl rfl rfl q2496 qs162 mdX7_168 (ctX7_load x0 x1 x2) rfl (Nat.le_of_ble_eq_true rfl) (Nat.le_of_ble_eq_true rfl) (Nat.le_of_ble_eq_true rfl) pu_V dX7_plain_538 (fun _ σ1 => ?_)
  refine g_goto 549 dX7_plain_541 (by decide) ?_
  exact g_return rfl dX7_plain_549
def V.Reg_plain_p523  (σ : HS) (x0 : Nat) (x1 : Int32) (x2 : Int32) : Option (Unit × HS) :=
  if x1 < (54 : Int32) then (
    Reg_plain_p535 σ x0 x1 x2)
  else (
    if x1 = (64 : Int32) then (
      Reg_plain_p535 σ x0 x1 x2)
    else (
      ck (tg σ x0 = 8) <| cl (Reg_calculate σ x0 x1) fun _ σ1 =>
      some ((), σ1)))
theorem V.gX7_plain_p523 {X : CX}  (σ : HS) (x0 : Nat) (x1 : Int32) (x2 : Int32) : G X RX7 "plain" cX7_plain 10 none 8 217 enV 523 [(0, av x0), (1, iv x1), (2, iv x2)] [] σ (Reg_plain_p523 σ x0 x1 x2) := by
  unfold Reg_plain_p523
  refine g_iload_n 1 1 dX7_plain_523 rfl rfl ?_
  refine g_bipush (v := 54) dX7_plain_524 (by decide) ?_
  refine g_icmp_lt 535 dX7_plain_526 (by decide) ?_ ?_
  · exact gX7_plain_p535 _ _ _ _
  · refine g_iload_n 1 1 dX7_plain_529 rfl rfl ?_
    refine g_bipush (v := 64) dX7_plain_530 (by decide) ?_
    refine g_icmp_ne 544 dX7_plain_532 (by decide) ?_ ?_
    · refine g_aload_n 0 0 dX7_plain_544 rfl rfl ?_
      refine g_iload_n 1 1 dX7_plain_545 rfl rfl ?_
      refine g_callV (fc := fun sς => Reg_calculate sς x0 x1) (ci := 7) (as := [iv x1]) rfl rfl rfl q2510 qs165 mdX7_176 (ctX7_calculate x0 x1) rfl (Nat.le_of_ble_eq_true rfl) (Nat.le_of_ble_eq_true rfl) (Nat.le_of_ble_eq_true rfl) pu_V dX7_plain_546 (fun _ σ1 => ?_)
      exact g_return rfl dX7_plain_549
    · exact gX7_plain_p535 _ _ _ _
def V.Reg_plain (σ : HS) (x0 : Nat) (x1 : Int32) (x2 : Int32) (x3 : Int32) : Option (Unit × HS) :=
  swx x1 [
    (26, (
      ck (tg σ x0 = 8) <| cl (Reg_pop σ x0 ) fun r2 σ1 =>
      ck (tg σ1 x0 = 8) <|
      ck (tg σ1 x0 = 8) <| bn (sI σ1 x0 14 ((gI σ1 x0 14) + (1 : Int32))) fun σ3 =>
      some ((), σ3))),
    (27, (
      ck (tg σ x0 = 8) <| cl (Reg_pop σ x0 ) fun r5 σ4 =>
      ck (tg σ4 x0 = 8) <| cl (Reg_pop σ4 x0 ) fun r7 σ6 =>
      ck (tg σ6 x0 = 8) <| cl (Reg_pop σ6 x0 ) fun r9 σ8 =>
      ck (tg σ8 x0 = 8) <|
      ck (tg σ8 x0 = 8) <| cl (Reg_slot σ8 x0 (gI σ8 x0 12)) fun r11 σ10 =>
      ck (tg σ10 x0 = 8) <| cl (Reg_steps σ10 x0 (1 : Int32)) fun r13 σ12 =>
      ck (tg σ12 x0 = 8) <| cl (Reg_emit σ12 x0 (27 : Int32) r11 r9 r7 r5 r13) fun r15 σ14 =>
      ck (tg σ14 x0 = 8) <| cl (Reg_push σ14 x0 (0 : Int32) (0 : Int32)) fun _ σ16 =>
      some ((), σ16))),
    (32, (
      ck (tg σ x0 = 8) <| cl (Reg_push σ x0 (1 : Int32) x2) fun _ σ17 =>
      ck (tg σ17 x0 = 8) <|
      ck (tg σ17 x0 = 8) <| bn (sI σ17 x0 14 ((gI σ17 x0 14) + (1 : Int32))) fun σ18 =>
      some ((), σ18))),
    (33, (
      ck (tg σ x0 = 8) <| cl (Reg_pop σ x0 ) fun r20 σ19 =>
      ck (tg σ19 x0 = 8) <| cl (Reg_free σ19 x0 x2) fun _ σ21 =>
      ck (tg σ21 x0 = 8) <| cl (Reg_steps σ21 x0 (1 : Int32)) fun r23 σ22 =>
      ck (tg σ22 x0 = 8) <| cl (Reg_emit σ22 x0 (300 : Int32) x2 r20 (0 : Int32) (0 : Int32) r23) fun r25 σ24 =>
      some ((), σ24))),
    (34, (
      ck (tg σ x0 = 8) <| cl (Reg_pop σ x0 ) fun r27 σ26 =>
      ck (tg σ26 x0 = 8) <| cl (Reg_free σ26 x0 x2) fun _ σ28 =>
      ck (tg σ28 x0 = 8) <| cl (Reg_steps σ28 x0 (1 : Int32)) fun r30 σ29 =>
      ck (tg σ29 x0 = 8) <| cl (Reg_emit σ29 x0 (300 : Int32) x2 r27 (0 : Int32) (0 : Int32) r30) fun r32 σ31 =>
      ck (tg σ31 x0 = 8) <|
      ck (tg σ31 x0 = 8) <| bn (sI σ31 x0 12 ((gI σ31 x0 12) + (1 : Int32))) fun σ33 =>
      some ((), σ33))),
    (35, (
      ck (tg σ x0 = 8) <|
      ck (tg σ x0 = 8) <| cl (Reg_slot σ x0 (gI σ x0 12)) fun r35 σ34 =>
      ck (tg σ34 x0 = 8) <| cl (Reg_steps σ34 x0 (1 : Int32)) fun r37 σ36 =>
      ck (tg σ36 x0 = 8) <| cl (Reg_emit σ36 x0 (35 : Int32) r35 x2 (0 : Int32) (0 : Int32) r37) fun r39 σ38 =>
      ck (tg σ38 x0 = 8) <| cl (Reg_push σ38 x0 (0 : Int32) (0 : Int32)) fun _ σ40 =>
      some ((), σ40))),
    (36, (
      ck (tg σ x0 = 8) <| cl (Reg_pop σ x0 ) fun r42 σ41 =>
      ck (tg σ41 x0 = 8) <| cl (Reg_steps σ41 x0 (1 : Int32)) fun r44 σ43 =>
      ck (tg σ43 x0 = 8) <| cl (Reg_emit σ43 x0 (36 : Int32) x2 r42 (0 : Int32) (0 : Int32) r44) fun r46 σ45 =>
      some ((), σ45))),
    (63, (
      ck (tg σ x0 = 8) <|
      ck (tg σ x0 = 8) <| cl (Reg_slot σ x0 (gI σ x0 12)) fun r48 σ47 =>
      ck (tg σ47 x0 = 8) <| cl (Reg_steps σ47 x0 (1 : Int32)) fun r50 σ49 =>
      ck (tg σ49 x0 = 8) <| cl (Reg_emit σ49 x0 (63 : Int32) r48 (0 : Int32) (0 : Int32) (0 : Int32) r50) fun r52 σ51 =>
      ck (tg σ51 x0 = 8) <| cl (Reg_push σ51 x0 (0 : Int32) (0 : Int32)) fun _ σ53 =>
      some ((), σ53))),
    (65, (
      Reg_plain_p370 σ x0 x1 x2 x3)),
    (66, (
      Reg_plain_p370 σ x0 x1 x2 x3)),
    (208, (
      Reg_plain_p370 σ x0 x1 x2 x3)),
    (209, (
      ck (tg σ x0 = 8) <| cl (Reg_load σ x0 x1 (0 : Int32)) fun _ σ54 =>
      some ((), σ54))),
    (210, (
      ck (tg σ x0 = 8) <|
      ck (tg σ x0 = 8) <| cl (Reg_slot σ x0 (gI σ x0 12)) fun r56 σ55 =>
      ck (tg σ55 x0 = 8) <| cl (Reg_steps σ55 x0 (1 : Int32)) fun r58 σ57 =>
      ck (tg σ57 x0 = 8) <| cl (Reg_emit σ57 x0 (210 : Int32) r56 x2 (0 : Int32) (0 : Int32) r58) fun r60 σ59 =>
      ck (tg σ59 x0 = 8) <| cl (Reg_push σ59 x0 (0 : Int32) (0 : Int32)) fun _ σ61 =>
      some ((), σ61)))
    ] (
    if (207 : Int32) < x1 then (
      Reg_plain_p492 σ x0 x1 x2 x3)
    else (
      if x1 = (37 : Int32) then (
        Reg_plain_p492 σ x0 x1 x2 x3)
      else (
        if x1 = (38 : Int32) then (
          Reg_plain_p492 σ x0 x1 x2 x3)
        else (
          if x1 ≤ (53 : Int32) then (
            Reg_plain_p523 σ x0 x1 x2)
          else (
            if (63 : Int32) ≤ x1 then (
              Reg_plain_p523 σ x0 x1 x2)
            else (
              ck (tg σ x0 = 8) <| cl (Reg_store σ x0 x1 x2) fun _ σ62 =>
              some ((), σ62)))))))
theorem V.ctX7_plain (x0 : Nat) (x1 : Int32) (x2 : Int32) (x3 : Int32) : Ct yX7_plain  cX7_plain 10 none 8 217 eV [av x0, iv x1, iv x2, iv x3] (fun σ => Reg_plain σ x0 x1 x2 x3) := by
  refine Ct.of (own := RX7) (nm := "plain") (desc := "(III)V") rfl (by decide) (Nat.le_of_ble_eq_true rfl) (by decide) (fun X σ => ?_)
  show G X RX7 "plain" cX7_plain 10 none 8 217 enV 0 [(0, av x0), (1, iv x1), (2, iv x2), (3, iv x3)] [] σ (Reg_plain σ x0 x1 x2 x3)
  unfold Reg_plain
  refine g_iload_n 1 1 dX7_plain_0 rfl rfl ?_
  refine g_lsw dX7_plain_1 (by decide +kernel) ?_
  refine g_case ex0 (t := 116) (by decide +kernel) ?_ (fun hx => ?_)
  · refine g_aload_n 0 0 dX7_plain_116 rfl rfl ?_
    refine g_callV (fc := fun sς => Reg_pop sς x0 ) (ci := 7) (as := []) rfl rfl rfl q2454 qs152 mdX7_134 (ctX7_pop x0 ) rfl (Nat.le_of_ble_eq_true rfl) (Nat.le_of_ble_eq_true rfl) (Nat.le_of_ble_eq_true rfl) pu_I dX7_plain_117 (fun r2 σ1 => ?_)
    refine g_pop dX7_plain_120 rfl ?_
    refine g_aload_n 0 0 dX7_plain_121 rfl rfl ?_
    refine g_dup dX7_plain_122 rfl ?_
    refine g_getI fdX7_60 dX7_plain_123 ?_
    refine g_iconst (v := 1) dX7_plain_126 (by decide) ?_
    refine g_iadd dX7_plain_127 ?_
    refine g_putI fpX7_60 dX7_plain_128 (fun σ3 => ?_)
    refine g_goto 549 dX7_plain_131 (by decide) ?_
    exact g_return rfl dX7_plain_549
  refine g_case hx (t := 134) (by decide +kernel) ?_ (fun hx => ?_)
  · refine g_aload_n 0 0 dX7_plain_134 rfl rfl ?_
    refine g_callV (fc := fun sς => Reg_pop sς x0 ) (ci := 7) (as := []) rfl rfl rfl q2454 qs152 mdX7_134 (ctX7_pop x0 ) rfl (Nat.le_of_ble_eq_true rfl) (Nat.le_of_ble_eq_true rfl) (Nat.le_of_ble_eq_true rfl) pu_I dX7_plain_135 (fun r5 σ4 => ?_)
    refine g_istore dX7_plain_138 (by decide) rfl ?_
    refine g_aload_n 0 1 dX7_plain_140 rfl rfl ?_
    refine g_callV (fc := fun sς => Reg_pop sς x0 ) (ci := 7) (as := []) rfl rfl rfl q2454 qs152 mdX7_134 (ctX7_pop x0 ) rfl (Nat.le_of_ble_eq_true rfl) (Nat.le_of_ble_eq_true rfl) (Nat.le_of_ble_eq_true rfl) pu_I dX7_plain_141 (fun r7 σ6 => ?_)
    refine g_istore dX7_plain_144 (by decide) rfl ?_
    refine g_aload_n 0 2 dX7_plain_146 rfl rfl ?_
    refine g_callV (fc := fun sς => Reg_pop sς x0 ) (ci := 7) (as := []) rfl rfl rfl q2454 qs152 mdX7_134 (ctX7_pop x0 ) rfl (Nat.le_of_ble_eq_true rfl) (Nat.le_of_ble_eq_true rfl) (Nat.le_of_ble_eq_true rfl) pu_I dX7_plain_147 (fun r9 σ8 => ?_)
    refine g_istore dX7_plain_150 (by decide) rfl ?_
    refine g_aload_n 0 3 dX7_plain_152 rfl rfl ?_
    refine g_bipush (v := 27) dX7_plain_153 (by decide) ?_
    refine g_aload_n 0 3 dX7_plain_155 rfl rfl ?_
    refine g_aload_n 0 3 dX7_plain_156 rfl rfl ?_
    refine g_getI fdX7_72 dX7_plain_157 ?_
    refine g_callV (fc := fun sς => Reg_slot sς x0 (gI σ8 x0 12)) (ci := 7) (as := [iv (gI σ8 x0 12)]) rfl rfl rfl q2434 qs147 mdX7_69 (ctX7_slot x0 (gI σ8 x0 12)) rfl (Nat.le_of_ble_eq_true rfl) (Nat.le_of_ble_eq_true rfl) (Nat.le_of_ble_eq_true rfl) pu_I dX7_plain_160 (fun r11 σ10 => ?_)
    refine g_iload 0 dX7_plain_163 rfl ?_
    refine g_iload 1 dX7_plain_165 rfl ?_
    refine g_iload 2 dX7_plain_167 rfl ?_
    refine g_aload_n 0 3 dX7_plain_169 rfl rfl ?_
    refine g_iconst (v := 1) dX7_plain_170 (by decide) ?_
    refine g_callV (fc := fun sς => Reg_steps sς x0 (1 : Int32)) (ci := 7) (as := [iv (1 : Int32)]) rfl rfl rfl q2442 qs149 mdX7_128 (ctX7_steps x0 (1 : Int32)) rfl (Nat.le_of_ble_eq_true rfl) (Nat.le_of_ble_eq_true rfl) (Nat.le_of_ble_eq_true rfl) pu_I dX7_plain_171 (fun r13 σ12 => ?_)
    refine g_callV (fc := fun sς => Reg_emit sς x0 (27 : Int32) r11 r9 r7 r5 r13) (ci := 7) (as := [iv (27 : Int32), iv r11, iv r9, iv r7, iv r5, iv r13]) rfl rfl rfl q2438 qs148 mdX7_78 (ctX7_emit x0 (27 : Int32) r11 r9 r7 r5 r13) rfl (Nat.le_of_ble_eq_true rfl) (Nat.le_of_ble_eq_true rfl) (Nat.le_of_ble_eq_true rfl) pu_I dX7_plain_174 (fun r15 σ14 => ?_)
    refine g_pop dX7_plain_177 rfl ?_
    refine g_aload_n 0 3 dX7_plain_178 rfl rfl ?_
    refine g_iconst (v := 0) dX7_plain_179 (by decide) ?_
    refine g_iconst (v := 0) dX7_plain_180 (by decide) ?_
    refine g_callV (fc := fun sς => Reg_push sς x0 (0 : Int32) (0 : Int32)) (ci := 7) (as := [iv (0 : Int32), iv (0 : Int32)]) rfl rfl rfl q2446 qs150 mdX7_131 (ctX7_push x0 (0 : Int32) (0 : Int32)) rfl (Nat.le_of_ble_eq_true rfl) (Nat.le_of_ble_eq_true rfl) (Nat.le_of_ble_eq_true rfl) pu_V dX7_plain_181 (fun _ σ16 => ?_)
    refine g_goto 549 dX7_plain_184 (by decide) ?_
    exact g_return rfl dX7_plain_549
  refine g_case hx (t := 187) (by decide +kernel) ?_ (fun hx => ?_)
  · refine g_aload_n 0 0 dX7_plain_187 rfl rfl ?_
    refine g_iconst (v := 1) dX7_plain_188 (by decide) ?_
    refine g_iload_n 2 2 dX7_plain_189 rfl rfl ?_
    refine g_callV (fc := fun sς => Reg_push sς x0 (1 : Int32) x2) (ci := 7) (as := [iv (1 : Int32), iv x2]) rfl rfl rfl q2446 qs150 mdX7_131 (ctX7_push x0 (1 : Int32) x2) rfl (Nat.le_of_ble_eq_true rfl) (Nat.le_of_ble_eq_true rfl) (Nat.le_of_ble_eq_true rfl) pu_V dX7_plain_190 (fun _ σ17 => ?_)
    refine g_aload_n 0 0 dX7_plain_193 rfl rfl ?_
    refine g_dup dX7_plain_194 rfl ?_
    refine g_getI fdX7_60 dX7_plain_195 ?_
    refine g_iconst (v := 1) dX7_plain_198 (by decide) ?_
    refine g_iadd dX7_plain_199 ?_
    refine g_putI fpX7_60 dX7_plain_200 (fun σ18 => ?_)
    refine g_goto 549 dX7_plain_203 (by decide) ?_
    exact g_return rfl dX7_plain_549
  refine g_case hx (t := 206) (by decide +kernel) ?_ (fun hx => ?_)
  · refine g_aload_n 0 0 dX7_plain_206 rfl rfl ?_
    refine g_callV (fc := fun sς => Reg_pop sς x0 ) (ci := 7) (as := []) rfl rfl rfl q2454 qs152 mdX7_134 (ctX7_pop x0 ) rfl (Nat.le_of_ble_eq_true rfl) (Nat.le_of_ble_eq_true rfl) (Nat.le_of_ble_eq_true rfl) pu_I dX7_plain_207 (fun r20 σ19 => ?_)
    refine g_istore dX7_plain_210 (by decide) rfl ?_
    refine g_aload_n 0 1 dX7_plain_212 rfl rfl ?_
    refine g_iload_n 2 3 dX7_plain_213 rfl rfl ?_
    refine g_callV (fc := fun sς => Reg_free sς x0 x2) (ci := 7) (as := [iv x2]) rfl rfl rfl q2486 qs160 mdX7_157 (ctX7_free x0 x2) rfl (Nat.le_of_ble_eq_true rfl) (Nat.le_of_ble_eq_true rfl) (Nat.le_of_ble_eq_true rfl) pu_V dX7_plain_214 (fun _ σ21 => ?_)
    refine g_aload_n 0 1 dX7_plain_217 rfl rfl ?_
    refine g_sipush (v := 300) dX7_plain_218 (by decide) ?_
    refine g_iload_n 2 3 dX7_plain_221 rfl rfl ?_
    refine g_iload 0 dX7_plain_222 rfl ?_
    refine g_iconst (v := 0) dX7_plain_224 (by decide) ?_
    refine g_iconst (v := 0) dX7_plain_225 (by decide) ?_
    refine g_aload_n 0 1 dX7_plain_226 rfl rfl ?_
    refine g_iconst (v := 1) dX7_plain_227 (by decide) ?_
    refine g_callV (fc := fun sς => Reg_steps sς x0 (1 : Int32)) (ci := 7) (as := [iv (1 : Int32)]) rfl rfl rfl q2442 qs149 mdX7_128 (ctX7_steps x0 (1 : Int32)) rfl (Nat.le_of_ble_eq_true rfl) (Nat.le_of_ble_eq_true rfl) (Nat.le_of_ble_eq_true rfl) pu_I dX7_plain_228 (fun r23 σ22 => ?_)
    refine g_callV (fc := fun sς => Reg_emit sς x0 (300 : Int32) x2 r20 (0 : Int32) (0 : Int32) r23) (ci := 7) (as := [iv (300 : Int32), iv x2, iv r20, iv (0 : Int32), iv (0 : Int32), iv r23]) rfl rfl rfl q2438 qs148 mdX7_78 (ctX7_emit x0 (300 : Int32) x2 r20 (0 : Int32) (0 : Int32) r23) rfl (Nat.le_of_ble_eq_true rfl) (Nat.le_of_ble_eq_true rfl) (Nat.le_of_ble_eq_true rfl) pu_I dX7_plain_231 (fun r25 σ24 => ?_)
    refine g_pop dX7_plain_234 rfl ?_
    refine g_goto 549 dX7_plain_235 (by decide) ?_
    exact g_return rfl dX7_plain_549
  refine g_case hx (t := 238) (by decide +kernel) ?_ (fun hx => ?_)
  · refine g_aload_n 0 0 dX7_plain_238 rfl rfl ?_
    refine g_callV (fc := fun sς => Reg_pop sς x0 ) (ci := 7) (as := []) rfl rfl rfl q2454 qs152 mdX7_134 (ctX7_pop x0 ) rfl (Nat.le_of_ble_eq_true rfl) (Nat.le_of_ble_eq_true rfl) (Nat.le_of_ble_eq_true rfl) pu_I dX7_plain_239 (fun r27 σ26 => ?_)
    refine g_istore dX7_plain_242 (by decide) rfl ?_
    refine g_aload_n 0 1 dX7_plain_244 rfl rfl ?_
    refine g_iload_n 2 3 dX7_plain_245 rfl rfl ?_
    refine g_callV (fc := fun sς => Reg_free sς x0 x2) (ci := 7) (as := [iv x2]) rfl rfl rfl q2486 qs160 mdX7_157 (ctX7_free x0 x2) rfl (Nat.le_of_ble_eq_true rfl) (Nat.le_of_ble_eq_true rfl) (Nat.le_of_ble_eq_true rfl) pu_V dX7_plain_246 (fun _ σ28 => ?_)
    refine g_aload_n 0 1 dX7_plain_249 rfl rfl ?_
    refine g_sipush (v := 300) dX7_plain_250 (by decide) ?_
    refine g_iload_n 2 3 dX7_plain_253 rfl rfl ?_
    refine g_iload 0 dX7_plain_254 rfl ?_
    refine g_iconst (v := 0) dX7_plain_256 (by decide) ?_
    refine g_iconst (v := 0) dX7_plain_257 (by decide) ?_
    refine g_aload_n 0 1 dX7_plain_258 rfl rfl ?_
    refine g_iconst (v := 1) dX7_plain_259 (by decide) ?_
    refine g_callV (fc := fun sς => Reg_steps sς x0 (1 : Int32)) (ci := 7) (as := [iv (1 : Int32)]) rfl rfl rfl q2442 qs149 mdX7_128 (ctX7_steps x0 (1 : Int32)) rfl (Nat.le_of_ble_eq_true rfl) (Nat.le_of_ble_eq_true rfl) (Nat.le_of_ble_eq_true rfl) pu_I dX7_plain_260 (fun r30 σ29 => ?_)
    refine g_callV (fc := fun sς => Reg_emit sς x0 (300 : Int32) x2 r27 (0 : Int32) (0 : Int32) r30) (ci := 7) (as := [iv (300 : Int32), iv x2, iv r27, iv (0 : Int32), iv (0 : Int32), iv r30]) rfl rfl rfl q2438 qs148 mdX7_78 (ctX7_emit x0 (300 : Int32) x2 r27 (0 : Int32) (0 : Int32) r30) rfl (Nat.le_of_ble_eq_true rfl) (Nat.le_of_ble_eq_true rfl) (Nat.le_of_ble_eq_true rfl) pu_I dX7_plain_263 (fun r32 σ31 => ?_)
    refine g_pop dX7_plain_266 rfl ?_
    refine g_aload_n 0 1 dX7_plain_267 rfl rfl ?_
    refine g_dup dX7_plain_268 rfl ?_
    refine g_getI fdX7_72 dX7_plain_269 ?_
    refine g_iconst (v := 1) dX7_plain_272 (by decide) ?_
    refine g_iadd dX7_plain_273 ?_
    refine g_putI fpX7_72 dX7_plain_274 (fun σ33 => ?_)
    refine g_goto 549 dX7_plain_277 (by decide) ?_
    exact g_return rfl dX7_plain_549
  refine g_case hx (t := 280) (by decide +kernel) ?_ (fun hx => ?_)
  · refine g_aload_n 0 0 dX7_plain_280 rfl rfl ?_
    refine g_bipush (v := 35) dX7_plain_281 (by decide) ?_
    refine g_aload_n 0 0 dX7_plain_283 rfl rfl ?_
    refine g_aload_n 0 0 dX7_plain_284 rfl rfl ?_
    refine g_getI fdX7_72 dX7_plain_285 ?_
    refine g_callV (fc := fun sς => Reg_slot sς x0 (gI σ x0 12)) (ci := 7) (as := [iv (gI σ x0 12)]) rfl rfl rfl q2434 qs147 mdX7_69 (ctX7_slot x0 (gI σ x0 12)) rfl (Nat.le_of_ble_eq_true rfl) (Nat.le_of_ble_eq_true rfl) (Nat.le_of_ble_eq_true rfl) pu_I dX7_plain_288 (fun r35 σ34 => ?_)
    refine g_iload_n 2 2 dX7_plain_291 rfl rfl ?_
    refine g_iconst (v := 0) dX7_plain_292 (by decide) ?_
    refine g_iconst (v := 0) dX7_plain_293 (by decide) ?_
    refine g_aload_n 0 0 dX7_plain_294 rfl rfl ?_
    refine g_iconst (v := 1) dX7_plain_295 (by decide) ?_
    refine g_callV (fc := fun sς => Reg_steps sς x0 (1 : Int32)) (ci := 7) (as := [iv (1 : Int32)]) rfl rfl rfl q2442 qs149 mdX7_128 (ctX7_steps x0 (1 : Int32)) rfl (Nat.le_of_ble_eq_true rfl) (Nat.le_of_ble_eq_true rfl) (Nat.le_of_ble_eq_true rfl) pu_I dX7_plain_296 (fun r37 σ36 => ?_)
    refine g_callV (fc := fun sς => Reg_emit sς x0 (35 : Int32) r35 x2 (0 : Int32) (0 : Int32) r37) (ci := 7) (as := [iv (35 : Int32), iv r35, iv x2, iv (0 : Int32), iv (0 : Int32), iv r37]) rfl rfl rfl q2438 qs148 mdX7_78 (ctX7_emit x0 (35 : Int32) r35 x2 (0 : Int32) (0 : Int32) r37) rfl (Nat.le_of_ble_eq_true rfl) (Nat.le_of_ble_eq_true rfl) (Nat.le_of_ble_eq_true rfl) pu_I dX7_plain_299 (fun r39 σ38 => ?_)
    refine g_pop dX7_plain_302 rfl ?_
    refine g_aload_n 0 0 dX7_plain_303 rfl rfl ?_
    refine g_iconst (v := 0) dX7_plain_304 (by decide) ?_
    refine g_iconst (v := 0) dX7_plain_305 (by decide) ?_
    refine g_callV (fc := fun sς => Reg_push sς x0 (0 : Int32) (0 : Int32)) (ci := 7) (as := [iv (0 : Int32), iv (0 : Int32)]) rfl rfl rfl q2446 qs150 mdX7_131 (ctX7_push x0 (0 : Int32) (0 : Int32)) rfl (Nat.le_of_ble_eq_true rfl) (Nat.le_of_ble_eq_true rfl) (Nat.le_of_ble_eq_true rfl) pu_V dX7_plain_306 (fun _ σ40 => ?_)
    refine g_goto 549 dX7_plain_309 (by decide) ?_
    exact g_return rfl dX7_plain_549
  refine g_case hx (t := 312) (by decide +kernel) ?_ (fun hx => ?_)
  · refine g_aload_n 0 0 dX7_plain_312 rfl rfl ?_
    refine g_callV (fc := fun sς => Reg_pop sς x0 ) (ci := 7) (as := []) rfl rfl rfl q2454 qs152 mdX7_134 (ctX7_pop x0 ) rfl (Nat.le_of_ble_eq_true rfl) (Nat.le_of_ble_eq_true rfl) (Nat.le_of_ble_eq_true rfl) pu_I dX7_plain_313 (fun r42 σ41 => ?_)
    refine g_istore dX7_plain_316 (by decide) rfl ?_
    refine g_aload_n 0 1 dX7_plain_318 rfl rfl ?_
    refine g_bipush (v := 36) dX7_plain_319 (by decide) ?_
    refine g_iload_n 2 3 dX7_plain_321 rfl rfl ?_
    refine g_iload 0 dX7_plain_322 rfl ?_
    refine g_iconst (v := 0) dX7_plain_324 (by decide) ?_
    refine g_iconst (v := 0) dX7_plain_325 (by decide) ?_
    refine g_aload_n 0 1 dX7_plain_326 rfl rfl ?_
    refine g_iconst (v := 1) dX7_plain_327 (by decide) ?_
    refine g_callV (fc := fun sς => Reg_steps sς x0 (1 : Int32)) (ci := 7) (as := [iv (1 : Int32)]) rfl rfl rfl q2442 qs149 mdX7_128 (ctX7_steps x0 (1 : Int32)) rfl (Nat.le_of_ble_eq_true rfl) (Nat.le_of_ble_eq_true rfl) (Nat.le_of_ble_eq_true rfl) pu_I dX7_plain_328 (fun r44 σ43 => ?_)
    refine g_callV (fc := fun sς => Reg_emit sς x0 (36 : Int32) x2 r42 (0 : Int32) (0 : Int32) r44) (ci := 7) (as := [iv (36 : Int32), iv x2, iv r42, iv (0 : Int32), iv (0 : Int32), iv r44]) rfl rfl rfl q2438 qs148 mdX7_78 (ctX7_emit x0 (36 : Int32) x2 r42 (0 : Int32) (0 : Int32) r44) rfl (Nat.le_of_ble_eq_true rfl) (Nat.le_of_ble_eq_true rfl) (Nat.le_of_ble_eq_true rfl) pu_I dX7_plain_331 (fun r46 σ45 => ?_)
    refine g_pop dX7_plain_334 rfl ?_
    refine g_goto 549 dX7_plain_335 (by decide) ?_
    exact g_return rfl dX7_plain_549
  refine g_case hx (t := 338) (by decide +kernel) ?_ (fun hx => ?_)
  · refine g_aload_n 0 0 dX7_plain_338 rfl rfl ?_
    refine g_bipush (v := 63) dX7_plain_339 (by decide) ?_
    refine g_aload_n 0 0 dX7_plain_341 rfl rfl ?_
    refine g_aload_n 0 0 dX7_plain_342 rfl rfl ?_
    refine g_getI fdX7_72 dX7_plain_343 ?_
    refine g_callV (fc := fun sς => Reg_slot sς x0 (gI σ x0 12)) (ci := 7) (as := [iv (gI σ x0 12)]) rfl rfl rfl q2434 qs147 mdX7_69 (ctX7_slot x0 (gI σ x0 12)) rfl (Nat.le_of_ble_eq_true rfl) (Nat.le_of_ble_eq_true rfl) (Nat.le_of_ble_eq_true rfl) pu_I dX7_plain_346 (fun r48 σ47 => ?_)
    refine g_iconst (v := 0) dX7_plain_349 (by decide) ?_
    refine g_iconst (v := 0) dX7_plain_350 (by decide) ?_
    refine g_iconst (v := 0) dX7_plain_351 (by decide) ?_
    refine g_aload_n 0 0 dX7_plain_352 rfl rfl ?_
    refine g_iconst (v := 1) dX7_plain_353 (by decide) ?_
    refine g_callV (fc := fun sς => Reg_steps sς x0 (1 : Int32)) (ci := 7) (as := [iv (1 : Int32)]) rfl rfl rfl q2442 qs149 mdX7_128 (ctX7_steps x0 (1 : Int32)) rfl (Nat.le_of_ble_eq_true rfl) (Nat.le_of_ble_eq_true rfl) (Nat.le_of_ble_eq_true rfl) pu_I dX7_plain_354 (fun r50 σ49 => ?_)
    refine g_callV (fc := fun sς => Reg_emit sς x0 (63 : Int32) r48 (0 : Int32) (0 : Int32) (0 : Int32) r50) (ci := 7) (as := [iv (63 : Int32), iv r48, iv (0 : Int32), iv (0 : Int32), iv (0 : Int32), iv r50]) rfl rfl rfl q2438 qs148 mdX7_78 (ctX7_emit x0 (63 : Int32) r48 (0 : Int32) (0 : Int32) (0 : Int32) r50) rfl (Nat.le_of_ble_eq_true rfl) (Nat.le_of_ble_eq_true rfl) (Nat.le_of_ble_eq_true rfl) pu_I dX7_plain_357 (fun r52 σ51 => ?_)
    refine g_pop dX7_plain_360 rfl ?_
    refine g_aload_n 0 0 dX7_plain_361 rfl rfl ?_
    refine g_iconst (v := 0) dX7_plain_362 (by decide) ?_
    refine g_iconst (v := 0) dX7_plain_363 (by decide) ?_
    refine g_callV (fc := fun sς => Reg_push sς x0 (0 : Int32) (0 : Int32)) (ci := 7) (as := [iv (0 : Int32), iv (0 : Int32)]) rfl rfl rfl q2446 qs150 mdX7_131 (ctX7_push x0 (0 : Int32) (0 : Int32)) rfl (Nat.le_of_ble_eq_true rfl) (Nat.le_of_ble_eq_true rfl) (Nat.le_of_ble_eq_true rfl) pu_V dX7_plain_364 (fun _ σ53 => ?_)
    refine g_goto 549 dX7_plain_367 (by decide) ?_
    exact g_return rfl dX7_plain_549
  refine g_case hx (t := 370) (by decide +kernel) ?_ (fun hx => ?_)
  · exact gX7_plain_p370 _ _ _ _ _
  refine g_case hx (t := 370) (by decide +kernel) ?_ (fun hx => ?_)
  · exact gX7_plain_p370 _ _ _ _ _
  refine g_case hx (t := 370) (by decide +kernel) ?_ (fun hx => ?_)
  · exact gX7_plain_p370 _ _ _ _ _
  refine g_case hx (t := 431) (by decide +kernel) ?_ (fun hx => ?_)
  · refine g_aload_n 0 0 dX7_plain_431 rfl rfl ?_
    refine g_iload_n 1 1 dX7_plain_432 rfl rfl ?_
    refine g_iconst (v := 0) dX7_plain_433 (by decide) ?_
    refine g_callV (fc := fun sς => Reg_load sς x0 x1 (0 : Int32)) (ci := 7) (as := [iv x1, iv (0 : Int32)]) rfl rfl rfl q2496 qs162 mdX7_168 (ctX7_load x0 x1 (0 : Int32)) rfl (Nat.le_of_ble_eq_true rfl) (Nat.le_of_ble_eq_true rfl) (Nat.le_of_ble_eq_true rfl) pu_V dX7_plain_434 (fun _ σ54 => ?_)
    refine g_goto 549 dX7_plain_437 (by decide) ?_
    exact g_return rfl dX7_plain_549
  refine g_case hx (t := 440) (by decide +kernel) ?_ (fun hx => ?_)
  · refine g_aload_n 0 0 dX7_plain_440 rfl rfl ?_
    refine g_sipush (v := 210) dX7_plain_441 (by decide) ?_
    refine g_aload_n 0 0 dX7_plain_444 rfl rfl ?_
    refine g_aload_n 0 0 dX7_plain_445 rfl rfl ?_
    refine g_getI fdX7_72 dX7_plain_446 ?_
    refine g_callV (fc := fun sς => Reg_slot sς x0 (gI σ x0 12)) (ci := 7) (as := [iv (gI σ x0 12)]) rfl rfl rfl q2434 qs147 mdX7_69 (ctX7_slot x0 (gI σ x0 12)) rfl (Nat.le_of_ble_eq_true rfl) (Nat.le_of_ble_eq_true rfl) (Nat.le_of_ble_eq_true rfl) pu_I dX7_plain_449 (fun r56 σ55 => ?_)
    refine g_iload_n 2 2 dX7_plain_452 rfl rfl ?_
    refine g_iconst (v := 0) dX7_plain_453 (by decide) ?_
    refine g_iconst (v := 0) dX7_plain_454 (by decide) ?_
    refine g_aload_n 0 0 dX7_plain_455 rfl rfl ?_
    refine g_iconst (v := 1) dX7_plain_456 (by decide) ?_
    refine g_callV (fc := fun sς => Reg_steps sς x0 (1 : Int32)) (ci := 7) (as := [iv (1 : Int32)]) rfl rfl rfl q2442 qs149 mdX7_128 (ctX7_steps x0 (1 : Int32)) rfl (Nat.le_of_ble_eq_true rfl) (Nat.le_of_ble_eq_true rfl) (Nat.le_of_ble_eq_true rfl) pu_I dX7_plain_457 (fun r58 σ57 => ?_)
    refine g_callV (fc := fun sς => Reg_emit sς x0 (210 : Int32) r56 x2 (0 : Int32) (0 : Int32) r58) (ci := 7) (as := [iv (210 : Int32), iv r56, iv x2, iv (0 : Int32), iv (0 : Int32), iv r58]) rfl rfl rfl q2438 qs148 mdX7_78 (ctX7_emit x0 (210 : Int32) r56 x2 (0 : Int32) (0 : Int32) r58) rfl (Nat.le_of_ble_eq_true rfl) (Nat.le_of_ble_eq_true rfl) (Nat.le_of_ble_eq_true rfl) pu_I dX7_plain_460 (fun r60 σ59 => ?_)
    refine g_pop dX7_plain_463 rfl ?_
    refine g_aload_n 0 0 dX7_plain_464 rfl rfl ?_
    refine g_iconst (v := 0) dX7_plain_465 (by decide) ?_
    refine g_iconst (v := 0) dX7_plain_466 (by decide) ?_
    refine g_callV (fc := fun sς => Reg_push sς x0 (0 : Int32) (0 : Int32)) (ci := 7) (as := [iv (0 : Int32), iv (0 : Int32)]) rfl rfl rfl q2446 qs150 mdX7_131 (ctX7_push x0 (0 : Int32) (0 : Int32)) rfl (Nat.le_of_ble_eq_true rfl) (Nat.le_of_ble_eq_true rfl) (Nat.le_of_ble_eq_true rfl) pu_V dX7_plain_467 (fun _ σ61 => ?_)
    refine g_goto 549 dX7_plain_470 (by decide) ?_
    exact g_return rfl dX7_plain_549
  refine g_dflt (t := 473) (lswT_d (by decide +kernel) hx) ?_
  refine g_iload_n 1 1 dX7_plain_473 rfl rfl ?_
  refine g_sipush (v := 207) dX7_plain_474 (by decide) ?_
  refine g_icmp_gt 492 dX7_plain_477 (by decide) ?_ ?_
  · exact gX7_plain_p492 _ _ _ _ _
  · refine g_iload_n 1 1 dX7_plain_480 rfl rfl ?_
    refine g_bipush (v := 37) dX7_plain_481 (by decide) ?_
    refine g_icmp_eq 492 dX7_plain_483 (by decide) ?_ ?_
    · exact gX7_plain_p492 _ _ _ _ _
    · refine g_iload_n 1 1 dX7_plain_486 rfl rfl ?_
      refine g_bipush (v := 38) dX7_plain_487 (by decide) ?_
      refine g_icmp_ne 502 dX7_plain_489 (by decide) ?_ ?_
      · refine g_iload_n 1 1 dX7_plain_502 rfl rfl ?_
        refine g_bipush (v := 53) dX7_plain_503 (by decide) ?_
        refine g_icmp_le 523 dX7_plain_505 (by decide) ?_ ?_
        · refine G.sub [0, 1, 2] rfl ?_
          exact gX7_plain_p523 _ _ _ _
        · refine g_iload_n 1 1 dX7_plain_508 rfl rfl ?_
          refine g_bipush (v := 63) dX7_plain_509 (by decide) ?_
          refine g_icmp_ge 523 dX7_plain_511 (by decide) ?_ ?_
          · refine G.sub [0, 1, 2] rfl ?_
            exact gX7_plain_p523 _ _ _ _
          · refine g_aload_n 0 0 dX7_plain_514 rfl rfl ?_
            refine g_iload_n 1 1 dX7_plain_515 rfl rfl ?_
            refine g_iload_n 2 2 dX7_plain_516 rfl rfl ?_
            refine g_callV (fc := fun sς => Reg_store sς x0 x1 x2) (ci := 7) (as := [iv x1, iv x2]) rfl rfl rfl q2506 qs164 mdX7_173 (ctX7_store x0 x1 x2) rfl (Nat.le_of_ble_eq_true rfl) (Nat.le_of_ble_eq_true rfl) (Nat.le_of_ble_eq_true rfl) pu_V dX7_plain_517 (fun _ σ62 => ?_)
            refine g_goto 549 dX7_plain_520 (by decide) ?_
            exact g_return rfl dX7_plain_549
      · exact gX7_plain_p492 _ _ _ _ _
theorem V.dX7_translate_0 : decode cX7_translate 0 = .ok (.aload_n 0, 1) := by decide +kernel
theorem V.dX7_translate_1 : decode cX7_translate 1 = .ok (.getfield 36, 3) := by decide +kernel
theorem V.dX7_translate_4 : decode cX7_translate 4 = .ok (.iload_n 1, 1) := by decide +kernel
theorem V.dX7_translate_5 : decode cX7_translate 5 = .ok (.invokevirtual 96, 3) := by decide +kernel
theorem V.dX7_translate_8 : decode cX7_translate 8 = .ok (.istore_n 2, 1) := by decide +kernel
theorem V.dX7_translate_9 : decode cX7_translate 9 = .ok (.aload_n 0, 1) := by decide +kernel
theorem V.dX7_translate_10 : decode cX7_translate 10 = .ok (.getfield 36, 3) := by decide +kernel
theorem V.dX7_translate_13 : decode cX7_translate 13 = .ok (.iload_n 1, 1) := by decide +kernel
theorem V.dX7_translate_14 : decode cX7_translate 14 = .ok (.iconst 1, 1) := by decide +kernel
theorem V.dX7_translate_15 : decode cX7_translate 15 = .ok (.invokevirtual 106, 3) := by decide +kernel
theorem V.dX7_translate_18 : decode cX7_translate 18 = .ok (.istore_n 3, 1) := by decide +kernel
theorem V.dX7_translate_19 : decode cX7_translate 19 = .ok (.aload_n 0, 1) := by decide +kernel
theorem V.dX7_translate_20 : decode cX7_translate 20 = .ok (.getfield 36, 3) := by decide +kernel
theorem V.dX7_translate_23 : decode cX7_translate 23 = .ok (.iload_n 1, 1) := by decide +kernel
theorem V.dX7_translate_24 : decode cX7_translate 24 = .ok (.iconst 2, 1) := by decide +kernel
theorem V.dX7_translate_25 : decode cX7_translate 25 = .ok (.invokevirtual 106, 3) := by decide +kernel
theorem V.dX7_translate_28 : decode cX7_translate 28 = .ok (.istore 4, 2) := by decide +kernel
theorem V.dX7_translate_30 : decode cX7_translate 30 = .ok (.aload_n 0, 1) := by decide +kernel
theorem V.dX7_translate_31 : decode cX7_translate 31 = .ok (.getfield 36, 3) := by decide +kernel
theorem V.dX7_translate_34 : decode cX7_translate 34 = .ok (.iload_n 1, 1) := by decide +kernel
theorem V.dX7_translate_35 : decode cX7_translate 35 = .ok (.iconst 3, 1) := by decide +kernel
theorem V.dX7_translate_36 : decode cX7_translate 36 = .ok (.invokevirtual 106, 3) := by decide +kernel
theorem V.dX7_translate_39 : decode cX7_translate 39 = .ok (.istore 5, 2) := by decide +kernel
theorem V.dX7_translate_41 : decode cX7_translate 41 = .ok (.iload_n 2, 1) := by decide +kernel
theorem V.dX7_translate_42 : decode cX7_translate 42 = .ok (.tableswitch 409 0 17 #[86, 109, 409, 409, 122, 164, 290, 409, 409, 409, 409, 293, 204, 269, 281, 293, 347, 374], 86) := by decide +kernel
theorem V.dX7_translate_128 : decode cX7_translate 128 = .ok (.aload_n 0, 1) := by decide +kernel
theorem V.dX7_translate_129 : decode cX7_translate 129 = .ok (.iconst 0, 1) := by decide +kernel
theorem V.dX7_translate_130 : decode cX7_translate 130 = .ok (.iconst 0, 1) := by decide +kernel
theorem V.dX7_translate_131 : decode cX7_translate 131 = .ok (.iconst 0, 1) := by decide +kernel
theorem V.dX7_translate_132 : decode cX7_translate 132 = .ok (.iconst 0, 1) := by decide +kernel
theorem V.dX7_translate_133 : decode cX7_translate 133 = .ok (.iconst 0, 1) := by decide +kernel
theorem V.dX7_translate_134 : decode cX7_translate 134 = .ok (.aload_n 0, 1) := by decide +kernel
theorem V.dX7_translate_135 : decode cX7_translate 135 = .ok (.iconst 1, 1) := by decide +kernel
theorem V.dX7_translate_136 : decode cX7_translate 136 = .ok (.invokevirtual 128, 3) := by decide +kernel
theorem V.dX7_translate_139 : decode cX7_translate 139 = .ok (.invokevirtual 78, 3) := by decide +kernel
theorem V.dX7_translate_142 : decode cX7_translate 142 = .ok (.pop, 1) := by decide +kernel
theorem V.dX7_translate_143 : decode cX7_translate 143 = .ok (.aload_n 0, 1) := by decide +kernel
theorem V.dX7_translate_144 : decode cX7_translate 144 = .ok (.iconst 0, 1) := by decide +kernel
theorem V.dX7_translate_145 : decode cX7_translate 145 = .ok (.putfield 113, 3) := by decide +kernel
theorem V.dX7_translate_148 : decode cX7_translate 148 = .ok (.goto 311, 3) := by decide +kernel
theorem V.dX7_translate_151 : decode cX7_translate 151 = .ok (.aload_n 0, 1) := by decide +kernel
theorem V.dX7_translate_152 : decode cX7_translate 152 = .ok (.dup, 1) := by decide +kernel
theorem V.dX7_translate_153 : decode cX7_translate 153 = .ok (.getfield 60, 3) := by decide +kernel
theorem V.dX7_translate_156 : decode cX7_translate 156 = .ok (.iconst 1, 1) := by decide +kernel
theorem V.dX7_translate_157 : decode cX7_translate 157 = .ok (.iadd, 1) := by decide +kernel
theorem V.dX7_translate_158 : decode cX7_translate 158 = .ok (.putfield 60, 3) := by decide +kernel
theorem V.dX7_translate_161 : decode cX7_translate 161 = .ok (.goto 298, 3) := by decide +kernel
theorem V.dX7_translate_164 : decode cX7_translate 164 = .ok (.aload_n 0, 1) := by decide +kernel
theorem V.dX7_translate_165 : decode cX7_translate 165 = .ok (.invokevirtual 134, 3) := by decide +kernel
theorem V.dX7_translate_168 : decode cX7_translate 168 = .ok (.istore 6, 2) := by decide +kernel
theorem V.dX7_translate_170 : decode cX7_translate 170 = .ok (.aload_n 0, 1) := by decide +kernel
theorem V.dX7_translate_171 : decode cX7_translate 171 = .ok (.iconst 0, 1) := by decide +kernel
theorem V.dX7_translate_172 : decode cX7_translate 172 = .ok (.invokevirtual 125, 3) := by decide +kernel
theorem V.dX7_translate_175 : decode cX7_translate 175 = .ok (.aload_n 0, 1) := by decide +kernel
theorem V.dX7_translate_176 : decode cX7_translate 176 = .ok (.getfield 24, 3) := by decide +kernel
theorem V.dX7_translate_179 : decode cX7_translate 179 = .ok (.iload_n 3, 1) := by decide +kernel
theorem V.dX7_translate_180 : decode cX7_translate 180 = .ok (.aload_n 0, 1) := by decide +kernel
theorem V.dX7_translate_181 : decode cX7_translate 181 = .ok (.getfield 72, 3) := by decide +kernel
theorem V.dX7_translate_184 : decode cX7_translate 184 = .ok (.iastore, 1) := by decide +kernel
theorem V.dX7_translate_185 : decode cX7_translate 185 = .ok (.aload_n 0, 1) := by decide +kernel
theorem V.dX7_translate_186 : decode cX7_translate 186 = .ok (.sipush 303, 3) := by decide +kernel
theorem V.dX7_translate_189 : decode cX7_translate 189 = .ok (.iload_n 3, 1) := by decide +kernel
theorem V.dX7_translate_190 : decode cX7_translate 190 = .ok (.iload 6, 2) := by decide +kernel
theorem V.dX7_translate_192 : decode cX7_translate 192 = .ok (.iconst 0, 1) := by decide +kernel
theorem V.dX7_translate_193 : decode cX7_translate 193 = .ok (.iconst 0, 1) := by decide +kernel
theorem V.dX7_translate_194 : decode cX7_translate 194 = .ok (.aload_n 0, 1) := by decide +kernel
theorem V.dX7_translate_195 : decode cX7_translate 195 = .ok (.iconst 1, 1) := by decide +kernel
theorem V.dX7_translate_196 : decode cX7_translate 196 = .ok (.invokevirtual 128, 3) := by decide +kernel
theorem V.dX7_translate_199 : decode cX7_translate 199 = .ok (.invokevirtual 78, 3) := by decide +kernel
theorem V.dX7_translate_202 : decode cX7_translate 202 = .ok (.pop, 1) := by decide +kernel
theorem V.dX7_translate_203 : decode cX7_translate 203 = .ok (.goto 256, 3) := by decide +kernel
theorem V.dX7_translate_206 : decode cX7_translate 206 = .ok (.aload_n 0, 1) := by decide +kernel
theorem V.dX7_translate_207 : decode cX7_translate 207 = .ok (.iconst 0, 1) := by decide +kernel
theorem V.dX7_translate_208 : decode cX7_translate 208 = .ok (.invokevirtual 125, 3) := by decide +kernel
theorem V.dX7_translate_211 : decode cX7_translate 211 = .ok (.aload_n 0, 1) := by decide +kernel
theorem V.dX7_translate_212 : decode cX7_translate 212 = .ok (.getfield 24, 3) := by decide +kernel
theorem V.dX7_translate_215 : decode cX7_translate 215 = .ok (.iload_n 3, 1) := by decide +kernel
theorem V.dX7_translate_216 : decode cX7_translate 216 = .ok (.aload_n 0, 1) := by decide +kernel
theorem V.dX7_translate_217 : decode cX7_translate 217 = .ok (.getfield 72, 3) := by decide +kernel
theorem V.dX7_translate_220 : decode cX7_translate 220 = .ok (.iastore, 1) := by decide +kernel
theorem V.dX7_translate_221 : decode cX7_translate 221 = .ok (.aload_n 0, 1) := by decide +kernel
theorem V.dX7_translate_222 : decode cX7_translate 222 = .ok (.sipush 302, 3) := by decide +kernel
theorem V.dX7_translate_225 : decode cX7_translate 225 = .ok (.iload_n 3, 1) := by decide +kernel
theorem V.dX7_translate_226 : decode cX7_translate 226 = .ok (.iconst 0, 1) := by decide +kernel
theorem V.dX7_translate_227 : decode cX7_translate 227 = .ok (.iconst 0, 1) := by decide +kernel
theorem V.dX7_translate_228 : decode cX7_translate 228 = .ok (.iconst 0, 1) := by decide +kernel
theorem V.dX7_translate_229 : decode cX7_translate 229 = .ok (.aload_n 0, 1) := by decide +kernel
theorem V.dX7_translate_230 : decode cX7_translate 230 = .ok (.iconst 0, 1) := by decide +kernel
theorem V.dX7_translate_231 : decode cX7_translate 231 = .ok (.invokevirtual 128, 3) := by decide +kernel
theorem V.dX7_translate_234 : decode cX7_translate 234 = .ok (.invokevirtual 78, 3) := by decide +kernel
theorem V.dX7_translate_237 : decode cX7_translate 237 = .ok (.pop, 1) := by decide +kernel
theorem V.dX7_translate_238 : decode cX7_translate 238 = .ok (.aload_n 0, 1) := by decide +kernel
theorem V.dX7_translate_239 : decode cX7_translate 239 = .ok (.iconst 0, 1) := by decide +kernel
theorem V.dX7_translate_240 : decode cX7_translate 240 = .ok (.putfield 113, 3) := by decide +kernel
theorem V.dX7_translate_243 : decode cX7_translate 243 = .ok (.goto 216, 3) := by decide +kernel
theorem V.dX7_translate_246 : decode cX7_translate 246 = .ok (.aload_n 0, 1) := by decide +kernel
theorem V.dX7_translate_247 : decode cX7_translate 247 = .ok (.iconst 0, 1) := by decide +kernel
theorem V.dX7_translate_248 : decode cX7_translate 248 = .ok (.invokevirtual 125, 3) := by decide +kernel
theorem V.dX7_translate_251 : decode cX7_translate 251 = .ok (.aload_n 0, 1) := by decide +kernel
theorem V.dX7_translate_252 : decode cX7_translate 252 = .ok (.iconst 1, 1) := by decide +kernel
theorem V.dX7_translate_253 : decode cX7_translate 253 = .ok (.invokevirtual 128, 3) := by decide +kernel
theorem V.dX7_translate_256 : decode cX7_translate 256 = .ok (.istore 7, 2) := by decide +kernel
theorem V.dX7_translate_258 : decode cX7_translate 258 = .ok (.aload_n 0, 1) := by decide +kernel
theorem V.dX7_translate_259 : decode cX7_translate 259 = .ok (.sipush 301, 3) := by decide +kernel
theorem V.dX7_translate_262 : decode cX7_translate 262 = .ok (.iconst 0, 1) := by decide +kernel
theorem V.dX7_translate_263 : decode cX7_translate 263 = .ok (.iconst 0, 1) := by decide +kernel
theorem V.dX7_translate_264 : decode cX7_translate 264 = .ok (.iconst 0, 1) := by decide +kernel
theorem V.dX7_translate_265 : decode cX7_translate 265 = .ok (.iconst 0, 1) := by decide +kernel
theorem V.dX7_translate_266 : decode cX7_translate 266 = .ok (.iload 7, 2) := by decide +kernel
theorem V.dX7_translate_268 : decode cX7_translate 268 = .ok (.invokevirtual 78, 3) := by decide +kernel
theorem V.dX7_translate_271 : decode cX7_translate 271 = .ok (.pop, 1) := by decide +kernel
theorem V.dX7_translate_272 : decode cX7_translate 272 = .ok (.aload_n 0, 1) := by decide +kernel
theorem V.dX7_translate_273 : decode cX7_translate 273 = .ok (.iload_n 3, 1) := by decide +kernel
theorem V.dX7_translate_274 : decode cX7_translate 274 = .ok (.iload 4, 2) := by decide +kernel
theorem V.dX7_translate_276 : decode cX7_translate 276 = .ok (.iload 5, 2) := by decide +kernel
theorem V.dX7_translate_278 : decode cX7_translate 278 = .ok (.iadd, 1) := by decide +kernel
theorem V.dX7_translate_279 : decode cX7_translate 279 = .ok (.invokevirtual 137, 3) := by decide +kernel
theorem V.dX7_translate_282 : decode cX7_translate 282 = .ok (.aload_n 0, 1) := by decide +kernel
theorem V.dX7_translate_283 : decode cX7_translate 283 = .ok (.iload 4, 2) := by decide +kernel
theorem V.dX7_translate_285 : decode cX7_translate 285 = .ok (.iload 5, 2) := by decide +kernel
theorem V.dX7_translate_287 : decode cX7_translate 287 = .ok (.invokevirtual 140, 3) := by decide +kernel
theorem V.dX7_translate_290 : decode cX7_translate 290 = .ok (.aload_n 0, 1) := by decide +kernel
theorem V.dX7_translate_291 : decode cX7_translate 291 = .ok (.sipush 302, 3) := by decide +kernel
theorem V.dX7_translate_294 : decode cX7_translate 294 = .ok (.iload_n 3, 1) := by decide +kernel
theorem V.dX7_translate_295 : decode cX7_translate 295 = .ok (.iconst 0, 1) := by decide +kernel
theorem V.dX7_translate_296 : decode cX7_translate 296 = .ok (.iconst 0, 1) := by decide +kernel
theorem V.dX7_translate_297 : decode cX7_translate 297 = .ok (.iconst 0, 1) := by decide +kernel
theorem V.dX7_translate_298 : decode cX7_translate 298 = .ok (.iconst 0, 1) := by decide +kernel
theorem V.dX7_translate_299 : decode cX7_translate 299 = .ok (.invokevirtual 78, 3) := by decide +kernel
theorem V.dX7_translate_302 : decode cX7_translate 302 = .ok (.pop, 1) := by decide +kernel
theorem V.dX7_translate_303 : decode cX7_translate 303 = .ok (.aload_n 0, 1) := by decide +kernel
theorem V.dX7_translate_304 : decode cX7_translate 304 = .ok (.iconst 0, 1) := by decide +kernel
theorem V.dX7_translate_305 : decode cX7_translate 305 = .ok (.putfield 113, 3) := by decide +kernel
theorem V.dX7_translate_308 : decode cX7_translate 308 = .ok (.goto 151, 3) := by decide +kernel
theorem V.dX7_translate_311 : decode cX7_translate 311 = .ok (.aload_n 0, 1) := by decide +kernel
theorem V.dX7_translate_312 : decode cX7_translate 312 = .ok (.iload_n 3, 1) := by decide +kernel
theorem V.dX7_translate_313 : decode cX7_translate 313 = .ok (.iload 4, 2) := by decide +kernel
theorem V.dX7_translate_315 : decode cX7_translate 315 = .ok (.iload 5, 2) := by decide +kernel
theorem V.dX7_translate_317 : decode cX7_translate 317 = .ok (.invokevirtual 143, 3) := by decide +kernel
theorem V.dX7_translate_320 : decode cX7_translate 320 = .ok (.goto 139, 3) := by decide +kernel
theorem V.dX7_translate_323 : decode cX7_translate 323 = .ok (.aload_n 0, 1) := by decide +kernel
theorem V.dX7_translate_324 : decode cX7_translate 324 = .ok (.iload_n 1, 1) := by decide +kernel
theorem V.dX7_translate_325 : decode cX7_translate 325 = .ok (.iload_n 3, 1) := by decide +kernel
theorem V.dX7_translate_326 : decode cX7_translate 326 = .ok (.invokevirtual 147, 3) := by decide +kernel
theorem V.dX7_translate_329 : decode cX7_translate 329 = .ok (.goto 130, 3) := by decide +kernel
theorem V.dX7_translate_332 : decode cX7_translate 332 = .ok (.goto 127, 3) := by decide +kernel
theorem V.dX7_translate_335 : decode cX7_translate 335 = .ok (.aload_n 0, 1) := by decide +kernel
theorem V.dX7_translate_336 : decode cX7_translate 336 = .ok (.aload_n 0, 1) := by decide +kernel
theorem V.dX7_translate_337 : decode cX7_translate 337 = .ok (.getfield 72, 3) := by decide +kernel
theorem V.dX7_translate_340 : decode cX7_translate 340 = .ok (.iload_n 3, 1) := by decide +kernel
theorem V.dX7_translate_341 : decode cX7_translate 341 = .ok (.isub, 1) := by decide +kernel
theorem V.dX7_translate_342 : decode cX7_translate 342 = .ok (.invokevirtual 125, 3) := by decide +kernel
theorem V.dX7_translate_345 : decode cX7_translate 345 = .ok (.aload_n 0, 1) := by decide +kernel
theorem V.dX7_translate_346 : decode cX7_translate 346 = .ok (.sipush 305, 3) := by decide +kernel
theorem V.dX7_translate_349 : decode cX7_translate 349 = .ok (.aload_n 0, 1) := by decide +kernel
theorem V.dX7_translate_350 : decode cX7_translate 350 = .ok (.aload_n 0, 1) := by decide +kernel
theorem V.dX7_translate_351 : decode cX7_translate 351 = .ok (.getfield 72, 3) := by decide +kernel
theorem V.dX7_translate_354 : decode cX7_translate 354 = .ok (.iload_n 3, 1) := by decide +kernel
theorem V.dX7_translate_355 : decode cX7_translate 355 = .ok (.isub, 1) := by decide +kernel
theorem V.dX7_translate_356 : decode cX7_translate 356 = .ok (.invokevirtual 69, 3) := by decide +kernel
theorem V.dX7_translate_359 : decode cX7_translate 359 = .ok (.iload_n 3, 1) := by decide +kernel
theorem V.dX7_translate_360 : decode cX7_translate 360 = .ok (.iconst 0, 1) := by decide +kernel
theorem V.dX7_translate_361 : decode cX7_translate 361 = .ok (.iconst 0, 1) := by decide +kernel
theorem V.dX7_translate_362 : decode cX7_translate 362 = .ok (.aload_n 0, 1) := by decide +kernel
theorem V.dX7_translate_363 : decode cX7_translate 363 = .ok (.iload_n 2, 1) := by decide +kernel
theorem V.dX7_translate_364 : decode cX7_translate 364 = .ok (.bipush 15, 2) := by decide +kernel
theorem V.dX7_translate_366 : decode cX7_translate 366 = .ok (.if_icmp .ne 7, 3) := by decide +kernel
theorem V.dX7_translate_369 : decode cX7_translate 369 = .ok (.iconst 1, 1) := by decide +kernel
theorem V.dX7_translate_370 : decode cX7_translate 370 = .ok (.goto 4, 3) := by decide +kernel
theorem V.dX7_translate_373 : decode cX7_translate 373 = .ok (.iconst 0, 1) := by decide +kernel
theorem V.dX7_translate_374 : decode cX7_translate 374 = .ok (.invokevirtual 128, 3) := by decide +kernel
theorem V.dX7_translate_377 : decode cX7_translate 377 = .ok (.invokevirtual 78, 3) := by decide +kernel
theorem V.dX7_translate_380 : decode cX7_translate 380 = .ok (.pop, 1) := by decide +kernel
theorem V.dX7_translate_381 : decode cX7_translate 381 = .ok (.aload_n 0, 1) := by decide +kernel
theorem V.dX7_translate_382 : decode cX7_translate 382 = .ok (.iconst 0, 1) := by decide +kernel
theorem V.dX7_translate_383 : decode cX7_translate 383 = .ok (.putfield 113, 3) := by decide +kernel
theorem V.dX7_translate_386 : decode cX7_translate 386 = .ok (.goto 73, 3) := by decide +kernel
theorem V.dX7_translate_389 : decode cX7_translate 389 = .ok (.aload_n 0, 1) := by decide +kernel
theorem V.dX7_translate_390 : decode cX7_translate 390 = .ok (.aload_n 0, 1) := by decide +kernel
theorem V.dX7_translate_391 : decode cX7_translate 391 = .ok (.getfield 72, 3) := by decide +kernel
theorem V.dX7_translate_394 : decode cX7_translate 394 = .ok (.iload 5, 2) := by decide +kernel
theorem V.dX7_translate_396 : decode cX7_translate 396 = .ok (.bipush 8, 2) := by decide +kernel
theorem V.dX7_translate_398 : decode cX7_translate 398 = .ok (.ishr, 1) := by decide +kernel
theorem V.dX7_translate_399 : decode cX7_translate 399 = .ok (.isub, 1) := by decide +kernel
theorem V.dX7_translate_400 : decode cX7_translate 400 = .ok (.invokevirtual 125, 3) := by decide +kernel
theorem V.dX7_translate_403 : decode cX7_translate 403 = .ok (.aload_n 0, 1) := by decide +kernel
theorem V.dX7_translate_404 : decode cX7_translate 404 = .ok (.iload_n 2, 1) := by decide +kernel
theorem V.dX7_translate_405 : decode cX7_translate 405 = .ok (.iload_n 3, 1) := by decide +kernel
theorem V.dX7_translate_406 : decode cX7_translate 406 = .ok (.iconst 0, 1) := by decide +kernel
theorem V.dX7_translate_407 : decode cX7_translate 407 = .ok (.iconst 0, 1) := by decide +kernel
theorem V.dX7_translate_408 : decode cX7_translate 408 = .ok (.iload 5, 2) := by decide +kernel
theorem V.dX7_translate_410 : decode cX7_translate 410 = .ok (.invokevirtual 150, 3) := by decide +kernel
theorem V.dX7_translate_413 : decode cX7_translate 413 = .ok (.goto 46, 3) := by decide +kernel
theorem V.dX7_translate_416 : decode cX7_translate 416 = .ok (.aload_n 0, 1) := by decide +kernel
theorem V.dX7_translate_417 : decode cX7_translate 417 = .ok (.invokevirtual 134, 3) := by decide +kernel
theorem V.dX7_translate_420 : decode cX7_translate 420 = .ok (.istore 8, 2) := by decide +kernel
theorem V.dX7_translate_422 : decode cX7_translate 422 = .ok (.aload_n 0, 1) := by decide +kernel
theorem V.dX7_translate_423 : decode cX7_translate 423 = .ok (.aload_n 0, 1) := by decide +kernel
theorem V.dX7_translate_424 : decode cX7_translate 424 = .ok (.getfield 72, 3) := by decide +kernel
theorem V.dX7_translate_427 : decode cX7_translate 427 = .ok (.iload 5, 2) := by decide +kernel
theorem V.dX7_translate_429 : decode cX7_translate 429 = .ok (.bipush 8, 2) := by decide +kernel
theorem V.dX7_translate_431 : decode cX7_translate 431 = .ok (.ishr, 1) := by decide +kernel
theorem V.dX7_translate_432 : decode cX7_translate 432 = .ok (.isub, 1) := by decide +kernel
theorem V.dX7_translate_433 : decode cX7_translate 433 = .ok (.invokevirtual 125, 3) := by decide +kernel
theorem V.dX7_translate_436 : decode cX7_translate 436 = .ok (.aload_n 0, 1) := by decide +kernel
theorem V.dX7_translate_437 : decode cX7_translate 437 = .ok (.iload_n 2, 1) := by decide +kernel
theorem V.dX7_translate_438 : decode cX7_translate 438 = .ok (.iload_n 3, 1) := by decide +kernel
theorem V.dX7_translate_439 : decode cX7_translate 439 = .ok (.iload 4, 2) := by decide +kernel
theorem V.dX7_translate_441 : decode cX7_translate 441 = .ok (.iload 8, 2) := by decide +kernel
theorem V.dX7_translate_443 : decode cX7_translate 443 = .ok (.iload 5, 2) := by decide +kernel
theorem V.dX7_translate_445 : decode cX7_translate 445 = .ok (.invokevirtual 150, 3) := by decide +kernel
theorem V.dX7_translate_448 : decode cX7_translate 448 = .ok (.goto 11, 3) := by decide +kernel
theorem V.dX7_translate_451 : decode cX7_translate 451 = .ok (.aload_n 0, 1) := by decide +kernel
theorem V.dX7_translate_452 : decode cX7_translate 452 = .ok (.iload_n 2, 1) := by decide +kernel
theorem V.dX7_translate_453 : decode cX7_translate 453 = .ok (.iload_n 3, 1) := by decide +kernel
theorem V.dX7_translate_454 : decode cX7_translate 454 = .ok (.iload 4, 2) := by decide +kernel
theorem V.dX7_translate_456 : decode cX7_translate 456 = .ok (.invokevirtual 154, 3) := by decide +kernel
theorem V.dX7_translate_459 : decode cX7_translate 459 = .ok (.return_, 1) := by decide +kernel
theorem V.mdX7_96 : MD RX7 96 yX6_opAt cX6_opAt 2 (some .int) 1 := ⟨Or.inl q2408, q366, q2411, by decide, by decide, by decide +kernel⟩
theorem V.mdX7_143 : MD RX7 143 yX7_branchIf cX7_branchIf 6 none 3 := ⟨Or.inl q2468, q367, q2471, by decide, by decide, by decide +kernel⟩
theorem V.mdX7_147 : MD RX7 147 yX7_table cX7_table 8 none 2 := ⟨Or.inl q2472, q367, q2475, by decide, by decide, by decide +kernel⟩
theorem V.mdX7_150 : MD RX7 150 yX7_call cX7_call 7 none 5 := ⟨Or.inl q2476, q367, q2479, by decide, by decide, by decide +kernel⟩
theorem V.mdX7_154 : MD RX7 154 yX7_plain cX7_plain 10 none 3 := ⟨Or.inl q2480, q367, q2483, by decide, by decide, by decide +kernel⟩
/-! ModuleEngine$Registers.translate(I)V -/
def V.Reg_translate_p374  (σ : HS) (x0 : Nat) (s0 : Int32) (s1 : Nat) (s2 : Int32) (s3 : Int32) (s4 : Int32) (s5 : Int32) (s6 : Int32) (s7 : Nat) : Option (Unit × HS) :=
  ck (tg σ s1 = 8) <| cl (Reg_steps σ s1 s0) fun r2 σ1 =>
  ck (tg σ1 s7 = 8) <| cl (Reg_emit σ1 s7 s6 s5 s4 s3 s2 r2) fun r4 σ3 =>
  ck (tg σ3 x0 = 8) <| bn (sI σ3 x0 16 (0 : Int32)) fun σ5 =>
  some ((), σ5)
theorem V.gX7_translate_p374 {X : CX}  (σ : HS) (x0 : Nat) (s0 : Int32) (s1 : Nat) (s2 : Int32) (s3 : Int32) (s4 : Int32) (s5 : Int32) (s6 : Int32) (s7 : Nat) : G X RX7 "translate" cX7_translate 9 none 9 246 enV 374 [(0, av x0)] [iv s0, av s1, iv s2, iv s3, iv s4, iv s5, iv s6, av s7] σ (Reg_translate_p374 σ x0 s0 s1 s2 s3 s4 s5 s6 s7) := by
  unfold Reg_translate_p374
  refine g_callV (fc := fun sς => Reg_steps sς s1 s0) (ci := 7) (as := [iv s0]) rfl rfl rfl q2442 qs149 mdX7_128 (ctX7_steps s1 s0) rfl (Nat.le_of_ble_eq_true rfl) (Nat.le_of_ble_eq_true rfl) (Nat.le_of_ble_eq_true rfl) pu_I dX7_translate_374 (fun r2 σ1 => ?_)
  refine g_callV (fc := fun sς => Reg_emit sς s7 s6 s5 s4 s3 s2 r2) (ci := 7) (as := [iv s6, iv s5, iv s4, iv s3, iv s2, iv r2]) rfl rfl rfl q2438 qs148 mdX7_78 (ctX7_emit s7 s6 s5 s4 s3 s2 r2) rfl (Nat.le_of_ble_eq_true rfl) (Nat.le_of_ble_eq_true rfl) (Nat.le_of_ble_eq_true rfl) pu_I dX7_translate_377 (fun r4 σ3 => ?_)
  refine g_pop dX7_translate_380 rfl ?_
  refine g_aload_n 0 0 dX7_translate_381 rfl rfl ?_
  refine g_iconst (v := 0) dX7_translate_382 (by decide) ?_
  refine g_putZ fpX7_113 ⟨by decide +kernel, by decide +kernel⟩ dX7_translate_383 (fun σ5 => ?_)
  refine g_goto 459 dX7_translate_386 (by decide) ?_
  exact g_return rfl dX7_translate_459
def V.Reg_translate_p335  (σ : HS) (x0 : Nat) (x2 : Int32) (x3 : Int32) : Option (Unit × HS) :=
  ck (tg σ x0 = 8) <|
  ck (tg σ x0 = 8) <| cl (Reg_settle σ x0 ((gI σ x0 12) - x3)) fun _ σ1 =>
  ck (tg σ1 x0 = 8) <|
  ck (tg σ1 x0 = 8) <| cl (Reg_slot σ1 x0 ((gI σ1 x0 12) - x3)) fun r3 σ2 =>
  if x2 = (15 : Int32) then (
    Reg_translate_p374 σ2 x0 (1 : Int32) x0 (0 : Int32) (0 : Int32) x3 r3 (305 : Int32) x0)
  else (
    Reg_translate_p374 σ2 x0 (0 : Int32) x0 (0 : Int32) (0 : Int32) x3 r3 (305 : Int32) x0)
theorem V.gX7_translate_p335 {X : CX}  (σ : HS) (x0 : Nat) (x2 : Int32) (x3 : Int32) : G X RX7 "translate" cX7_translate 9 none 9 246 enV 335 [(0, av x0), (2, iv x2), (3, iv x3)] [] σ (Reg_translate_p335 σ x0 x2 x3) := by
  unfold Reg_translate_p335
  refine g_aload_n 0 0 dX7_translate_335 rfl rfl ?_
  refine g_aload_n 0 0 dX7_translate_336 rfl rfl ?_
  refine g_getI fdX7_72 dX7_translate_337 ?_
  refine g_iload_n 3 2 dX7_translate_340 rfl rfl ?_
  refine g_isub dX7_translate_341 ?_
  refine g_callV (fc := fun sς => Reg_settle sς x0 ((gI σ x0 12) - x3)) (ci := 7) (as := [iv ((gI σ x0 12) - x3)]) rfl rfl rfl q2430 qs146 mdX7_125 (ctX7_settle x0 ((gI σ x0 12) - x3)) rfl (Nat.le_of_ble_eq_true rfl) (Nat.le_of_ble_eq_true rfl) (Nat.le_of_ble_eq_true rfl) pu_V dX7_translate_342 (fun _ σ1 => ?_)
  refine g_aload_n 0 0 dX7_translate_345 rfl rfl ?_
  refine g_sipush (v := 305) dX7_translate_346 (by decide) ?_
  refine g_aload_n 0 0 dX7_translate_349 rfl rfl ?_
  refine g_aload_n 0 0 dX7_translate_350 rfl rfl ?_
  refine g_getI fdX7_72 dX7_translate_351 ?_
  refine g_iload_n 3 2 dX7_translate_354 rfl rfl ?_
  refine g_isub dX7_translate_355 ?_
  refine g_callV (fc := fun sς => Reg_slot sς x0 ((gI σ1 x0 12) - x3)) (ci := 7) (as := [iv ((gI σ1 x0 12) - x3)]) rfl rfl rfl q2434 qs147 mdX7_69 (ctX7_slot x0 ((gI σ1 x0 12) - x3)) rfl (Nat.le_of_ble_eq_true rfl) (Nat.le_of_ble_eq_true rfl) (Nat.le_of_ble_eq_true rfl) pu_I dX7_translate_356 (fun r3 σ2 => ?_)
  refine g_iload_n 3 2 dX7_translate_359 rfl rfl ?_
  refine g_iconst (v := 0) dX7_translate_360 (by decide) ?_
  refine g_iconst (v := 0) dX7_translate_361 (by decide) ?_
  refine g_aload_n 0 0 dX7_translate_362 rfl rfl ?_
  refine g_iload_n 2 1 dX7_translate_363 rfl rfl ?_
  refine g_bipush (v := 15) dX7_translate_364 (by decide) ?_
  refine g_icmp_ne 373 dX7_translate_366 (by decide) ?_ ?_
  · refine g_iconst (v := 0) dX7_translate_373 (by decide) ?_
    refine G.sub [0] rfl ?_
    exact gX7_translate_p374 _ _ _ _ _ _ _ _ _ _
  · refine g_iconst (v := 1) dX7_translate_369 (by decide) ?_
    refine g_goto 374 dX7_translate_370 (by decide) ?_
    refine G.sub [0] rfl ?_
    exact gX7_translate_p374 _ _ _ _ _ _ _ _ _ _
def V.Reg_translate_p451  (σ : HS) (x0 : Nat) (x2 : Int32) (x3 : Int32) (x4 : Int32) : Option (Unit × HS) :=
  ck (tg σ x0 = 8) <| cl (Reg_plain σ x0 x2 x3 x4) fun _ σ1 =>
  some ((), σ1)
theorem V.gX7_translate_p451 {X : CX}  (σ : HS) (x0 : Nat) (x2 : Int32) (x3 : Int32) (x4 : Int32) : G X RX7 "translate" cX7_translate 9 none 9 246 enV 451 [(0, av x0), (2, iv x2), (3, iv x3), (4, iv x4)] [] σ (Reg_translate_p451 σ x0 x2 x3 x4) := by
  unfold Reg_translate_p451
  refine g_aload_n 0 0 dX7_translate_451 rfl rfl ?_
  refine g_iload_n 2 1 dX7_translate_452 rfl rfl ?_
  refine g_iload_n 3 2 dX7_translate_453 rfl rfl ?_
  refine g_iload 3 dX7_translate_454 rfl ?_
  refine g_callV (fc := fun sς => Reg_plain sς x0 x2 x3 x4) (ci := 7) (as := [iv x2, iv x3, iv x4]) rfl rfl rfl q2482 qs159 mdX7_154 (ctX7_plain x0 x2 x3 x4) rfl (Nat.le_of_ble_eq_true rfl) (Nat.le_of_ble_eq_true rfl) (Nat.le_of_ble_eq_true rfl) pu_V dX7_translate_456 (fun _ σ1 => ?_)
  exact g_return rfl dX7_translate_459
def V.Reg_translate (σ : HS) (x0 : Nat) (x1 : Int32) : Option (Unit × HS) :=
  ck (tg σ x0 = 8) <|
  ck (tg σ (gR σ x0 0) = 7) <| cl (Flt_opAt σ (gR σ x0 0) x1) fun r2 σ1 =>
  ck (tg σ1 x0 = 8) <|
  ck (tg σ1 (gR σ1 x0 0) = 7) <| cl (Flt_fieldAt σ1 (gR σ1 x0 0) x1 (1 : Int32)) fun r4 σ3 =>
  ck (tg σ3 x0 = 8) <|
  ck (tg σ3 (gR σ3 x0 0) = 7) <| cl (Flt_fieldAt σ3 (gR σ3 x0 0) x1 (2 : Int32)) fun r6 σ5 =>
  ck (tg σ5 x0 = 8) <|
  ck (tg σ5 (gR σ5 x0 0) = 7) <| cl (Flt_fieldAt σ5 (gR σ5 x0 0) x1 (3 : Int32)) fun r8 σ7 =>
  swx r2 [
    (0, (
      ck (tg σ7 x0 = 8) <| cl (Reg_steps σ7 x0 (1 : Int32)) fun r10 σ9 =>
      ck (tg σ9 x0 = 8) <| cl (Reg_emit σ9 x0 (0 : Int32) (0 : Int32) (0 : Int32) (0 : Int32) (0 : Int32) r10) fun r12 σ11 =>
      ck (tg σ11 x0 = 8) <| bn (sI σ11 x0 16 (0 : Int32)) fun σ13 =>
      some ((), σ13))),
    (1, (
      ck (tg σ7 x0 = 8) <|
      ck (tg σ7 x0 = 8) <| bn (sI σ7 x0 14 ((gI σ7 x0 14) + (1 : Int32))) fun σ14 =>
      some ((), σ14))),
    (4, (
      ck (tg σ7 x0 = 8) <| cl (Reg_pop σ7 x0 ) fun r16 σ15 =>
      ck (tg σ15 x0 = 8) <| cl (Reg_settle σ15 x0 (0 : Int32)) fun _ σ17 =>
      ck (tg σ17 x0 = 8) <|
      ck (tg σ17 x0 = 8) <|
      ck (tg σ17 (gR σ17 x0 8) = 100 ∧ inb r4 (ln σ17 (gR σ17 x0 8))) <| bn (sI σ17 (gR σ17 x0 8) (ix r4) (gI σ17 x0 12)) fun σ18 =>
      ck (tg σ18 x0 = 8) <| cl (Reg_steps σ18 x0 (1 : Int32)) fun r20 σ19 =>
      ck (tg σ19 x0 = 8) <| cl (Reg_emit σ19 x0 (303 : Int32) r4 r16 (0 : Int32) (0 : Int32) r20) fun r22 σ21 =>
      some ((), σ21))),
    (5, (
      ck (tg σ7 x0 = 8) <| cl (Reg_settle σ7 x0 (0 : Int32)) fun _ σ23 =>
      ck (tg σ23 x0 = 8) <|
      ck (tg σ23 x0 = 8) <|
      ck (tg σ23 (gR σ23 x0 8) = 100 ∧ inb r4 (ln σ23 (gR σ23 x0 8))) <| bn (sI σ23 (gR σ23 x0 8) (ix r4) (gI σ23 x0 12)) fun σ24 =>
      ck (tg σ24 x0 = 8) <| cl (Reg_steps σ24 x0 (0 : Int32)) fun r26 σ25 =>
      ck (tg σ25 x0 = 8) <| cl (Reg_emit σ25 x0 (302 : Int32) r4 (0 : Int32) (0 : Int32) (0 : Int32) r26) fun r28 σ27 =>
      ck (tg σ27 x0 = 8) <| bn (sI σ27 x0 16 (0 : Int32)) fun σ29 =>
      some ((), σ29))),
    (6, (
      some ((), σ7))),
    (11, (
      Reg_translate_p335 σ7 x0 r2 r4)),
    (12, (
      ck (tg σ7 x0 = 8) <| cl (Reg_settle σ7 x0 (0 : Int32)) fun _ σ30 =>
      ck (tg σ30 x0 = 8) <| cl (Reg_steps σ30 x0 (1 : Int32)) fun r32 σ31 =>
      ck (tg σ31 x0 = 8) <| cl (Reg_emit σ31 x0 (301 : Int32) (0 : Int32) (0 : Int32) (0 : Int32) (0 : Int32) r32) fun r34 σ33 =>
      ck (tg σ33 x0 = 8) <| cl (Reg_reach σ33 x0 r4 (r6 + r8)) fun _ σ35 =>
      ck (tg σ35 x0 = 8) <| cl (Reg_lower σ35 x0 r6 r8) fun _ σ36 =>
      ck (tg σ36 x0 = 8) <| cl (Reg_emit σ36 x0 (302 : Int32) r4 (0 : Int32) (0 : Int32) (0 : Int32) (0 : Int32)) fun r38 σ37 =>
      ck (tg σ37 x0 = 8) <| bn (sI σ37 x0 16 (0 : Int32)) fun σ39 =>
      some ((), σ39))),
    (13, (
      ck (tg σ7 x0 = 8) <| cl (Reg_branchIf σ7 x0 r4 r6 r8) fun _ σ40 =>
      some ((), σ40))),
    (14, (
      ck (tg σ7 x0 = 8) <| cl (Reg_table σ7 x0 x1 r4) fun _ σ41 =>
      some ((), σ41))),
    (15, (
      Reg_translate_p335 σ7 x0 r2 r4)),
    (16, (
      ck (tg σ7 x0 = 8) <|
      ck (tg σ7 x0 = 8) <| cl (Reg_settle σ7 x0 ((gI σ7 x0 12) - (r8 >>> ((8 : Int32) &&& 31)))) fun _ σ42 =>
      ck (tg σ42 x0 = 8) <| cl (Reg_call σ42 x0 r2 r4 (0 : Int32) (0 : Int32) r8) fun _ σ43 =>
      some ((), σ43))),
    (17, (
      ck (tg σ7 x0 = 8) <| cl (Reg_pop σ7 x0 ) fun r45 σ44 =>
      ck (tg σ44 x0 = 8) <|
      ck (tg σ44 x0 = 8) <| cl (Reg_settle σ44 x0 ((gI σ44 x0 12) - (r8 >>> ((8 : Int32) &&& 31)))) fun _ σ46 =>
      ck (tg σ46 x0 = 8) <| cl (Reg_call σ46 x0 r2 r4 r6 r45 r8) fun _ σ47 =>
      some ((), σ47)))
    ] (
    Reg_translate_p451 σ7 x0 r2 r4 r6)
theorem V.ctX7_translate (x0 : Nat) (x1 : Int32) : Ct yX7_translate  cX7_translate 9 none 9 246 eV [av x0, iv x1] (fun σ => Reg_translate σ x0 x1) := by
  refine Ct.of (own := RX7) (nm := "translate") (desc := "(I)V") rfl (by decide) (Nat.le_of_ble_eq_true rfl) (by decide) (fun X σ => ?_)
  show G X RX7 "translate" cX7_translate 9 none 9 246 enV 0 [(0, av x0), (1, iv x1)] [] σ (Reg_translate σ x0 x1)
  unfold Reg_translate
  refine g_aload_n 0 0 dX7_translate_0 rfl rfl ?_
  refine g_getR fdX7_36 dX7_translate_1 ?_
  refine g_iload_n 1 1 dX7_translate_4 rfl rfl ?_
  refine g_callV (fc := fun sς => Flt_opAt sς (gR σ x0 0) x1) (ci := 6) (as := [iv x1]) rfl rfl rfl q2409 q2410 mdX7_96 (ctX6_opAt (gR σ x0 0) x1) rfl (Nat.le_of_ble_eq_true rfl) (Nat.le_of_ble_eq_true rfl) (Nat.le_of_ble_eq_true rfl) pu_I dX7_translate_5 (fun r2 σ1 => ?_)
  refine g_istore_n 2 dX7_translate_8 rfl (by decide) rfl ?_
  refine g_aload_n 0 1 dX7_translate_9 rfl rfl ?_
  refine g_getR fdX7_36 dX7_translate_10 ?_
  refine g_iload_n 1 2 dX7_translate_13 rfl rfl ?_
  refine g_iconst (v := 1) dX7_translate_14 (by decide) ?_
  refine g_callV (fc := fun sς => Flt_fieldAt sς (gR σ1 x0 0) x1 (1 : Int32)) (ci := 6) (as := [iv x1, iv (1 : Int32)]) rfl rfl rfl q2420 q2421 mdX7_106 (ctX6_fieldAt (gR σ1 x0 0) x1 (1 : Int32)) rfl (Nat.le_of_ble_eq_true rfl) (Nat.le_of_ble_eq_true rfl) (Nat.le_of_ble_eq_true rfl) pu_I dX7_translate_15 (fun r4 σ3 => ?_)
  refine g_istore_n 3 dX7_translate_18 rfl (by decide) rfl ?_
  refine g_aload_n 0 2 dX7_translate_19 rfl rfl ?_
  refine g_getR fdX7_36 dX7_translate_20 ?_
  refine g_iload_n 1 3 dX7_translate_23 rfl rfl ?_
  refine g_iconst (v := 2) dX7_translate_24 (by decide) ?_
  refine g_callV (fc := fun sς => Flt_fieldAt sς (gR σ3 x0 0) x1 (2 : Int32)) (ci := 6) (as := [iv x1, iv (2 : Int32)]) rfl rfl rfl q2420 q2421 mdX7_106 (ctX6_fieldAt (gR σ3 x0 0) x1 (2 : Int32)) rfl (Nat.le_of_ble_eq_true rfl) (Nat.le_of_ble_eq_true rfl) (Nat.le_of_ble_eq_true rfl) pu_I dX7_translate_25 (fun r6 σ5 => ?_)
  refine g_istore dX7_translate_28 (by decide) rfl ?_
  refine g_aload_n 0 3 dX7_translate_30 rfl rfl ?_
  refine g_getR fdX7_36 dX7_translate_31 ?_
  refine g_iload_n 1 4 dX7_translate_34 rfl rfl ?_
  refine g_iconst (v := 3) dX7_translate_35 (by decide) ?_
  refine g_callV (fc := fun sς => Flt_fieldAt sς (gR σ5 x0 0) x1 (3 : Int32)) (ci := 6) (as := [iv x1, iv (3 : Int32)]) rfl rfl rfl q2420 q2421 mdX7_106 (ctX6_fieldAt (gR σ5 x0 0) x1 (3 : Int32)) rfl (Nat.le_of_ble_eq_true rfl) (Nat.le_of_ble_eq_true rfl) (Nat.le_of_ble_eq_true rfl) pu_I dX7_translate_36 (fun r8 σ7 => ?_)
  refine g_istore dX7_translate_39 (by decide) rfl ?_
  refine g_iload_n 2 3 dX7_translate_41 rfl rfl ?_
  refine g_tsw dX7_translate_42 (by decide +kernel) ?_
  refine g_case ex0 (t := 128) (by decide +kernel) ?_ (fun hx => ?_)
  · refine g_aload_n 0 4 dX7_translate_128 rfl rfl ?_
    refine g_iconst (v := 0) dX7_translate_129 (by decide) ?_
    refine g_iconst (v := 0) dX7_translate_130 (by decide) ?_
    refine g_iconst (v := 0) dX7_translate_131 (by decide) ?_
    refine g_iconst (v := 0) dX7_translate_132 (by decide) ?_
    refine g_iconst (v := 0) dX7_translate_133 (by decide) ?_
    refine g_aload_n 0 4 dX7_translate_134 rfl rfl ?_
    refine g_iconst (v := 1) dX7_translate_135 (by decide) ?_
    refine g_callV (fc := fun sς => Reg_steps sς x0 (1 : Int32)) (ci := 7) (as := [iv (1 : Int32)]) rfl rfl rfl q2442 qs149 mdX7_128 (ctX7_steps x0 (1 : Int32)) rfl (Nat.le_of_ble_eq_true rfl) (Nat.le_of_ble_eq_true rfl) (Nat.le_of_ble_eq_true rfl) pu_I dX7_translate_136 (fun r10 σ9 => ?_)
    refine g_callV (fc := fun sς => Reg_emit sς x0 (0 : Int32) (0 : Int32) (0 : Int32) (0 : Int32) (0 : Int32) r10) (ci := 7) (as := [iv (0 : Int32), iv (0 : Int32), iv (0 : Int32), iv (0 : Int32), iv (0 : Int32), iv r10]) rfl rfl rfl q2438 qs148 mdX7_78 (ctX7_emit x0 (0 : Int32) (0 : Int32) (0 : Int32) (0 : Int32) (0 : Int32) r10) rfl (Nat.le_of_ble_eq_true rfl) (Nat.le_of_ble_eq_true rfl) (Nat.le_of_ble_eq_true rfl) pu_I dX7_translate_139 (fun r12 σ11 => ?_)
    refine g_pop dX7_translate_142 rfl ?_
    refine g_aload_n 0 4 dX7_translate_143 rfl rfl ?_
    refine g_iconst (v := 0) dX7_translate_144 (by decide) ?_
    refine g_putZ fpX7_113 ⟨by decide +kernel, by decide +kernel⟩ dX7_translate_145 (fun σ13 => ?_)
    refine g_goto 459 dX7_translate_148 (by decide) ?_
    exact g_return rfl dX7_translate_459
  refine g_case hx (t := 151) (by decide +kernel) ?_ (fun hx => ?_)
  · refine g_aload_n 0 4 dX7_translate_151 rfl rfl ?_
    refine g_dup dX7_translate_152 rfl ?_
    refine g_getI fdX7_60 dX7_translate_153 ?_
    refine g_iconst (v := 1) dX7_translate_156 (by decide) ?_
    refine g_iadd dX7_translate_157 ?_
    refine g_putI fpX7_60 dX7_translate_158 (fun σ14 => ?_)
    refine g_goto 459 dX7_translate_161 (by decide) ?_
    exact g_return rfl dX7_translate_459
  refine g_case hx (t := 164) (by decide +kernel) ?_ (fun hx => ?_)
  · refine g_aload_n 0 4 dX7_translate_164 rfl rfl ?_
    refine g_callV (fc := fun sς => Reg_pop sς x0 ) (ci := 7) (as := []) rfl rfl rfl q2454 qs152 mdX7_134 (ctX7_pop x0 ) rfl (Nat.le_of_ble_eq_true rfl) (Nat.le_of_ble_eq_true rfl) (Nat.le_of_ble_eq_true rfl) pu_I dX7_translate_165 (fun r16 σ15 => ?_)
    refine g_istore dX7_translate_168 (by decide) rfl ?_
    refine g_aload_n 0 5 dX7_translate_170 rfl rfl ?_
    refine g_iconst (v := 0) dX7_translate_171 (by decide) ?_
    refine g_callV (fc := fun sς => Reg_settle sς x0 (0 : Int32)) (ci := 7) (as := [iv (0 : Int32)]) rfl rfl rfl q2430 qs146 mdX7_125 (ctX7_settle x0 (0 : Int32)) rfl (Nat.le_of_ble_eq_true rfl) (Nat.le_of_ble_eq_true rfl) (Nat.le_of_ble_eq_true rfl) pu_V dX7_translate_172 (fun _ σ17 => ?_)
    refine g_aload_n 0 5 dX7_translate_175 rfl rfl ?_
    refine g_getR fdX7_24 dX7_translate_176 ?_
    refine g_iload_n 3 3 dX7_translate_179 rfl rfl ?_
    refine g_aload_n 0 5 dX7_translate_180 rfl rfl ?_
    refine g_getI fdX7_72 dX7_translate_181 ?_
    refine g_iastore dX7_translate_184 (fun σ18 => ?_)
    refine g_aload_n 0 5 dX7_translate_185 rfl rfl ?_
    refine g_sipush (v := 303) dX7_translate_186 (by decide) ?_
    refine g_iload_n 3 3 dX7_translate_189 rfl rfl ?_
    refine g_iload 0 dX7_translate_190 rfl ?_
    refine g_iconst (v := 0) dX7_translate_192 (by decide) ?_
    refine g_iconst (v := 0) dX7_translate_193 (by decide) ?_
    refine g_aload_n 0 5 dX7_translate_194 rfl rfl ?_
    refine g_iconst (v := 1) dX7_translate_195 (by decide) ?_
    refine g_callV (fc := fun sς => Reg_steps sς x0 (1 : Int32)) (ci := 7) (as := [iv (1 : Int32)]) rfl rfl rfl q2442 qs149 mdX7_128 (ctX7_steps x0 (1 : Int32)) rfl (Nat.le_of_ble_eq_true rfl) (Nat.le_of_ble_eq_true rfl) (Nat.le_of_ble_eq_true rfl) pu_I dX7_translate_196 (fun r20 σ19 => ?_)
    refine g_callV (fc := fun sς => Reg_emit sς x0 (303 : Int32) r4 r16 (0 : Int32) (0 : Int32) r20) (ci := 7) (as := [iv (303 : Int32), iv r4, iv r16, iv (0 : Int32), iv (0 : Int32), iv r20]) rfl rfl rfl q2438 qs148 mdX7_78 (ctX7_emit x0 (303 : Int32) r4 r16 (0 : Int32) (0 : Int32) r20) rfl (Nat.le_of_ble_eq_true rfl) (Nat.le_of_ble_eq_true rfl) (Nat.le_of_ble_eq_true rfl) pu_I dX7_translate_199 (fun r22 σ21 => ?_)
    refine g_pop dX7_translate_202 rfl ?_
    refine g_goto 459 dX7_translate_203 (by decide) ?_
    exact g_return rfl dX7_translate_459
  refine g_case hx (t := 206) (by decide +kernel) ?_ (fun hx => ?_)
  · refine g_aload_n 0 4 dX7_translate_206 rfl rfl ?_
    refine g_iconst (v := 0) dX7_translate_207 (by decide) ?_
    refine g_callV (fc := fun sς => Reg_settle sς x0 (0 : Int32)) (ci := 7) (as := [iv (0 : Int32)]) rfl rfl rfl q2430 qs146 mdX7_125 (ctX7_settle x0 (0 : Int32)) rfl (Nat.le_of_ble_eq_true rfl) (Nat.le_of_ble_eq_true rfl) (Nat.le_of_ble_eq_true rfl) pu_V dX7_translate_208 (fun _ σ23 => ?_)
    refine g_aload_n 0 4 dX7_translate_211 rfl rfl ?_
    refine g_getR fdX7_24 dX7_translate_212 ?_
    refine g_iload_n 3 2 dX7_translate_215 rfl rfl ?_
    refine g_aload_n 0 4 dX7_translate_216 rfl rfl ?_
    refine g_getI fdX7_72 dX7_translate_217 ?_
    refine g_iastore dX7_translate_220 (fun σ24 => ?_)
    refine g_aload_n 0 4 dX7_translate_221 rfl rfl ?_
    refine g_sipush (v := 302) dX7_translate_222 (by decide) ?_
    refine g_iload_n 3 2 dX7_translate_225 rfl rfl ?_
    refine g_iconst (v := 0) dX7_translate_226 (by decide) ?_
    refine g_iconst (v := 0) dX7_translate_227 (by decide) ?_
    refine g_iconst (v := 0) dX7_translate_228 (by decide) ?_
    refine g_aload_n 0 4 dX7_translate_229 rfl rfl ?_
    refine g_iconst (v := 0) dX7_translate_230 (by decide) ?_
    refine g_callV (fc := fun sς => Reg_steps sς x0 (0 : Int32)) (ci := 7) (as := [iv (0 : Int32)]) rfl rfl rfl q2442 qs149 mdX7_128 (ctX7_steps x0 (0 : Int32)) rfl (Nat.le_of_ble_eq_true rfl) (Nat.le_of_ble_eq_true rfl) (Nat.le_of_ble_eq_true rfl) pu_I dX7_translate_231 (fun r26 σ25 => ?_)
    refine g_callV (fc := fun sς => Reg_emit sς x0 (302 : Int32) r4 (0 : Int32) (0 : Int32) (0 : Int32) r26) (ci := 7) (as := [iv (302 : Int32), iv r4, iv (0 : Int32), iv (0 : Int32), iv (0 : Int32), iv r26]) rfl rfl rfl q2438 qs148 mdX7_78 (ctX7_emit x0 (302 : Int32) r4 (0 : Int32) (0 : Int32) (0 : Int32) r26) rfl (Nat.le_of_ble_eq_true rfl) (Nat.le_of_ble_eq_true rfl) (Nat.le_of_ble_eq_true rfl) pu_I dX7_translate_234 (fun r28 σ27 => ?_)
    refine g_pop dX7_translate_237 rfl ?_
    refine g_aload_n 0 4 dX7_translate_238 rfl rfl ?_
    refine g_iconst (v := 0) dX7_translate_239 (by decide) ?_
    refine g_putZ fpX7_113 ⟨by decide +kernel, by decide +kernel⟩ dX7_translate_240 (fun σ29 => ?_)
    refine g_goto 459 dX7_translate_243 (by decide) ?_
    exact g_return rfl dX7_translate_459
  refine g_case hx (t := 332) (by decide +kernel) ?_ (fun hx => ?_)
  · refine g_goto 459 dX7_translate_332 (by decide) ?_
    exact g_return rfl dX7_translate_459
  refine g_case hx (t := 335) (by decide +kernel) ?_ (fun hx => ?_)
  · refine G.sub [4, 3, 2] rfl ?_
    exact gX7_translate_p335 _ _ _ _
  refine g_case hx (t := 246) (by decide +kernel) ?_ (fun hx => ?_)
  · refine g_aload_n 0 4 dX7_translate_246 rfl rfl ?_
    refine g_iconst (v := 0) dX7_translate_247 (by decide) ?_
    refine g_callV (fc := fun sς => Reg_settle sς x0 (0 : Int32)) (ci := 7) (as := [iv (0 : Int32)]) rfl rfl rfl q2430 qs146 mdX7_125 (ctX7_settle x0 (0 : Int32)) rfl (Nat.le_of_ble_eq_true rfl) (Nat.le_of_ble_eq_true rfl) (Nat.le_of_ble_eq_true rfl) pu_V dX7_translate_248 (fun _ σ30 => ?_)
    refine g_aload_n 0 4 dX7_translate_251 rfl rfl ?_
    refine g_iconst (v := 1) dX7_translate_252 (by decide) ?_
    refine g_callV (fc := fun sς => Reg_steps sς x0 (1 : Int32)) (ci := 7) (as := [iv (1 : Int32)]) rfl rfl rfl q2442 qs149 mdX7_128 (ctX7_steps x0 (1 : Int32)) rfl (Nat.le_of_ble_eq_true rfl) (Nat.le_of_ble_eq_true rfl) (Nat.le_of_ble_eq_true rfl) pu_I dX7_translate_253 (fun r32 σ31 => ?_)
    refine g_istore dX7_translate_256 (by decide) rfl ?_
    refine g_aload_n 0 5 dX7_translate_258 rfl rfl ?_
    refine g_sipush (v := 301) dX7_translate_259 (by decide) ?_
    refine g_iconst (v := 0) dX7_translate_262 (by decide) ?_
    refine g_iconst (v := 0) dX7_translate_263 (by decide) ?_
    refine g_iconst (v := 0) dX7_translate_264 (by decide) ?_
    refine g_iconst (v := 0) dX7_translate_265 (by decide) ?_
    refine g_iload 0 dX7_translate_266 rfl ?_
    refine g_callV (fc := fun sς => Reg_emit sς x0 (301 : Int32) (0 : Int32) (0 : Int32) (0 : Int32) (0 : Int32) r32) (ci := 7) (as := [iv (301 : Int32), iv (0 : Int32), iv (0 : Int32), iv (0 : Int32), iv (0 : Int32), iv r32]) rfl rfl rfl q2438 qs148 mdX7_78 (ctX7_emit x0 (301 : Int32) (0 : Int32) (0 : Int32) (0 : Int32) (0 : Int32) r32) rfl (Nat.le_of_ble_eq_true rfl) (Nat.le_of_ble_eq_true rfl) (Nat.le_of_ble_eq_true rfl) pu_I dX7_translate_268 (fun r34 σ33 => ?_)
    refine g_pop dX7_translate_271 rfl ?_
    refine g_aload_n 0 5 dX7_translate_272 rfl rfl ?_
    refine g_iload_n 3 3 dX7_translate_273 rfl rfl ?_
    refine g_iload 2 dX7_translate_274 rfl ?_
    refine g_iload 1 dX7_translate_276 rfl ?_
    refine g_iadd dX7_translate_278 ?_
    refine g_callV (fc := fun sς => Reg_reach sς x0 r4 (r6 + r8)) (ci := 7) (as := [iv r4, iv (r6 + r8)]) rfl rfl rfl q2462 qs154 mdX7_137 (ctX7_reach x0 r4 (r6 + r8)) rfl (Nat.le_of_ble_eq_true rfl) (Nat.le_of_ble_eq_true rfl) (Nat.le_of_ble_eq_true rfl) pu_V dX7_translate_279 (fun _ σ35 => ?_)
    refine g_aload_n 0 5 dX7_translate_282 rfl rfl ?_
    refine g_iload 2 dX7_translate_283 rfl ?_
    refine g_iload 1 dX7_translate_285 rfl ?_
    refine g_callV (fc := fun sς => Reg_lower sς x0 r6 r8) (ci := 7) (as := [iv r6, iv r8]) rfl rfl rfl q2466 qs155 mdX7_140 (ctX7_lower x0 r6 r8) rfl (Nat.le_of_ble_eq_true rfl) (Nat.le_of_ble_eq_true rfl) (Nat.le_of_ble_eq_true rfl) pu_V dX7_translate_287 (fun _ σ36 => ?_)
    refine g_aload_n 0 5 dX7_translate_290 rfl rfl ?_
    refine g_sipush (v := 302) dX7_translate_291 (by decide) ?_
    refine g_iload_n 3 3 dX7_translate_294 rfl rfl ?_
    refine g_iconst (v := 0) dX7_translate_295 (by decide) ?_
    refine g_iconst (v := 0) dX7_translate_296 (by decide) ?_
    refine g_iconst (v := 0) dX7_translate_297 (by decide) ?_
    refine g_iconst (v := 0) dX7_translate_298 (by decide) ?_
    refine g_callV (fc := fun sς => Reg_emit sς x0 (302 : Int32) r4 (0 : Int32) (0 : Int32) (0 : Int32) (0 : Int32)) (ci := 7) (as := [iv (302 : Int32), iv r4, iv (0 : Int32), iv (0 : Int32), iv (0 : Int32), iv (0 : Int32)]) rfl rfl rfl q2438 qs148 mdX7_78 (ctX7_emit x0 (302 : Int32) r4 (0 : Int32) (0 : Int32) (0 : Int32) (0 : Int32)) rfl (Nat.le_of_ble_eq_true rfl) (Nat.le_of_ble_eq_true rfl) (Nat.le_of_ble_eq_true rfl) pu_I dX7_translate_299 (fun r38 σ37 => ?_)
    refine g_pop dX7_translate_302 rfl ?_
    refine g_aload_n 0 5 dX7_translate_303 rfl rfl ?_
    refine g_iconst (v := 0) dX7_translate_304 (by decide) ?_
    refine g_putZ fpX7_113 ⟨by decide +kernel, by decide +kernel⟩ dX7_translate_305 (fun σ39 => ?_)
    refine g_goto 459 dX7_translate_308 (by decide) ?_
    exact g_return rfl dX7_translate_459
  refine g_case hx (t := 311) (by decide +kernel) ?_ (fun hx => ?_)
  · refine g_aload_n 0 4 dX7_translate_311 rfl rfl ?_
    refine g_iload_n 3 2 dX7_translate_312 rfl rfl ?_
    refine g_iload 1 dX7_translate_313 rfl ?_
    refine g_iload 0 dX7_translate_315 rfl ?_
    refine g_callV (fc := fun sς => Reg_branchIf sς x0 r4 r6 r8) (ci := 7) (as := [iv r4, iv r6, iv r8]) rfl rfl rfl q2470 qs156 mdX7_143 (ctX7_branchIf x0 r4 r6 r8) rfl (Nat.le_of_ble_eq_true rfl) (Nat.le_of_ble_eq_true rfl) (Nat.le_of_ble_eq_true rfl) pu_V dX7_translate_317 (fun _ σ40 => ?_)
    refine g_goto 459 dX7_translate_320 (by decide) ?_
    exact g_return rfl dX7_translate_459
  refine g_case hx (t := 323) (by decide +kernel) ?_ (fun hx => ?_)
  · refine g_aload_n 0 4 dX7_translate_323 rfl rfl ?_
    refine g_iload_n 1 5 dX7_translate_324 rfl rfl ?_
    refine g_iload_n 3 2 dX7_translate_325 rfl rfl ?_
    refine g_callV (fc := fun sς => Reg_table sς x0 x1 r4) (ci := 7) (as := [iv x1, iv r4]) rfl rfl rfl q2474 qs157 mdX7_147 (ctX7_table x0 x1 r4) rfl (Nat.le_of_ble_eq_true rfl) (Nat.le_of_ble_eq_true rfl) (Nat.le_of_ble_eq_true rfl) pu_V dX7_translate_326 (fun _ σ41 => ?_)
    refine g_goto 459 dX7_translate_329 (by decide) ?_
    exact g_return rfl dX7_translate_459
  refine g_case hx (t := 335) (by decide +kernel) ?_ (fun hx => ?_)
  · refine G.sub [4, 3, 2] rfl ?_
    exact gX7_translate_p335 _ _ _ _
  refine g_case hx (t := 389) (by decide +kernel) ?_ (fun hx => ?_)
  · refine g_aload_n 0 4 dX7_translate_389 rfl rfl ?_
    refine g_aload_n 0 4 dX7_translate_390 rfl rfl ?_
    refine g_getI fdX7_72 dX7_translate_391 ?_
    refine g_iload 0 dX7_translate_394 rfl ?_
    refine g_bipush (v := 8) dX7_translate_396 (by decide) ?_
    refine g_ishr dX7_translate_398 ?_
    refine g_isub dX7_translate_399 ?_
    refine g_callV (fc := fun sς => Reg_settle sς x0 ((gI σ7 x0 12) - (r8 >>> ((8 : Int32) &&& 31)))) (ci := 7) (as := [iv ((gI σ7 x0 12) - (r8 >>> ((8 : Int32) &&& 31)))]) rfl rfl rfl q2430 qs146 mdX7_125 (ctX7_settle x0 ((gI σ7 x0 12) - (r8 >>> ((8 : Int32) &&& 31)))) rfl (Nat.le_of_ble_eq_true rfl) (Nat.le_of_ble_eq_true rfl) (Nat.le_of_ble_eq_true rfl) pu_V dX7_translate_400 (fun _ σ42 => ?_)
    refine g_aload_n 0 4 dX7_translate_403 rfl rfl ?_
    refine g_iload_n 2 3 dX7_translate_404 rfl rfl ?_
    refine g_iload_n 3 2 dX7_translate_405 rfl rfl ?_
    refine g_iconst (v := 0) dX7_translate_406 (by decide) ?_
    refine g_iconst (v := 0) dX7_translate_407 (by decide) ?_
    refine g_iload 0 dX7_translate_408 rfl ?_
    refine g_callV (fc := fun sς => Reg_call sς x0 r2 r4 (0 : Int32) (0 : Int32) r8) (ci := 7) (as := [iv r2, iv r4, iv (0 : Int32), iv (0 : Int32), iv r8]) rfl rfl rfl q2478 qs158 mdX7_150 (ctX7_call x0 r2 r4 (0 : Int32) (0 : Int32) r8) rfl (Nat.le_of_ble_eq_true rfl) (Nat.le_of_ble_eq_true rfl) (Nat.le_of_ble_eq_true rfl) pu_V dX7_translate_410 (fun _ σ43 => ?_)
    refine g_goto 459 dX7_translate_413 (by decide) ?_
    exact g_return rfl dX7_translate_459
  refine g_case hx (t := 416) (by decide +kernel) ?_ (fun hx => ?_)
  · refine g_aload_n 0 4 dX7_translate_416 rfl rfl ?_
    refine g_callV (fc := fun sς => Reg_pop sς x0 ) (ci := 7) (as := []) rfl rfl rfl q2454 qs152 mdX7_134 (ctX7_pop x0 ) rfl (Nat.le_of_ble_eq_true rfl) (Nat.le_of_ble_eq_true rfl) (Nat.le_of_ble_eq_true rfl) pu_I dX7_translate_417 (fun r45 σ44 => ?_)
    refine g_istore dX7_translate_420 (by decide) rfl ?_
    refine g_aload_n 0 5 dX7_translate_422 rfl rfl ?_
    refine g_aload_n 0 5 dX7_translate_423 rfl rfl ?_
    refine g_getI fdX7_72 dX7_translate_424 ?_
    refine g_iload 1 dX7_translate_427 rfl ?_
    refine g_bipush (v := 8) dX7_translate_429 (by decide) ?_
    refine g_ishr dX7_translate_431 ?_
    refine g_isub dX7_translate_432 ?_
    refine g_callV (fc := fun sς => Reg_settle sς x0 ((gI σ44 x0 12) - (r8 >>> ((8 : Int32) &&& 31)))) (ci := 7) (as := [iv ((gI σ44 x0 12) - (r8 >>> ((8 : Int32) &&& 31)))]) rfl rfl rfl q2430 qs146 mdX7_125 (ctX7_settle x0 ((gI σ44 x0 12) - (r8 >>> ((8 : Int32) &&& 31)))) rfl (Nat.le_of_ble_eq_true rfl) (Nat.le_of_ble_eq_true rfl) (Nat.le_of_ble_eq_true rfl) pu_V dX7_translate_433 (fun _ σ46 => ?_)
    refine g_aload_n 0 5 dX7_translate_436 rfl rfl ?_
    refine g_iload_n 2 4 dX7_translate_437 rfl rfl ?_
    refine g_iload_n 3 3 dX7_translate_438 rfl rfl ?_
    refine g_iload 2 dX7_translate_439 rfl ?_
    refine g_iload 0 dX7_translate_441 rfl ?_
    refine g_iload 1 dX7_translate_443 rfl ?_
    refine g_callV (fc := fun sς => Reg_call sς x0 r2 r4 r6 r45 r8) (ci := 7) (as := [iv r2, iv r4, iv r6, iv r45, iv r8]) rfl rfl rfl q2478 qs158 mdX7_150 (ctX7_call x0 r2 r4 r6 r45 r8) rfl (Nat.le_of_ble_eq_true rfl) (Nat.le_of_ble_eq_true rfl) (Nat.le_of_ble_eq_true rfl) pu_V dX7_translate_445 (fun _ σ47 => ?_)
    refine g_goto 459 dX7_translate_448 (by decide) ?_
    exact g_return rfl dX7_translate_459
  refine g_dflt (t := 451) (tswT_d (by decide +kernel) (by decide +kernel) hx) ?_
  refine G.sub [4, 3, 2, 1] rfl ?_
  exact gX7_translate_p451 _ _ _ _ _
