set_option maxRecDepth 100000
theorem V.dX17_put_0 : decode cX17_put 0 = .ok (.aload_n 0, 1) := by decide +kernel
theorem V.dX17_put_1 : decode cX17_put 1 = .ok (.getfield 685, 3) := by decide +kernel
theorem V.dX17_put_4 : decode cX17_put 4 = .ok (.sipush 1000, 3) := by decide +kernel
theorem V.dX17_put_7 : decode cX17_put 7 = .ok (.if_icmp .ne 13, 3) := by decide +kernel
theorem V.dX17_put_10 : decode cX17_put 10 = .ok (.aload_n 0, 1) := by decide +kernel
theorem V.dX17_put_11 : decode cX17_put 11 = .ok (.bipush 40, 2) := by decide +kernel
theorem V.dX17_put_13 : decode cX17_put 13 = .ok (.aload_n 0, 1) := by decide +kernel
theorem V.dX17_put_14 : decode cX17_put 14 = .ok (.getfield 686, 3) := by decide +kernel
theorem V.dX17_put_17 : decode cX17_put 17 = .ok (.invokevirtual 257, 3) := by decide +kernel
theorem V.dX17_put_20 : decode cX17_put 20 = .ok (.aload_n 0, 1) := by decide +kernel
theorem V.dX17_put_21 : decode cX17_put 21 = .ok (.getfield 39, 3) := by decide +kernel
theorem V.dX17_put_24 : decode cX17_put 24 = .ok (.aload_n 0, 1) := by decide +kernel
theorem V.dX17_put_25 : decode cX17_put 25 = .ok (.getfield 685, 3) := by decide +kernel
theorem V.dX17_put_28 : decode cX17_put 28 = .ok (.iload_n 1, 1) := by decide +kernel
theorem V.dX17_put_29 : decode cX17_put 29 = .ok (.iastore, 1) := by decide +kernel
theorem V.dX17_put_30 : decode cX17_put 30 = .ok (.aload_n 0, 1) := by decide +kernel
theorem V.dX17_put_31 : decode cX17_put 31 = .ok (.dup, 1) := by decide +kernel
theorem V.dX17_put_32 : decode cX17_put 32 = .ok (.getfield 685, 3) := by decide +kernel
theorem V.dX17_put_35 : decode cX17_put 35 = .ok (.iconst 1, 1) := by decide +kernel
theorem V.dX17_put_36 : decode cX17_put 36 = .ok (.iadd, 1) := by decide +kernel
theorem V.dX17_put_37 : decode cX17_put 37 = .ok (.putfield 685, 3) := by decide +kernel
theorem V.dX17_put_40 : decode cX17_put 40 = .ok (.return_, 1) := by decide +kernel
/-! ModuleEngineModel.put(I)V -/
def V.Mdl_put_p20  (σ : HS) (x0 : Nat) (x1 : Int32) : Option ((Nat ⊕ Unit) × HS) :=
  ck (tg σ x0 = 18) <|
  ck (tg σ x0 = 18) <|
  ck (tg σ (gR σ x0 22) = 100 ∧ inb (gI σ x0 23) (ln σ (gR σ x0 22))) <| bn (sI σ (gR σ x0 22) (ix (gI σ x0 23)) x1) fun σ1 =>
  ck (tg σ1 x0 = 18) <|
  ck (tg σ1 x0 = 18) <| bn (sI σ1 x0 23 ((gI σ1 x0 23) + (1 : Int32))) fun σ2 =>
  some (.inr (), σ2)
theorem V.gX17_put_p20 {X : CX}  (σ : HS) (x0 : Nat) (x1 : Int32) : G X RX17 "put" cX17_put 2 none 1 22 (enX enV (cxz X)) 20 [(0, av x0), (1, iv x1)] [] σ (Mdl_put_p20 σ x0 x1) := by
  unfold Mdl_put_p20
  refine g_aload_n 0 0 dX17_put_20 rfl rfl ?_
  refine g_getR fdX17_39 dX17_put_21 ?_
  refine g_aload_n 0 0 dX17_put_24 rfl rfl ?_
  refine g_getI fdX17_685 dX17_put_25 ?_
  refine g_iload_n 1 1 dX17_put_28 rfl rfl ?_
  refine g_iastore dX17_put_29 (fun σ1 => ?_)
  refine g_aload_n 0 0 dX17_put_30 rfl rfl ?_
  refine g_dup dX17_put_31 rfl ?_
  refine g_getI fdX17_685 dX17_put_32 ?_
  refine g_iconst (v := 1) dX17_put_35 (by decide) ?_
  refine g_iadd dX17_put_36 ?_
  refine g_putI fpX17_685 dX17_put_37 (fun σ2 => ?_)
  exact g_return rfl dX17_put_40
def V.Mdl_put (σ : HS) (x0 : Nat) (x1 : Int32) : Option ((Nat ⊕ Unit) × HS) :=
  ck (tg σ x0 = 18) <|
  if (gI σ x0 23) = (1000 : Int32) then (
    ck (tg σ x0 = 18) <|
    ck (tg σ x0 = 18) <| clT (Mdl_stops σ x0 (40 : Int32) (gI σ x0 31)) fun _ σ1 =>
    Mdl_put_p20 σ1 x0 x1)
  else (
    Mdl_put_p20 σ x0 x1)
theorem V.ctX17_put (x0 : Nat) (x1 : Int32) : Ct yX17_put  cX17_put 2 none 1 22 eXV [av x0, iv x1] (fun σ => Mdl_put σ x0 x1) := by
  refine Ct.of (own := RX17) (nm := "put") (desc := "(I)V") rfl (by decide) (Nat.le_of_ble_eq_true rfl) (by decide) (fun X σ => ?_)
  show G X RX17 "put" cX17_put 2 none 1 22 (enX enV (cxz X)) 0 [(0, av x0), (1, iv x1)] [] σ (Mdl_put σ x0 x1)
  unfold Mdl_put
  refine g_aload_n 0 0 dX17_put_0 rfl rfl ?_
  refine g_getI fdX17_685 dX17_put_1 ?_
  refine g_sipush (v := 1000) dX17_put_4 (by decide) ?_
  refine g_icmp_ne 20 dX17_put_7 (by decide) ?_ ?_
  · exact gX17_put_p20 _ _ _
  · refine g_aload_n 0 0 dX17_put_10 rfl rfl ?_
    refine g_bipush (v := 40) dX17_put_11 (by decide) ?_
    refine g_aload_n 0 0 dX17_put_13 rfl rfl ?_
    refine g_getI fdX17_686 dX17_put_14 ?_
    refine g_callVT (fc := fun sς => Mdl_stops sς x0 (40 : Int32) (gI σ x0 31)) (ci := 17) (as := [iv (40 : Int32), iv (gI σ x0 31)]) rfl rfl rfl q3606 qs214 q3604 mdX17_257 (ctX17_stops x0 (40 : Int32) (gI σ x0 31)) rfl (Nat.le_of_ble_eq_true rfl) (Nat.le_of_ble_eq_true rfl) (Nat.le_of_ble_eq_true rfl) pu_V (by decide) dX17_put_17 (fun _ σ1 => ?_)
    exact gX17_put_p20 _ _ _
theorem V.dX17_operates_0 : decode cX17_operates 0 = .ok (.aload_n 0, 1) := by decide +kernel
theorem V.dX17_operates_1 : decode cX17_operates 1 = .ok (.bipush 127, 2) := by decide +kernel
theorem V.dX17_operates_3 : decode cX17_operates 3 = .ok (.iload_n 1, 1) := by decide +kernel
theorem V.dX17_operates_4 : decode cX17_operates 4 = .ok (.invokestatic 753, 3) := by decide +kernel
theorem V.dX17_operates_7 : decode cX17_operates 7 = .ok (.isub, 1) := by decide +kernel
theorem V.dX17_operates_8 : decode cX17_operates 8 = .ok (.iload_n 1, 1) := by decide +kernel
theorem V.dX17_operates_9 : decode cX17_operates 9 = .ok (.invokestatic 756, 3) := by decide +kernel
theorem V.dX17_operates_12 : decode cX17_operates 12 = .ok (.ifCond .eq 7, 3) := by decide +kernel
theorem V.dX17_operates_15 : decode cX17_operates 15 = .ok (.iconst 2, 1) := by decide +kernel
theorem V.dX17_operates_16 : decode cX17_operates 16 = .ok (.goto 4, 3) := by decide +kernel
theorem V.dX17_operates_19 : decode cX17_operates 19 = .ok (.iconst 1, 1) := by decide +kernel
theorem V.dX17_operates_20 : decode cX17_operates 20 = .ok (.invokevirtual 750, 3) := by decide +kernel
theorem V.dX17_operates_23 : decode cX17_operates 23 = .ok (.aload_n 0, 1) := by decide +kernel
theorem V.dX17_operates_24 : decode cX17_operates 24 = .ok (.bipush 127, 2) := by decide +kernel
theorem V.dX17_operates_26 : decode cX17_operates 26 = .ok (.iload_n 1, 1) := by decide +kernel
theorem V.dX17_operates_27 : decode cX17_operates 27 = .ok (.invokestatic 759, 3) := by decide +kernel
theorem V.dX17_operates_30 : decode cX17_operates 30 = .ok (.isub, 1) := by decide +kernel
theorem V.dX17_operates_31 : decode cX17_operates 31 = .ok (.invokevirtual 695, 3) := by decide +kernel
theorem V.dX17_operates_34 : decode cX17_operates 34 = .ok (.return_, 1) := by decide +kernel
theorem V.mdX17_756 : MD RX17 756 yX17_hasTwo cX17_hasTwo 1 (some .boolean) 1 := ⟨Or.inl q3891, q377, q3893, by decide, by decide, by decide +kernel⟩
theorem V.mdX17_750 : MD RX17 750 yX17_takes cX17_takes 5 none 2 := ⟨Or.inl q3894, q377, q3897, by decide, by decide, by decide +kernel⟩
theorem V.mdX17_759 : MD RX17 759 yX17_resultOf cX17_resultOf 1 (some .int) 1 := ⟨Or.inl q3902, q377, q3904, by decide, by decide, by decide +kernel⟩
theorem V.mdX17_695 : MD RX17 695 yX17_put cX17_put 2 none 1 := ⟨Or.inl q3905, q377, q3908, by decide, by decide, by decide +kernel⟩
/-! ModuleEngineModel.operates(I)V -/
def V.Mdl_operates_p20  (σ : HS) (x0 : Nat) (x1 : Int32) (s0 : Int32) (s1 : Int32) (s2 : Nat) : Option ((Nat ⊕ Unit) × HS) :=
  ck (tg σ s2 = 18) <| clT (Mdl_takes σ s2 s1 s0) fun _ σ1 =>
  cl (Mdl_resultOf σ1 x1) fun r3 σ2 =>
  ck (tg σ2 x0 = 18) <| clT (Mdl_put σ2 x0 ((127 : Int32) - r3)) fun _ σ4 =>
  some (.inr (), σ4)
theorem V.gX17_operates_p20 {X : CX}  (σ : HS) (x0 : Nat) (x1 : Int32) (s0 : Int32) (s1 : Int32) (s2 : Nat) : G X RX17 "operates" cX17_operates 2 none 3 69 (enX enV (cxz X)) 20 [(0, av x0), (1, iv x1)] [iv s0, iv s1, av s2] σ (Mdl_operates_p20 σ x0 x1 s0 s1 s2) := by
  unfold Mdl_operates_p20
  refine g_callVT (fc := fun sς => Mdl_takes sς s2 s1 s0) (ci := 17) (as := [iv s1, iv s0]) rfl rfl rfl q3896 qs265 q3894 mdX17_750 (ctX17_takes s2 s1 s0) rfl (Nat.le_of_ble_eq_true rfl) (Nat.le_of_ble_eq_true rfl) (Nat.le_of_ble_eq_true rfl) pu_V (by decide) dX17_operates_20 (fun _ σ1 => ?_)
  refine g_aload_n 0 0 dX17_operates_23 rfl rfl ?_
  refine g_bipush (v := 127) dX17_operates_24 (by decide) ?_
  refine g_iload_n 1 1 dX17_operates_26 rfl rfl ?_
  refine g_callS (fc := fun sς => Mdl_resultOf sς x1) (as := [iv x1]) q3903 mdX17_759 (ctX17_resultOf x1) rfl (Nat.le_of_ble_eq_true rfl) (Nat.le_of_ble_eq_true rfl) (Nat.le_of_ble_eq_true rfl) pu_I dX17_operates_27 (fun r3 σ2 => ?_)
  refine g_isub dX17_operates_30 ?_
  refine g_callVT (fc := fun sς => Mdl_put sς x0 ((127 : Int32) - r3)) (ci := 17) (as := [iv ((127 : Int32) - r3)]) rfl rfl rfl q3907 qs267 q3905 mdX17_695 (ctX17_put x0 ((127 : Int32) - r3)) rfl (Nat.le_of_ble_eq_true rfl) (Nat.le_of_ble_eq_true rfl) (Nat.le_of_ble_eq_true rfl) pu_V (by decide) dX17_operates_31 (fun _ σ4 => ?_)
  exact g_return rfl dX17_operates_34
def V.Mdl_operates (σ : HS) (x0 : Nat) (x1 : Int32) : Option ((Nat ⊕ Unit) × HS) :=
  cl (Mdl_operandOf σ x1) fun r2 σ1 =>
  cl (Mdl_hasTwo σ1 x1) fun r4 σ3 =>
  if r4 = 0 then (
    Mdl_operates_p20 σ3 x0 x1 (1 : Int32) ((127 : Int32) - r2) x0)
  else (
    Mdl_operates_p20 σ3 x0 x1 (2 : Int32) ((127 : Int32) - r2) x0)
theorem V.ctX17_operates (x0 : Nat) (x1 : Int32) : Ct yX17_operates  cX17_operates 2 none 3 69 eXV [av x0, iv x1] (fun σ => Mdl_operates σ x0 x1) := by
  refine Ct.of (own := RX17) (nm := "operates") (desc := "(I)V") rfl (by decide) (Nat.le_of_ble_eq_true rfl) (by decide) (fun X σ => ?_)
  show G X RX17 "operates" cX17_operates 2 none 3 69 (enX enV (cxz X)) 0 [(0, av x0), (1, iv x1)] [] σ (Mdl_operates σ x0 x1)
  unfold Mdl_operates
  refine g_aload_n 0 0 dX17_operates_0 rfl rfl ?_
  refine g_bipush (v := 127) dX17_operates_1 (by decide) ?_
  refine g_iload_n 1 1 dX17_operates_3 rfl rfl ?_
  refine g_callS (fc := fun sς => Mdl_operandOf sς x1) (as := [iv x1]) q3889 mdX17_753 (ctX17_operandOf x1) rfl (Nat.le_of_ble_eq_true rfl) (Nat.le_of_ble_eq_true rfl) (Nat.le_of_ble_eq_true rfl) pu_I dX17_operates_4 (fun r2 σ1 => ?_)
  refine g_isub dX17_operates_7 ?_
  refine g_iload_n 1 1 dX17_operates_8 rfl rfl ?_
  refine g_callS (fc := fun sς => Mdl_hasTwo sς x1) (as := [iv x1]) q3892 mdX17_756 (ctX17_hasTwo x1) rfl (Nat.le_of_ble_eq_true rfl) (Nat.le_of_ble_eq_true rfl) (Nat.le_of_ble_eq_true rfl) pu_I dX17_operates_9 (fun r4 σ3 => ?_)
  refine g_if_eq 19 dX17_operates_12 (by decide) ?_ ?_
  · refine g_iconst (v := 1) dX17_operates_19 (by decide) ?_
    exact gX17_operates_p20 _ _ _ _ _ _
  · refine g_iconst (v := 2) dX17_operates_15 (by decide) ?_
    refine g_goto 20 dX17_operates_16 (by decide) ?_
    exact gX17_operates_p20 _ _ _ _ _ _
theorem V.dX17_dies_0 : decode cX17_dies 0 = .ok (.aload_n 0, 1) := by decide +kernel
theorem V.dX17_dies_1 : decode cX17_dies 1 = .ok (.aload_n 0, 1) := by decide +kernel
theorem V.dX17_dies_2 : decode cX17_dies 2 = .ok (.getfield 49, 3) := by decide +kernel
theorem V.dX17_dies_5 : decode cX17_dies 5 = .ok (.aload_n 0, 1) := by decide +kernel
theorem V.dX17_dies_6 : decode cX17_dies 6 = .ok (.getfield 682, 3) := by decide +kernel
theorem V.dX17_dies_9 : decode cX17_dies 9 = .ok (.iconst 1, 1) := by decide +kernel
theorem V.dX17_dies_10 : decode cX17_dies 10 = .ok (.isub, 1) := by decide +kernel
theorem V.dX17_dies_11 : decode cX17_dies 11 = .ok (.iaload, 1) := by decide +kernel
theorem V.dX17_dies_12 : decode cX17_dies 12 = .ok (.putfield 685, 3) := by decide +kernel
theorem V.dX17_dies_15 : decode cX17_dies 15 = .ok (.aload_n 0, 1) := by decide +kernel
theorem V.dX17_dies_16 : decode cX17_dies 16 = .ok (.getfield 52, 3) := by decide +kernel
theorem V.dX17_dies_19 : decode cX17_dies 19 = .ok (.aload_n 0, 1) := by decide +kernel
theorem V.dX17_dies_20 : decode cX17_dies 20 = .ok (.getfield 682, 3) := by decide +kernel
theorem V.dX17_dies_23 : decode cX17_dies 23 = .ok (.iconst 1, 1) := by decide +kernel
theorem V.dX17_dies_24 : decode cX17_dies 24 = .ok (.isub, 1) := by decide +kernel
theorem V.dX17_dies_25 : decode cX17_dies 25 = .ok (.iconst 1, 1) := by decide +kernel
theorem V.dX17_dies_26 : decode cX17_dies 26 = .ok (.bastore, 1) := by decide +kernel
theorem V.dX17_dies_27 : decode cX17_dies 27 = .ok (.return_, 1) := by decide +kernel
/-! ModuleEngineModel.dies()V -/
def V.Mdl_dies (σ : HS) (x0 : Nat) : Option (Unit × HS) :=
  ck (tg σ x0 = 18) <|
  ck (tg σ x0 = 18) <|
  ck (tg σ (gR σ x0 27) = 100 ∧ inb ((gI σ x0 24) - (1 : Int32)) (ln σ (gR σ x0 27))) <|
  ck (tg σ x0 = 18) <| bn (sI σ x0 23 (gI σ (gR σ x0 27) (ix ((gI σ x0 24) - (1 : Int32))))) fun σ1 =>
  ck (tg σ1 x0 = 18) <|
  ck (tg σ1 x0 = 18) <|
  ck (tg σ1 (gR σ1 x0 28) = 103 ∧ inb ((gI σ1 x0 24) - (1 : Int32)) (ln σ1 (gR σ1 x0 28)) ∧ zb (1 : Int32)) <| bn (sI σ1 (gR σ1 x0 28) (ix ((gI σ1 x0 24) - (1 : Int32))) (1 : Int32)) fun σ2 =>
  some ((), σ2)
theorem V.ctX17_dies (x0 : Nat) : Ct yX17_dies  cX17_dies 1 none 0 0 eV [av x0] (fun σ => Mdl_dies σ x0) := by
  refine Ct.of (own := RX17) (nm := "dies") (desc := "()V") rfl (by decide) (Nat.le_of_ble_eq_true rfl) (by decide) (fun X σ => ?_)
  show G X RX17 "dies" cX17_dies 1 none 0 0 enV 0 [(0, av x0)] [] σ (Mdl_dies σ x0)
  unfold Mdl_dies
  refine g_aload_n 0 0 dX17_dies_0 rfl rfl ?_
  refine g_aload_n 0 0 dX17_dies_1 rfl rfl ?_
  refine g_getR fdX17_49 dX17_dies_2 ?_
  refine g_aload_n 0 0 dX17_dies_5 rfl rfl ?_
  refine g_getI fdX17_682 dX17_dies_6 ?_
  refine g_iconst (v := 1) dX17_dies_9 (by decide) ?_
  refine g_isub dX17_dies_10 ?_
  refine g_iaload dX17_dies_11 ?_
  refine g_putI fpX17_685 dX17_dies_12 (fun σ1 => ?_)
  refine g_aload_n 0 0 dX17_dies_15 rfl rfl ?_
  refine g_getR fdX17_52 dX17_dies_16 ?_
  refine g_aload_n 0 0 dX17_dies_19 rfl rfl ?_
  refine g_getI fdX17_682 dX17_dies_20 ?_
  refine g_iconst (v := 1) dX17_dies_23 (by decide) ?_
  refine g_isub dX17_dies_24 ?_
  refine g_iconst (v := 1) dX17_dies_25 (by decide) ?_
  refine g_zastore dX17_dies_26 (fun σ2 => ?_)
  exact g_return rfl dX17_dies_27
theorem V.dX17_parametersOf_0 : decode cX17_parametersOf 0 = .ok (.lload_n 1, 1) := by decide +kernel
theorem V.dX17_parametersOf_1 : decode cX17_parametersOf 1 = .ok (.lconst 0, 1) := by decide +kernel
theorem V.dX17_parametersOf_2 : decode cX17_parametersOf 2 = .ok (.lcmp, 1) := by decide +kernel
theorem V.dX17_parametersOf_3 : decode cX17_parametersOf 3 = .ok (.ifCond .ge 7, 3) := by decide +kernel
theorem V.dX17_parametersOf_6 : decode cX17_parametersOf 6 = .ok (.iconst 0, 1) := by decide +kernel
theorem V.dX17_parametersOf_7 : decode cX17_parametersOf 7 = .ok (.goto 13, 3) := by decide +kernel
theorem V.dX17_parametersOf_10 : decode cX17_parametersOf 10 = .ok (.aload_n 0, 1) := by decide +kernel
theorem V.dX17_parametersOf_11 : decode cX17_parametersOf 11 = .ok (.getfield 221, 3) := by decide +kernel
theorem V.dX17_parametersOf_14 : decode cX17_parametersOf 14 = .ok (.getfield 387, 3) := by decide +kernel
theorem V.dX17_parametersOf_17 : decode cX17_parametersOf 17 = .ok (.lload_n 1, 1) := by decide +kernel
theorem V.dX17_parametersOf_18 : decode cX17_parametersOf 18 = .ok (.l2i, 1) := by decide +kernel
theorem V.dX17_parametersOf_19 : decode cX17_parametersOf 19 = .ok (.iaload, 1) := by decide +kernel
theorem V.dX17_parametersOf_20 : decode cX17_parametersOf 20 = .ok (.ireturn, 1) := by decide +kernel
/-! ModuleEngineModel.parametersOf(J)I -/
def V.Mdl_parametersOf (σ : HS) (x0 : Nat) (x1 : Int64) : Option (Int32 × HS) :=
  if (0 : Int64) ≤ x1 then (
    ck (tg σ x0 = 18) <|
    ck (tg σ (gR σ x0 10) = 21) <|
    ck (tg σ (gR σ (gR σ x0 10) 5) = 100 ∧ inb x1.toInt32 (ln σ (gR σ (gR σ x0 10) 5))) <|
    some (gI σ (gR σ (gR σ x0 10) 5) (ix x1.toInt32), σ))
  else (
    some ((0 : Int32), σ))
theorem V.ctX17_parametersOf (x0 : Nat) (x1 : Int64) : Ct yX17_parametersOf  cX17_parametersOf 3 (some .int) 0 0 eI [av x0, jv x1] (fun σ => Mdl_parametersOf σ x0 x1) := by
  refine Ct.of (own := RX17) (nm := "parametersOf") (desc := "(J)I") rfl (by decide) (Nat.le_of_ble_eq_true rfl) (by decide) (fun X σ => ?_)
  show G X RX17 "parametersOf" cX17_parametersOf 3 (some .int) 0 0 enI 0 [(0, av x0), (1, jv x1)] [] σ (Mdl_parametersOf σ x0 x1)
  unfold Mdl_parametersOf
  refine g_lload_n 1 1 dX17_parametersOf_0 rfl rfl ?_
  refine g_lconst (v := 0) dX17_parametersOf_1 (by decide) ?_
  refine g_lcmp_ge 10 dX17_parametersOf_2 dX17_parametersOf_3 (by decide) ?_ ?_
  · refine g_aload_n 0 0 dX17_parametersOf_10 rfl rfl ?_
    refine g_getR fdX17_221 dX17_parametersOf_11 ?_
    refine g_getR fdX17_387 dX17_parametersOf_14 ?_
    refine g_lload_n 1 1 dX17_parametersOf_17 rfl rfl ?_
    refine g_l2i dX17_parametersOf_18 ?_
    refine g_iaload dX17_parametersOf_19 ?_
    exact g_ireturn rfl dX17_parametersOf_20
  · refine g_iconst (v := 0) dX17_parametersOf_6 (by decide) ?_
    refine g_goto 20 dX17_parametersOf_7 (by decide) ?_
    exact g_ireturn rfl dX17_parametersOf_20
theorem V.dX17_parameterAt_0 : decode cX17_parameterAt 0 = .ok (.aload_n 0, 1) := by decide +kernel
theorem V.dX17_parameterAt_1 : decode cX17_parameterAt 1 = .ok (.getfield 221, 3) := by decide +kernel
theorem V.dX17_parameterAt_4 : decode cX17_parameterAt 4 = .ok (.getfield 374, 3) := by decide +kernel
theorem V.dX17_parameterAt_7 : decode cX17_parameterAt 7 = .ok (.bipush 32, 2) := by decide +kernel
theorem V.dX17_parameterAt_9 : decode cX17_parameterAt 9 = .ok (.lload_n 1, 1) := by decide +kernel
theorem V.dX17_parameterAt_10 : decode cX17_parameterAt 10 = .ok (.l2i, 1) := by decide +kernel
theorem V.dX17_parameterAt_11 : decode cX17_parameterAt 11 = .ok (.imul, 1) := by decide +kernel
theorem V.dX17_parameterAt_12 : decode cX17_parameterAt 12 = .ok (.iload_n 3, 1) := by decide +kernel
theorem V.dX17_parameterAt_13 : decode cX17_parameterAt 13 = .ok (.iadd, 1) := by decide +kernel
theorem V.dX17_parameterAt_14 : decode cX17_parameterAt 14 = .ok (.iaload, 1) := by decide +kernel
theorem V.dX17_parameterAt_15 : decode cX17_parameterAt 15 = .ok (.ireturn, 1) := by decide +kernel
/-! ModuleEngineModel.parameterAt(JI)I -/
def V.Mdl_parameterAt (σ : HS) (x0 : Nat) (x1 : Int64) (x3 : Int32) : Option (Int32 × HS) :=
  ck (tg σ x0 = 18) <|
  ck (tg σ (gR σ x0 10) = 21) <|
  ck (tg σ (gR σ (gR σ x0 10) 7) = 100 ∧ inb (((32 : Int32) * x1.toInt32) + x3) (ln σ (gR σ (gR σ x0 10) 7))) <|
  some (gI σ (gR σ (gR σ x0 10) 7) (ix (((32 : Int32) * x1.toInt32) + x3)), σ)
theorem V.ctX17_parameterAt (x0 : Nat) (x1 : Int64) (x3 : Int32) : Ct yX17_parameterAt  cX17_parameterAt 4 (some .int) 0 0 eI [av x0, jv x1, iv x3] (fun σ => Mdl_parameterAt σ x0 x1 x3) := by
  refine Ct.of (own := RX17) (nm := "parameterAt") (desc := "(JI)I") rfl (by decide) (Nat.le_of_ble_eq_true rfl) (by decide) (fun X σ => ?_)
  show G X RX17 "parameterAt" cX17_parameterAt 4 (some .int) 0 0 enI 0 [(0, av x0), (1, jv x1), (3, iv x3)] [] σ (Mdl_parameterAt σ x0 x1 x3)
  unfold Mdl_parameterAt
  refine g_aload_n 0 0 dX17_parameterAt_0 rfl rfl ?_
  refine g_getR fdX17_221 dX17_parameterAt_1 ?_
  refine g_getR fdX17_374 dX17_parameterAt_4 ?_
  refine g_bipush (v := 32) dX17_parameterAt_7 (by decide) ?_
  refine g_lload_n 1 1 dX17_parameterAt_9 rfl rfl ?_
  refine g_l2i dX17_parameterAt_10 ?_
  refine g_imul dX17_parameterAt_11 ?_
  refine g_iload_n 3 2 dX17_parameterAt_12 rfl rfl ?_
  refine g_iadd dX17_parameterAt_13 ?_
  refine g_iaload dX17_parameterAt_14 ?_
  exact g_ireturn rfl dX17_parameterAt_15
theorem V.dX17_takeParameters_0 : decode cX17_takeParameters 0 = .ok (.aload_n 0, 1) := by decide +kernel
theorem V.dX17_takeParameters_1 : decode cX17_takeParameters 1 = .ok (.lload_n 1, 1) := by decide +kernel
theorem V.dX17_takeParameters_2 : decode cX17_takeParameters 2 = .ok (.invokevirtual 689, 3) := by decide +kernel
theorem V.dX17_takeParameters_5 : decode cX17_takeParameters 5 = .ok (.iconst 1, 1) := by decide +kernel
theorem V.dX17_takeParameters_6 : decode cX17_takeParameters 6 = .ok (.isub, 1) := by decide +kernel
theorem V.dX17_takeParameters_7 : decode cX17_takeParameters 7 = .ok (.istore_n 3, 1) := by decide +kernel
theorem V.dX17_takeParameters_8 : decode cX17_takeParameters 8 = .ok (.iload_n 3, 1) := by decide +kernel
theorem V.dX17_takeParameters_9 : decode cX17_takeParameters 9 = .ok (.ifCond .lt 21, 3) := by decide +kernel
theorem V.dX17_takeParameters_12 : decode cX17_takeParameters 12 = .ok (.aload_n 0, 1) := by decide +kernel
theorem V.dX17_takeParameters_13 : decode cX17_takeParameters 13 = .ok (.aload_n 0, 1) := by decide +kernel
theorem V.dX17_takeParameters_14 : decode cX17_takeParameters 14 = .ok (.lload_n 1, 1) := by decide +kernel
theorem V.dX17_takeParameters_15 : decode cX17_takeParameters 15 = .ok (.iload_n 3, 1) := by decide +kernel
theorem V.dX17_takeParameters_16 : decode cX17_takeParameters 16 = .ok (.invokevirtual 678, 3) := by decide +kernel
theorem V.dX17_takeParameters_19 : decode cX17_takeParameters 19 = .ok (.invokevirtual 692, 3) := by decide +kernel
theorem V.dX17_takeParameters_22 : decode cX17_takeParameters 22 = .ok (.istore 4, 2) := by decide +kernel
theorem V.dX17_takeParameters_24 : decode cX17_takeParameters 24 = .ok (.iinc 3 (-1), 3) := by decide +kernel
theorem V.dX17_takeParameters_27 : decode cX17_takeParameters 27 = .ok (.goto (-19), 3) := by decide +kernel
theorem V.dX17_takeParameters_30 : decode cX17_takeParameters 30 = .ok (.return_, 1) := by decide +kernel
theorem V.mdX17_689 : MD RX17 689 yX17_parametersOf cX17_parametersOf 3 (some .int) 1 := ⟨Or.inl q3921, q377, q3924, by decide, by decide, by decide +kernel⟩
theorem V.mdX17_678 : MD RX17 678 yX17_parameterAt cX17_parameterAt 4 (some .int) 2 := ⟨Or.inl q3925, q377, q3928, by decide, by decide, by decide +kernel⟩
/-! ModuleEngineModel.takeParameters(J)V -/
def V.Mdl_takeParameters_p8  : Nat → HS → Nat → Int64 → Int32 → Option ((Nat ⊕ Unit) × HS)
  | 0, _, _, _, _ => none
  | n + 1, σ, x0, x1, x3 =>
    if x3 < 0 then (
      some (.inr (), σ))
    else (
      ck (tg σ x0 = 18) <| cl (Mdl_parameterAt σ x0 x1 x3) fun r2 σ1 =>
      ck (tg σ1 x0 = 18) <| clT (Mdl_take σ1 x0 r2) fun r4 σ3 =>
      bn (x3 + (-1 : Int32)) fun y5 =>
      Mdl_takeParameters_p8 n σ3 x0 x1 y5)
theorem V.gX17_takeParameters_p8 {X : CX}  : ∀ (n : Nat) (σ : HS) (x0 : Nat) (x1 : Int64) (x3 : Int32), G X RX17 "takeParameters" cX17_takeParameters 5 none 2 45 (enX enV (cxz X)) 8 [(0, av x0), (1, jv x1), (3, iv x3)] [] σ (Mdl_takeParameters_p8 n σ x0 x1 x3)
  | 0, σ, x0, x1, x3 => by rw [Mdl_takeParameters_p8]; exact G.nul
  | n + 1, σ, x0, x1, x3 => by
    rw [Mdl_takeParameters_p8]
    refine g_iload_n 3 2 dX17_takeParameters_8 rfl rfl ?_
    refine g_if_lt 30 dX17_takeParameters_9 (by decide) ?_ ?_
    · exact g_return rfl dX17_takeParameters_30
    · refine g_aload_n 0 0 dX17_takeParameters_12 rfl rfl ?_
      refine g_aload_n 0 0 dX17_takeParameters_13 rfl rfl ?_
      refine g_lload_n 1 1 dX17_takeParameters_14 rfl rfl ?_
      refine g_iload_n 3 2 dX17_takeParameters_15 rfl rfl ?_
      refine g_callV (fc := fun sς => Mdl_parameterAt sς x0 x1 x3) (ci := 17) (as := [jv x1, iv x3]) rfl rfl rfl q3927 qs272 mdX17_678 (ctX17_parameterAt x0 x1 x3) rfl (Nat.le_of_ble_eq_true rfl) (Nat.le_of_ble_eq_true rfl) (Nat.le_of_ble_eq_true rfl) pu_I dX17_takeParameters_16 (fun r2 σ1 => ?_)
      refine g_callVT (fc := fun sς => Mdl_take sς x0 r2) (ci := 17) (as := [iv r2]) rfl rfl rfl q3900 qs266 q3898 mdX17_692 (ctX17_take x0 r2) rfl (Nat.le_of_ble_eq_true rfl) (Nat.le_of_ble_eq_true rfl) (Nat.le_of_ble_eq_true rfl) pu_I (by decide) dX17_takeParameters_19 (fun r4 σ3 => ?_)
      refine g_istore dX17_takeParameters_22 (by decide) rfl ?_
      refine g_iincB (w := (-1)) 3 dX17_takeParameters_24 rfl (by decide) (by decide) (fun _ => rfl) (fun y5 => ?_)
      refine g_goto 8 dX17_takeParameters_27 (by decide) ?_
      refine G.sub [2, 3, 0] rfl ?_
      exact gX17_takeParameters_p8 n _ _ _ _
def V.Mdl_takeParameters (σ : HS) (x0 : Nat) (x1 : Int64) : Option ((Nat ⊕ Unit) × HS) :=
  ck (tg σ x0 = 18) <| cl (Mdl_parametersOf σ x0 x1) fun r2 σ1 =>
  bn (r2 - (1 : Int32)) fun y3 =>
  Mdl_takeParameters_p8 FU σ1 x0 x1 y3
theorem V.ctX17_takeParameters (x0 : Nat) (x1 : Int64) : Ct yX17_takeParameters  cX17_takeParameters 5 none 2 45 eXV [av x0, jv x1] (fun σ => Mdl_takeParameters σ x0 x1) := by
  refine Ct.of (own := RX17) (nm := "takeParameters") (desc := "(J)V") rfl (by decide) (Nat.le_of_ble_eq_true rfl) (by decide) (fun X σ => ?_)
  show G X RX17 "takeParameters" cX17_takeParameters 5 none 2 45 (enX enV (cxz X)) 0 [(0, av x0), (1, jv x1)] [] σ (Mdl_takeParameters σ x0 x1)
  unfold Mdl_takeParameters
  refine g_aload_n 0 0 dX17_takeParameters_0 rfl rfl ?_
  refine g_lload_n 1 1 dX17_takeParameters_1 rfl rfl ?_
  refine g_callV (fc := fun sς => Mdl_parametersOf sς x0 x1) (ci := 17) (as := [jv x1]) rfl rfl rfl q3923 qs271 mdX17_689 (ctX17_parametersOf x0 x1) rfl (Nat.le_of_ble_eq_true rfl) (Nat.le_of_ble_eq_true rfl) (Nat.le_of_ble_eq_true rfl) pu_I dX17_takeParameters_2 (fun r2 σ1 => ?_)
  refine g_iconst (v := 1) dX17_takeParameters_5 (by decide) ?_
  refine g_isub dX17_takeParameters_6 ?_
  refine g_nmI (fun y3 => ?_)
  refine g_istore_n 3 dX17_takeParameters_7 rfl (by decide) rfl ?_
  refine G.sub [1, 2, 0] rfl ?_
  exact gX17_takeParameters_p8 FU _ _ _ _
theorem V.dX17_putParameters_0 : decode cX17_putParameters 0 = .ok (.iconst 0, 1) := by decide +kernel
theorem V.dX17_putParameters_1 : decode cX17_putParameters 1 = .ok (.istore_n 3, 1) := by decide +kernel
theorem V.dX17_putParameters_2 : decode cX17_putParameters 2 = .ok (.iload_n 3, 1) := by decide +kernel
theorem V.dX17_putParameters_3 : decode cX17_putParameters 3 = .ok (.aload_n 0, 1) := by decide +kernel
theorem V.dX17_putParameters_4 : decode cX17_putParameters 4 = .ok (.lload_n 1, 1) := by decide +kernel
theorem V.dX17_putParameters_5 : decode cX17_putParameters 5 = .ok (.invokevirtual 689, 3) := by decide +kernel
theorem V.dX17_putParameters_8 : decode cX17_putParameters 8 = .ok (.if_icmp .ge 19, 3) := by decide +kernel
theorem V.dX17_putParameters_11 : decode cX17_putParameters 11 = .ok (.aload_n 0, 1) := by decide +kernel
theorem V.dX17_putParameters_12 : decode cX17_putParameters 12 = .ok (.aload_n 0, 1) := by decide +kernel
theorem V.dX17_putParameters_13 : decode cX17_putParameters 13 = .ok (.lload_n 1, 1) := by decide +kernel
theorem V.dX17_putParameters_14 : decode cX17_putParameters 14 = .ok (.iload_n 3, 1) := by decide +kernel
theorem V.dX17_putParameters_15 : decode cX17_putParameters 15 = .ok (.invokevirtual 678, 3) := by decide +kernel
theorem V.dX17_putParameters_18 : decode cX17_putParameters 18 = .ok (.invokevirtual 695, 3) := by decide +kernel
theorem V.dX17_putParameters_21 : decode cX17_putParameters 21 = .ok (.iinc 3 1, 3) := by decide +kernel
theorem V.dX17_putParameters_24 : decode cX17_putParameters 24 = .ok (.goto (-22), 3) := by decide +kernel
theorem V.dX17_putParameters_27 : decode cX17_putParameters 27 = .ok (.return_, 1) := by decide +kernel
/-! ModuleEngineModel.putParameters(J)V -/
def V.Mdl_putParameters_p2  : Nat → HS → Nat → Int64 → Int32 → Option ((Nat ⊕ Unit) × HS)
  | 0, _, _, _, _ => none
  | n + 1, σ, x0, x1, x3 =>
    ck (tg σ x0 = 18) <| cl (Mdl_parametersOf σ x0 x1) fun r2 σ1 =>
    if r2 ≤ x3 then (
      some (.inr (), σ1))
    else (
      ck (tg σ1 x0 = 18) <| cl (Mdl_parameterAt σ1 x0 x1 x3) fun r4 σ3 =>
      ck (tg σ3 x0 = 18) <| clT (Mdl_put σ3 x0 r4) fun _ σ5 =>
      bn (x3 + (1 : Int32)) fun y6 =>
      Mdl_putParameters_p2 n σ5 x0 x1 y6)
theorem V.gX17_putParameters_p2 {X : CX}  : ∀ (n : Nat) (σ : HS) (x0 : Nat) (x1 : Int64) (x3 : Int32), G X RX17 "putParameters" cX17_putParameters 4 none 2 43 (enX enV (cxz X)) 2 [(0, av x0), (1, jv x1), (3, iv x3)] [] σ (Mdl_putParameters_p2 n σ x0 x1 x3)
  | 0, σ, x0, x1, x3 => by rw [Mdl_putParameters_p2]; exact G.nul
  | n + 1, σ, x0, x1, x3 => by
    rw [Mdl_putParameters_p2]
    refine g_iload_n 3 2 dX17_putParameters_2 rfl rfl ?_
    refine g_aload_n 0 0 dX17_putParameters_3 rfl rfl ?_
    refine g_lload_n 1 1 dX17_putParameters_4 rfl rfl ?_
    refine g_callV (fc := fun sς => Mdl_parametersOf sς x0 x1) (ci := 17) (as := [jv x1]) rfl rfl rfl q3923 qs271 mdX17_689 (ctX17_parametersOf x0 x1) rfl (Nat.le_of_ble_eq_true rfl) (Nat.le_of_ble_eq_true rfl) (Nat.le_of_ble_eq_true rfl) pu_I dX17_putParameters_5 (fun r2 σ1 => ?_)
    refine g_icmp_ge 27 dX17_putParameters_8 (by decide) ?_ ?_
    · exact g_return rfl dX17_putParameters_27
    · refine g_aload_n 0 0 dX17_putParameters_11 rfl rfl ?_
      refine g_aload_n 0 0 dX17_putParameters_12 rfl rfl ?_
      refine g_lload_n 1 1 dX17_putParameters_13 rfl rfl ?_
      refine g_iload_n 3 2 dX17_putParameters_14 rfl rfl ?_
      refine g_callV (fc := fun sς => Mdl_parameterAt sς x0 x1 x3) (ci := 17) (as := [jv x1, iv x3]) rfl rfl rfl q3927 qs272 mdX17_678 (ctX17_parameterAt x0 x1 x3) rfl (Nat.le_of_ble_eq_true rfl) (Nat.le_of_ble_eq_true rfl) (Nat.le_of_ble_eq_true rfl) pu_I dX17_putParameters_15 (fun r4 σ3 => ?_)
      refine g_callVT (fc := fun sς => Mdl_put sς x0 r4) (ci := 17) (as := [iv r4]) rfl rfl rfl q3907 qs267 q3905 mdX17_695 (ctX17_put x0 r4) rfl (Nat.le_of_ble_eq_true rfl) (Nat.le_of_ble_eq_true rfl) (Nat.le_of_ble_eq_true rfl) pu_V (by decide) dX17_putParameters_18 (fun _ σ5 => ?_)
      refine g_iincB (w := 1) 2 dX17_putParameters_21 rfl (by decide) (by decide) (fun _ => rfl) (fun y6 => ?_)
      refine g_goto 2 dX17_putParameters_24 (by decide) ?_
      refine G.sub [1, 2, 0] rfl ?_
      exact gX17_putParameters_p2 n _ _ _ _
def V.Mdl_putParameters (σ : HS) (x0 : Nat) (x1 : Int64) : Option ((Nat ⊕ Unit) × HS) :=
  Mdl_putParameters_p2 FU σ x0 x1 (0 : Int32)
theorem V.ctX17_putParameters (x0 : Nat) (x1 : Int64) : Ct yX17_putParameters  cX17_putParameters 4 none 2 43 eXV [av x0, jv x1] (fun σ => Mdl_putParameters σ x0 x1) := by
  refine Ct.of (own := RX17) (nm := "putParameters") (desc := "(J)V") rfl (by decide) (Nat.le_of_ble_eq_true rfl) (by decide) (fun X σ => ?_)
  show G X RX17 "putParameters" cX17_putParameters 4 none 2 43 (enX enV (cxz X)) 0 [(0, av x0), (1, jv x1)] [] σ (Mdl_putParameters σ x0 x1)
  unfold Mdl_putParameters
  refine g_iconst (v := 0) dX17_putParameters_0 (by decide) ?_
  refine g_istore_n 3 dX17_putParameters_1 rfl (by decide) rfl ?_
  refine G.sub [1, 2, 0] rfl ?_
  exact gX17_putParameters_p2 FU _ _ _ _
theorem V.dX17_resultsOf_0 : decode cX17_resultsOf 0 = .ok (.lload_n 1, 1) := by decide +kernel
theorem V.dX17_resultsOf_1 : decode cX17_resultsOf 1 = .ok (.lconst 0, 1) := by decide +kernel
theorem V.dX17_resultsOf_2 : decode cX17_resultsOf 2 = .ok (.lcmp, 1) := by decide +kernel
theorem V.dX17_resultsOf_3 : decode cX17_resultsOf 3 = .ok (.ifCond .lt 16, 3) := by decide +kernel
theorem V.dX17_resultsOf_6 : decode cX17_resultsOf 6 = .ok (.aload_n 0, 1) := by decide +kernel
theorem V.dX17_resultsOf_7 : decode cX17_resultsOf 7 = .ok (.getfield 221, 3) := by decide +kernel
theorem V.dX17_resultsOf_10 : decode cX17_resultsOf 10 = .ok (.getfield 390, 3) := by decide +kernel
theorem V.dX17_resultsOf_13 : decode cX17_resultsOf 13 = .ok (.lload_n 1, 1) := by decide +kernel
theorem V.dX17_resultsOf_14 : decode cX17_resultsOf 14 = .ok (.l2i, 1) := by decide +kernel
theorem V.dX17_resultsOf_15 : decode cX17_resultsOf 15 = .ok (.iaload, 1) := by decide +kernel
theorem V.dX17_resultsOf_16 : decode cX17_resultsOf 16 = .ok (.goto 16, 3) := by decide +kernel
theorem V.dX17_resultsOf_19 : decode cX17_resultsOf 19 = .ok (.lload_n 1, 1) := by decide +kernel
theorem V.dX17_resultsOf_20 : decode cX17_resultsOf 20 = .ok (.ldc2_w 676, 3) := by decide +kernel
theorem V.dX17_resultsOf_23 : decode cX17_resultsOf 23 = .ok (.lcmp, 1) := by decide +kernel
theorem V.dX17_resultsOf_24 : decode cX17_resultsOf 24 = .ok (.ifCond .ne 7, 3) := by decide +kernel
theorem V.dX17_resultsOf_27 : decode cX17_resultsOf 27 = .ok (.iconst 0, 1) := by decide +kernel
theorem V.dX17_resultsOf_28 : decode cX17_resultsOf 28 = .ok (.goto 4, 3) := by decide +kernel
theorem V.dX17_resultsOf_31 : decode cX17_resultsOf 31 = .ok (.iconst 1, 1) := by decide +kernel
theorem V.dX17_resultsOf_32 : decode cX17_resultsOf 32 = .ok (.ireturn, 1) := by decide +kernel
/-! ModuleEngineModel.resultsOf(J)I -/
def V.Mdl_resultsOf (σ : HS) (x0 : Nat) (x1 : Int64) : Option (Int32 × HS) :=
  if x1 < (0 : Int64) then (
    if x1 = (-64 : Int64) then (
      some ((0 : Int32), σ))
    else (
      some ((1 : Int32), σ)))
  else (
    ck (tg σ x0 = 18) <|
    ck (tg σ (gR σ x0 10) = 21) <|
    ck (tg σ (gR σ (gR σ x0 10) 6) = 100 ∧ inb x1.toInt32 (ln σ (gR σ (gR σ x0 10) 6))) <|
    some (gI σ (gR σ (gR σ x0 10) 6) (ix x1.toInt32), σ))
theorem V.ctX17_resultsOf (x0 : Nat) (x1 : Int64) : Ct yX17_resultsOf  cX17_resultsOf 3 (some .int) 0 0 eI [av x0, jv x1] (fun σ => Mdl_resultsOf σ x0 x1) := by
  refine Ct.of (own := RX17) (nm := "resultsOf") (desc := "(J)I") rfl (by decide) (Nat.le_of_ble_eq_true rfl) (by decide) (fun X σ => ?_)
  show G X RX17 "resultsOf" cX17_resultsOf 3 (some .int) 0 0 enI 0 [(0, av x0), (1, jv x1)] [] σ (Mdl_resultsOf σ x0 x1)
  unfold Mdl_resultsOf
  refine g_lload_n 1 1 dX17_resultsOf_0 rfl rfl ?_
  refine g_lconst (v := 0) dX17_resultsOf_1 (by decide) ?_
  refine g_lcmp_lt 19 dX17_resultsOf_2 dX17_resultsOf_3 (by decide) ?_ ?_
  · refine g_lload_n 1 1 dX17_resultsOf_19 rfl rfl ?_
    refine g_ldc2 q3945 dX17_resultsOf_20 ?_
    refine g_lcmp_ne 31 dX17_resultsOf_23 dX17_resultsOf_24 (by decide) ?_ ?_
    · refine g_iconst (v := 1) dX17_resultsOf_31 (by decide) ?_
      exact g_ireturn rfl dX17_resultsOf_32
    · refine g_iconst (v := 0) dX17_resultsOf_27 (by decide) ?_
      refine g_goto 32 dX17_resultsOf_28 (by decide) ?_
      exact g_ireturn rfl dX17_resultsOf_32
  · refine g_aload_n 0 0 dX17_resultsOf_6 rfl rfl ?_
    refine g_getR fdX17_221 dX17_resultsOf_7 ?_
    refine g_getR fdX17_390 dX17_resultsOf_10 ?_
    refine g_lload_n 1 1 dX17_resultsOf_13 rfl rfl ?_
    refine g_l2i dX17_resultsOf_14 ?_
    refine g_iaload dX17_resultsOf_15 ?_
    refine g_goto 32 dX17_resultsOf_16 (by decide) ?_
    exact g_ireturn rfl dX17_resultsOf_32
theorem V.dX17_resultAt_0 : decode cX17_resultAt 0 = .ok (.lload_n 1, 1) := by decide +kernel
theorem V.dX17_resultAt_1 : decode cX17_resultAt 1 = .ok (.lconst 0, 1) := by decide +kernel
theorem V.dX17_resultAt_2 : decode cX17_resultAt 2 = .ok (.lcmp, 1) := by decide +kernel
theorem V.dX17_resultAt_3 : decode cX17_resultAt 3 = .ok (.ifCond .ge 9, 3) := by decide +kernel
theorem V.dX17_resultAt_6 : decode cX17_resultAt 6 = .ok (.lload_n 1, 1) := by decide +kernel
theorem V.dX17_resultAt_7 : decode cX17_resultAt 7 = .ok (.lneg, 1) := by decide +kernel
theorem V.dX17_resultAt_8 : decode cX17_resultAt 8 = .ok (.l2i, 1) := by decide +kernel
theorem V.dX17_resultAt_9 : decode cX17_resultAt 9 = .ok (.goto 21, 3) := by decide +kernel
theorem V.dX17_resultAt_12 : decode cX17_resultAt 12 = .ok (.aload_n 0, 1) := by decide +kernel
theorem V.dX17_resultAt_13 : decode cX17_resultAt 13 = .ok (.getfield 221, 3) := by decide +kernel
theorem V.dX17_resultAt_16 : decode cX17_resultAt 16 = .ok (.getfield 374, 3) := by decide +kernel
theorem V.dX17_resultAt_19 : decode cX17_resultAt 19 = .ok (.bipush 32, 2) := by decide +kernel
theorem V.dX17_resultAt_21 : decode cX17_resultAt 21 = .ok (.lload_n 1, 1) := by decide +kernel
theorem V.dX17_resultAt_22 : decode cX17_resultAt 22 = .ok (.l2i, 1) := by decide +kernel
theorem V.dX17_resultAt_23 : decode cX17_resultAt 23 = .ok (.imul, 1) := by decide +kernel
theorem V.dX17_resultAt_24 : decode cX17_resultAt 24 = .ok (.bipush 16, 2) := by decide +kernel
theorem V.dX17_resultAt_26 : decode cX17_resultAt 26 = .ok (.iadd, 1) := by decide +kernel
theorem V.dX17_resultAt_27 : decode cX17_resultAt 27 = .ok (.iload_n 3, 1) := by decide +kernel
theorem V.dX17_resultAt_28 : decode cX17_resultAt 28 = .ok (.iadd, 1) := by decide +kernel
theorem V.dX17_resultAt_29 : decode cX17_resultAt 29 = .ok (.iaload, 1) := by decide +kernel
theorem V.dX17_resultAt_30 : decode cX17_resultAt 30 = .ok (.ireturn, 1) := by decide +kernel
/-! ModuleEngineModel.resultAt(JI)I -/
def V.Mdl_resultAt (σ : HS) (x0 : Nat) (x1 : Int64) (x3 : Int32) : Option (Int32 × HS) :=
  if (0 : Int64) ≤ x1 then (
    ck (tg σ x0 = 18) <|
    ck (tg σ (gR σ x0 10) = 21) <|
    ck (tg σ (gR σ (gR σ x0 10) 7) = 100 ∧ inb ((((32 : Int32) * x1.toInt32) + (16 : Int32)) + x3) (ln σ (gR σ (gR σ x0 10) 7))) <|
    some (gI σ (gR σ (gR σ x0 10) 7) (ix ((((32 : Int32) * x1.toInt32) + (16 : Int32)) + x3)), σ))
  else (
    some ((-x1).toInt32, σ))
theorem V.ctX17_resultAt (x0 : Nat) (x1 : Int64) (x3 : Int32) : Ct yX17_resultAt  cX17_resultAt 4 (some .int) 0 0 eI [av x0, jv x1, iv x3] (fun σ => Mdl_resultAt σ x0 x1 x3) := by
  refine Ct.of (own := RX17) (nm := "resultAt") (desc := "(JI)I") rfl (by decide) (Nat.le_of_ble_eq_true rfl) (by decide) (fun X σ => ?_)
  show G X RX17 "resultAt" cX17_resultAt 4 (some .int) 0 0 enI 0 [(0, av x0), (1, jv x1), (3, iv x3)] [] σ (Mdl_resultAt σ x0 x1 x3)
  unfold Mdl_resultAt
  refine g_lload_n 1 1 dX17_resultAt_0 rfl rfl ?_
  refine g_lconst (v := 0) dX17_resultAt_1 (by decide) ?_
  refine g_lcmp_ge 12 dX17_resultAt_2 dX17_resultAt_3 (by decide) ?_ ?_
  · refine g_aload_n 0 0 dX17_resultAt_12 rfl rfl ?_
    refine g_getR fdX17_221 dX17_resultAt_13 ?_
    refine g_getR fdX17_374 dX17_resultAt_16 ?_
    refine g_bipush (v := 32) dX17_resultAt_19 (by decide) ?_
    refine g_lload_n 1 1 dX17_resultAt_21 rfl rfl ?_
    refine g_l2i dX17_resultAt_22 ?_
    refine g_imul dX17_resultAt_23 ?_
    refine g_bipush (v := 16) dX17_resultAt_24 (by decide) ?_
    refine g_iadd dX17_resultAt_26 ?_
    refine g_iload_n 3 2 dX17_resultAt_27 rfl rfl ?_
    refine g_iadd dX17_resultAt_28 ?_
    refine g_iaload dX17_resultAt_29 ?_
    exact g_ireturn rfl dX17_resultAt_30
  · refine g_lload_n 1 1 dX17_resultAt_6 rfl rfl ?_
    refine g_lneg dX17_resultAt_7 ?_
    refine g_l2i dX17_resultAt_8 ?_
    refine g_goto 30 dX17_resultAt_9 (by decide) ?_
    exact g_ireturn rfl dX17_resultAt_30
theorem V.dX17_takeResults_0 : decode cX17_takeResults 0 = .ok (.aload_n 0, 1) := by decide +kernel
theorem V.dX17_takeResults_1 : decode cX17_takeResults 1 = .ok (.lload_n 1, 1) := by decide +kernel
theorem V.dX17_takeResults_2 : decode cX17_takeResults 2 = .ok (.invokevirtual 698, 3) := by decide +kernel
theorem V.dX17_takeResults_5 : decode cX17_takeResults 5 = .ok (.iconst 1, 1) := by decide +kernel
theorem V.dX17_takeResults_6 : decode cX17_takeResults 6 = .ok (.isub, 1) := by decide +kernel
theorem V.dX17_takeResults_7 : decode cX17_takeResults 7 = .ok (.istore_n 3, 1) := by decide +kernel
theorem V.dX17_takeResults_8 : decode cX17_takeResults 8 = .ok (.iload_n 3, 1) := by decide +kernel
theorem V.dX17_takeResults_9 : decode cX17_takeResults 9 = .ok (.ifCond .lt 21, 3) := by decide +kernel
theorem V.dX17_takeResults_12 : decode cX17_takeResults 12 = .ok (.aload_n 0, 1) := by decide +kernel
theorem V.dX17_takeResults_13 : decode cX17_takeResults 13 = .ok (.aload_n 0, 1) := by decide +kernel
theorem V.dX17_takeResults_14 : decode cX17_takeResults 14 = .ok (.lload_n 1, 1) := by decide +kernel
theorem V.dX17_takeResults_15 : decode cX17_takeResults 15 = .ok (.iload_n 3, 1) := by decide +kernel
theorem V.dX17_takeResults_16 : decode cX17_takeResults 16 = .ok (.invokevirtual 701, 3) := by decide +kernel
theorem V.dX17_takeResults_19 : decode cX17_takeResults 19 = .ok (.invokevirtual 692, 3) := by decide +kernel
theorem V.dX17_takeResults_22 : decode cX17_takeResults 22 = .ok (.istore 4, 2) := by decide +kernel
theorem V.dX17_takeResults_24 : decode cX17_takeResults 24 = .ok (.iinc 3 (-1), 3) := by decide +kernel
theorem V.dX17_takeResults_27 : decode cX17_takeResults 27 = .ok (.goto (-19), 3) := by decide +kernel
theorem V.dX17_takeResults_30 : decode cX17_takeResults 30 = .ok (.return_, 1) := by decide +kernel
theorem V.mdX17_698 : MD RX17 698 yX17_resultsOf cX17_resultsOf 3 (some .int) 1 := ⟨Or.inl q3941, q377, q3944, by decide, by decide, by decide +kernel⟩
theorem V.mdX17_701 : MD RX17 701 yX17_resultAt cX17_resultAt 4 (some .int) 2 := ⟨Or.inl q3946, q377, q3949, by decide, by decide, by decide +kernel⟩
/-! ModuleEngineModel.takeResults(J)V -/
def V.Mdl_takeResults_p8  : Nat → HS → Nat → Int64 → Int32 → Option ((Nat ⊕ Unit) × HS)
  | 0, _, _, _, _ => none
  | n + 1, σ, x0, x1, x3 =>
    if x3 < 0 then (
      some (.inr (), σ))
    else (
      ck (tg σ x0 = 18) <| cl (Mdl_resultAt σ x0 x1 x3) fun r2 σ1 =>
      ck (tg σ1 x0 = 18) <| clT (Mdl_take σ1 x0 r2) fun r4 σ3 =>
      bn (x3 + (-1 : Int32)) fun y5 =>
      Mdl_takeResults_p8 n σ3 x0 x1 y5)
theorem V.gX17_takeResults_p8 {X : CX}  : ∀ (n : Nat) (σ : HS) (x0 : Nat) (x1 : Int64) (x3 : Int32), G X RX17 "takeResults" cX17_takeResults 5 none 2 45 (enX enV (cxz X)) 8 [(0, av x0), (1, jv x1), (3, iv x3)] [] σ (Mdl_takeResults_p8 n σ x0 x1 x3)
  | 0, σ, x0, x1, x3 => by rw [Mdl_takeResults_p8]; exact G.nul
  | n + 1, σ, x0, x1, x3 => by
    rw [Mdl_takeResults_p8]
    refine g_iload_n 3 2 dX17_takeResults_8 rfl rfl ?_
    refine g_if_lt 30 dX17_takeResults_9 (by decide) ?_ ?_
    · exact g_return rfl dX17_takeResults_30
    · refine g_aload_n 0 0 dX17_takeResults_12 rfl rfl ?_
      refine g_aload_n 0 0 dX17_takeResults_13 rfl rfl ?_
      refine g_lload_n 1 1 dX17_takeResults_14 rfl rfl ?_
      refine g_iload_n 3 2 dX17_takeResults_15 rfl rfl ?_
      refine g_callV (fc := fun sς => Mdl_resultAt sς x0 x1 x3) (ci := 17) (as := [jv x1, iv x3]) rfl rfl rfl q3948 qs277 mdX17_701 (ctX17_resultAt x0 x1 x3) rfl (Nat.le_of_ble_eq_true rfl) (Nat.le_of_ble_eq_true rfl) (Nat.le_of_ble_eq_true rfl) pu_I dX17_takeResults_16 (fun r2 σ1 => ?_)
      refine g_callVT (fc := fun sς => Mdl_take sς x0 r2) (ci := 17) (as := [iv r2]) rfl rfl rfl q3900 qs266 q3898 mdX17_692 (ctX17_take x0 r2) rfl (Nat.le_of_ble_eq_true rfl) (Nat.le_of_ble_eq_true rfl) (Nat.le_of_ble_eq_true rfl) pu_I (by decide) dX17_takeResults_19 (fun r4 σ3 => ?_)
      refine g_istore dX17_takeResults_22 (by decide) rfl ?_
      refine g_iincB (w := (-1)) 3 dX17_takeResults_24 rfl (by decide) (by decide) (fun _ => rfl) (fun y5 => ?_)
      refine g_goto 8 dX17_takeResults_27 (by decide) ?_
      refine G.sub [2, 3, 0] rfl ?_
      exact gX17_takeResults_p8 n _ _ _ _
def V.Mdl_takeResults (σ : HS) (x0 : Nat) (x1 : Int64) : Option ((Nat ⊕ Unit) × HS) :=
  ck (tg σ x0 = 18) <| cl (Mdl_resultsOf σ x0 x1) fun r2 σ1 =>
  bn (r2 - (1 : Int32)) fun y3 =>
  Mdl_takeResults_p8 FU σ1 x0 x1 y3
theorem V.ctX17_takeResults (x0 : Nat) (x1 : Int64) : Ct yX17_takeResults  cX17_takeResults 5 none 2 45 eXV [av x0, jv x1] (fun σ => Mdl_takeResults σ x0 x1) := by
  refine Ct.of (own := RX17) (nm := "takeResults") (desc := "(J)V") rfl (by decide) (Nat.le_of_ble_eq_true rfl) (by decide) (fun X σ => ?_)
  show G X RX17 "takeResults" cX17_takeResults 5 none 2 45 (enX enV (cxz X)) 0 [(0, av x0), (1, jv x1)] [] σ (Mdl_takeResults σ x0 x1)
  unfold Mdl_takeResults
  refine g_aload_n 0 0 dX17_takeResults_0 rfl rfl ?_
  refine g_lload_n 1 1 dX17_takeResults_1 rfl rfl ?_
  refine g_callV (fc := fun sς => Mdl_resultsOf sς x0 x1) (ci := 17) (as := [jv x1]) rfl rfl rfl q3943 qs276 mdX17_698 (ctX17_resultsOf x0 x1) rfl (Nat.le_of_ble_eq_true rfl) (Nat.le_of_ble_eq_true rfl) (Nat.le_of_ble_eq_true rfl) pu_I dX17_takeResults_2 (fun r2 σ1 => ?_)
  refine g_iconst (v := 1) dX17_takeResults_5 (by decide) ?_
  refine g_isub dX17_takeResults_6 ?_
  refine g_nmI (fun y3 => ?_)
  refine g_istore_n 3 dX17_takeResults_7 rfl (by decide) rfl ?_
  refine G.sub [1, 2, 0] rfl ?_
  exact gX17_takeResults_p8 FU _ _ _ _
theorem V.dX17_putResults_0 : decode cX17_putResults 0 = .ok (.iconst 0, 1) := by decide +kernel
theorem V.dX17_putResults_1 : decode cX17_putResults 1 = .ok (.istore_n 3, 1) := by decide +kernel
theorem V.dX17_putResults_2 : decode cX17_putResults 2 = .ok (.iload_n 3, 1) := by decide +kernel
theorem V.dX17_putResults_3 : decode cX17_putResults 3 = .ok (.aload_n 0, 1) := by decide +kernel
theorem V.dX17_putResults_4 : decode cX17_putResults 4 = .ok (.lload_n 1, 1) := by decide +kernel
theorem V.dX17_putResults_5 : decode cX17_putResults 5 = .ok (.invokevirtual 698, 3) := by decide +kernel
theorem V.dX17_putResults_8 : decode cX17_putResults 8 = .ok (.if_icmp .ge 19, 3) := by decide +kernel
theorem V.dX17_putResults_11 : decode cX17_putResults 11 = .ok (.aload_n 0, 1) := by decide +kernel
theorem V.dX17_putResults_12 : decode cX17_putResults 12 = .ok (.aload_n 0, 1) := by decide +kernel
theorem V.dX17_putResults_13 : decode cX17_putResults 13 = .ok (.lload_n 1, 1) := by decide +kernel
theorem V.dX17_putResults_14 : decode cX17_putResults 14 = .ok (.iload_n 3, 1) := by decide +kernel
theorem V.dX17_putResults_15 : decode cX17_putResults 15 = .ok (.invokevirtual 701, 3) := by decide +kernel
theorem V.dX17_putResults_18 : decode cX17_putResults 18 = .ok (.invokevirtual 695, 3) := by decide +kernel
theorem V.dX17_putResults_21 : decode cX17_putResults 21 = .ok (.iinc 3 1, 3) := by decide +kernel
theorem V.dX17_putResults_24 : decode cX17_putResults 24 = .ok (.goto (-22), 3) := by decide +kernel
theorem V.dX17_putResults_27 : decode cX17_putResults 27 = .ok (.return_, 1) := by decide +kernel
/-! ModuleEngineModel.putResults(J)V -/
def V.Mdl_putResults_p2  : Nat → HS → Nat → Int64 → Int32 → Option ((Nat ⊕ Unit) × HS)
  | 0, _, _, _, _ => none
  | n + 1, σ, x0, x1, x3 =>
    ck (tg σ x0 = 18) <| cl (Mdl_resultsOf σ x0 x1) fun r2 σ1 =>
    if r2 ≤ x3 then (
      some (.inr (), σ1))
    else (
      ck (tg σ1 x0 = 18) <| cl (Mdl_resultAt σ1 x0 x1 x3) fun r4 σ3 =>
      ck (tg σ3 x0 = 18) <| clT (Mdl_put σ3 x0 r4) fun _ σ5 =>
      bn (x3 + (1 : Int32)) fun y6 =>
      Mdl_putResults_p2 n σ5 x0 x1 y6)
theorem V.gX17_putResults_p2 {X : CX}  : ∀ (n : Nat) (σ : HS) (x0 : Nat) (x1 : Int64) (x3 : Int32), G X RX17 "putResults" cX17_putResults 4 none 2 43 (enX enV (cxz X)) 2 [(0, av x0), (1, jv x1), (3, iv x3)] [] σ (Mdl_putResults_p2 n σ x0 x1 x3)
  | 0, σ, x0, x1, x3 => by rw [Mdl_putResults_p2]; exact G.nul
  | n + 1, σ, x0, x1, x3 => by
    rw [Mdl_putResults_p2]
    refine g_iload_n 3 2 dX17_putResults_2 rfl rfl ?_
    refine g_aload_n 0 0 dX17_putResults_3 rfl rfl ?_
    refine g_lload_n 1 1 dX17_putResults_4 rfl rfl ?_
    refine g_callV (fc := fun sς => Mdl_resultsOf sς x0 x1) (ci := 17) (as := [jv x1]) rfl rfl rfl q3943 qs276 mdX17_698 (ctX17_resultsOf x0 x1) rfl (Nat.le_of_ble_eq_true rfl) (Nat.le_of_ble_eq_true rfl) (Nat.le_of_ble_eq_true rfl) pu_I dX17_putResults_5 (fun r2 σ1 => ?_)
    refine g_icmp_ge 27 dX17_putResults_8 (by decide) ?_ ?_
    · exact g_return rfl dX17_putResults_27
    · refine g_aload_n 0 0 dX17_putResults_11 rfl rfl ?_
      refine g_aload_n 0 0 dX17_putResults_12 rfl rfl ?_
      refine g_lload_n 1 1 dX17_putResults_13 rfl rfl ?_
      refine g_iload_n 3 2 dX17_putResults_14 rfl rfl ?_
      refine g_callV (fc := fun sς => Mdl_resultAt sς x0 x1 x3) (ci := 17) (as := [jv x1, iv x3]) rfl rfl rfl q3948 qs277 mdX17_701 (ctX17_resultAt x0 x1 x3) rfl (Nat.le_of_ble_eq_true rfl) (Nat.le_of_ble_eq_true rfl) (Nat.le_of_ble_eq_true rfl) pu_I dX17_putResults_15 (fun r4 σ3 => ?_)
      refine g_callVT (fc := fun sς => Mdl_put sς x0 r4) (ci := 17) (as := [iv r4]) rfl rfl rfl q3907 qs267 q3905 mdX17_695 (ctX17_put x0 r4) rfl (Nat.le_of_ble_eq_true rfl) (Nat.le_of_ble_eq_true rfl) (Nat.le_of_ble_eq_true rfl) pu_V (by decide) dX17_putResults_18 (fun _ σ5 => ?_)
      refine g_iincB (w := 1) 2 dX17_putResults_21 rfl (by decide) (by decide) (fun _ => rfl) (fun y6 => ?_)
      refine g_goto 2 dX17_putResults_24 (by decide) ?_
      refine G.sub [1, 2, 0] rfl ?_
      exact gX17_putResults_p2 n _ _ _ _
def V.Mdl_putResults (σ : HS) (x0 : Nat) (x1 : Int64) : Option ((Nat ⊕ Unit) × HS) :=
  Mdl_putResults_p2 FU σ x0 x1 (0 : Int32)
theorem V.ctX17_putResults (x0 : Nat) (x1 : Int64) : Ct yX17_putResults  cX17_putResults 4 none 2 43 eXV [av x0, jv x1] (fun σ => Mdl_putResults σ x0 x1) := by
  refine Ct.of (own := RX17) (nm := "putResults") (desc := "(J)V") rfl (by decide) (Nat.le_of_ble_eq_true rfl) (by decide) (fun X σ => ?_)
  show G X RX17 "putResults" cX17_putResults 4 none 2 43 (enX enV (cxz X)) 0 [(0, av x0), (1, jv x1)] [] σ (Mdl_putResults σ x0 x1)
  unfold Mdl_putResults
  refine g_iconst (v := 0) dX17_putResults_0 (by decide) ?_
  refine g_istore_n 3 dX17_putResults_1 rfl (by decide) rfl ?_
  refine G.sub [1, 2, 0] rfl ?_
  exact gX17_putResults_p2 FU _ _ _ _
theorem V.dX17_ends_0 : decode cX17_ends 0 = .ok (.aload_n 0, 1) := by decide +kernel
theorem V.dX17_ends_1 : decode cX17_ends 1 = .ok (.getfield 682, 3) := by decide +kernel
theorem V.dX17_ends_4 : decode cX17_ends 4 = .ok (.iconst 1, 1) := by decide +kernel
theorem V.dX17_ends_5 : decode cX17_ends 5 = .ok (.isub, 1) := by decide +kernel
theorem V.dX17_ends_6 : decode cX17_ends 6 = .ok (.istore_n 2, 1) := by decide +kernel
theorem V.dX17_ends_7 : decode cX17_ends 7 = .ok (.aload_n 0, 1) := by decide +kernel
theorem V.dX17_ends_8 : decode cX17_ends 8 = .ok (.getfield 45, 3) := by decide +kernel
theorem V.dX17_ends_11 : decode cX17_ends 11 = .ok (.iload_n 2, 1) := by decide +kernel
theorem V.dX17_ends_12 : decode cX17_ends 12 = .ok (.laload, 1) := by decide +kernel
theorem V.dX17_ends_13 : decode cX17_ends 13 = .ok (.lstore_n 3, 1) := by decide +kernel
theorem V.dX17_ends_14 : decode cX17_ends 14 = .ok (.aload_n 0, 1) := by decide +kernel
theorem V.dX17_ends_15 : decode cX17_ends 15 = .ok (.lload_n 3, 1) := by decide +kernel
theorem V.dX17_ends_16 : decode cX17_ends 16 = .ok (.invokevirtual 780, 3) := by decide +kernel
theorem V.dX17_ends_19 : decode cX17_ends 19 = .ok (.aload_n 0, 1) := by decide +kernel
theorem V.dX17_ends_20 : decode cX17_ends 20 = .ok (.getfield 685, 3) := by decide +kernel
theorem V.dX17_ends_23 : decode cX17_ends 23 = .ok (.aload_n 0, 1) := by decide +kernel
theorem V.dX17_ends_24 : decode cX17_ends 24 = .ok (.getfield 49, 3) := by decide +kernel
theorem V.dX17_ends_27 : decode cX17_ends 27 = .ok (.iload_n 2, 1) := by decide +kernel
theorem V.dX17_ends_28 : decode cX17_ends 28 = .ok (.iaload, 1) := by decide +kernel
theorem V.dX17_ends_29 : decode cX17_ends 29 = .ok (.if_icmp .eq 13, 3) := by decide +kernel
theorem V.dX17_ends_32 : decode cX17_ends 32 = .ok (.aload_n 0, 1) := by decide +kernel
theorem V.dX17_ends_33 : decode cX17_ends 33 = .ok (.bipush 29, 2) := by decide +kernel
theorem V.dX17_ends_35 : decode cX17_ends 35 = .ok (.aload_n 0, 1) := by decide +kernel
theorem V.dX17_ends_36 : decode cX17_ends 36 = .ok (.getfield 686, 3) := by decide +kernel
theorem V.dX17_ends_39 : decode cX17_ends 39 = .ok (.invokevirtual 257, 3) := by decide +kernel
theorem V.dX17_ends_42 : decode cX17_ends 42 = .ok (.iload_n 1, 1) := by decide +kernel
theorem V.dX17_ends_43 : decode cX17_ends 43 = .ok (.iconst 5, 1) := by decide +kernel
theorem V.dX17_ends_44 : decode cX17_ends 44 = .ok (.if_icmp .ne 23, 3) := by decide +kernel
theorem V.dX17_ends_47 : decode cX17_ends 47 = .ok (.aload_n 0, 1) := by decide +kernel
theorem V.dX17_ends_48 : decode cX17_ends 48 = .ok (.getfield 42, 3) := by decide +kernel
theorem V.dX17_ends_51 : decode cX17_ends 51 = .ok (.iload_n 2, 1) := by decide +kernel
theorem V.dX17_ends_52 : decode cX17_ends 52 = .ok (.iconst 5, 1) := by decide +kernel
theorem V.dX17_ends_53 : decode cX17_ends 53 = .ok (.iastore, 1) := by decide +kernel
theorem V.dX17_ends_54 : decode cX17_ends 54 = .ok (.aload_n 0, 1) := by decide +kernel
theorem V.dX17_ends_55 : decode cX17_ends 55 = .ok (.getfield 52, 3) := by decide +kernel
theorem V.dX17_ends_58 : decode cX17_ends 58 = .ok (.iload_n 2, 1) := by decide +kernel
theorem V.dX17_ends_59 : decode cX17_ends 59 = .ok (.iconst 0, 1) := by decide +kernel
theorem V.dX17_ends_60 : decode cX17_ends 60 = .ok (.bastore, 1) := by decide +kernel
theorem V.dX17_ends_61 : decode cX17_ends 61 = .ok (.aload_n 0, 1) := by decide +kernel
theorem V.dX17_ends_62 : decode cX17_ends 62 = .ok (.lload_n 3, 1) := by decide +kernel
theorem V.dX17_ends_63 : decode cX17_ends 63 = .ok (.invokevirtual 768, 3) := by decide +kernel
theorem V.dX17_ends_66 : decode cX17_ends 66 = .ok (.return_, 1) := by decide +kernel
theorem V.dX17_ends_67 : decode cX17_ends 67 = .ok (.aload_n 0, 1) := by decide +kernel
theorem V.dX17_ends_68 : decode cX17_ends 68 = .ok (.getfield 42, 3) := by decide +kernel
theorem V.dX17_ends_71 : decode cX17_ends 71 = .ok (.iload_n 2, 1) := by decide +kernel
theorem V.dX17_ends_72 : decode cX17_ends 72 = .ok (.iaload, 1) := by decide +kernel
theorem V.dX17_ends_73 : decode cX17_ends 73 = .ok (.iconst 4, 1) := by decide +kernel
theorem V.dX17_ends_74 : decode cX17_ends 74 = .ok (.if_icmp .ne 16, 3) := by decide +kernel
theorem V.dX17_ends_77 : decode cX17_ends 77 = .ok (.aload_n 0, 1) := by decide +kernel
theorem V.dX17_ends_78 : decode cX17_ends 78 = .ok (.lload_n 3, 1) := by decide +kernel
theorem V.dX17_ends_79 : decode cX17_ends 79 = .ok (.invokevirtual 689, 3) := by decide +kernel
theorem V.dX17_ends_82 : decode cX17_ends 82 = .ok (.aload_n 0, 1) := by decide +kernel
theorem V.dX17_ends_83 : decode cX17_ends 83 = .ok (.lload_n 3, 1) := by decide +kernel
theorem V.dX17_ends_84 : decode cX17_ends 84 = .ok (.invokevirtual 698, 3) := by decide +kernel
theorem V.dX17_ends_87 : decode cX17_ends 87 = .ok (.if_icmp .ne 7, 3) := by decide +kernel
theorem V.dX17_ends_90 : decode cX17_ends 90 = .ok (.iconst 1, 1) := by decide +kernel
theorem V.dX17_ends_91 : decode cX17_ends 91 = .ok (.goto 4, 3) := by decide +kernel
theorem V.dX17_ends_94 : decode cX17_ends 94 = .ok (.iconst 0, 1) := by decide +kernel
theorem V.dX17_ends_95 : decode cX17_ends 95 = .ok (.istore 5, 2) := by decide +kernel
theorem V.dX17_ends_97 : decode cX17_ends 97 = .ok (.iconst 0, 1) := by decide +kernel
theorem V.dX17_ends_98 : decode cX17_ends 98 = .ok (.istore 6, 2) := by decide +kernel
theorem V.dX17_ends_100 : decode cX17_ends 100 = .ok (.iload 6, 2) := by decide +kernel
theorem V.dX17_ends_102 : decode cX17_ends 102 = .ok (.aload_n 0, 1) := by decide +kernel
theorem V.dX17_ends_103 : decode cX17_ends 103 = .ok (.lload_n 3, 1) := by decide +kernel
theorem V.dX17_ends_104 : decode cX17_ends 104 = .ok (.invokevirtual 689, 3) := by decide +kernel
theorem V.dX17_ends_107 : decode cX17_ends 107 = .ok (.if_icmp .ge 48, 3) := by decide +kernel
theorem V.dX17_ends_110 : decode cX17_ends 110 = .ok (.iload 5, 2) := by decide +kernel
theorem V.dX17_ends_112 : decode cX17_ends 112 = .ok (.ifCond .eq 43, 3) := by decide +kernel
theorem V.dX17_ends_115 : decode cX17_ends 115 = .ok (.aload_n 0, 1) := by decide +kernel
theorem V.dX17_ends_116 : decode cX17_ends 116 = .ok (.getfield 42, 3) := by decide +kernel
theorem V.dX17_ends_119 : decode cX17_ends 119 = .ok (.iload_n 2, 1) := by decide +kernel
theorem V.dX17_ends_120 : decode cX17_ends 120 = .ok (.iaload, 1) := by decide +kernel
theorem V.dX17_ends_121 : decode cX17_ends 121 = .ok (.iconst 4, 1) := by decide +kernel
theorem V.dX17_ends_122 : decode cX17_ends 122 = .ok (.if_icmp .ne 33, 3) := by decide +kernel
theorem V.dX17_ends_125 : decode cX17_ends 125 = .ok (.aload_n 0, 1) := by decide +kernel
theorem V.dX17_ends_126 : decode cX17_ends 126 = .ok (.lload_n 3, 1) := by decide +kernel
theorem V.dX17_ends_127 : decode cX17_ends 127 = .ok (.iload 6, 2) := by decide +kernel
theorem V.dX17_ends_129 : decode cX17_ends 129 = .ok (.invokevirtual 678, 3) := by decide +kernel
theorem V.dX17_ends_132 : decode cX17_ends 132 = .ok (.aload_n 0, 1) := by decide +kernel
theorem V.dX17_ends_133 : decode cX17_ends 133 = .ok (.lload_n 3, 1) := by decide +kernel
theorem V.dX17_ends_134 : decode cX17_ends 134 = .ok (.iload 6, 2) := by decide +kernel
theorem V.dX17_ends_136 : decode cX17_ends 136 = .ok (.invokevirtual 701, 3) := by decide +kernel
theorem V.dX17_ends_139 : decode cX17_ends 139 = .ok (.if_icmp .ne 7, 3) := by decide +kernel
theorem V.dX17_ends_142 : decode cX17_ends 142 = .ok (.iconst 1, 1) := by decide +kernel
theorem V.dX17_ends_143 : decode cX17_ends 143 = .ok (.goto 4, 3) := by decide +kernel
theorem V.dX17_ends_146 : decode cX17_ends 146 = .ok (.iconst 0, 1) := by decide +kernel
theorem V.dX17_ends_147 : decode cX17_ends 147 = .ok (.istore 5, 2) := by decide +kernel
theorem V.dX17_ends_149 : decode cX17_ends 149 = .ok (.iinc 6 1, 3) := by decide +kernel
theorem V.dX17_ends_152 : decode cX17_ends 152 = .ok (.goto (-52), 3) := by decide +kernel
theorem V.dX17_ends_155 : decode cX17_ends 155 = .ok (.iload 5, 2) := by decide +kernel
theorem V.dX17_ends_157 : decode cX17_ends 157 = .ok (.ifCond .ne 13, 3) := by decide +kernel
theorem V.dX17_ends_160 : decode cX17_ends 160 = .ok (.aload_n 0, 1) := by decide +kernel
theorem V.dX17_ends_161 : decode cX17_ends 161 = .ok (.bipush 29, 2) := by decide +kernel
theorem V.dX17_ends_163 : decode cX17_ends 163 = .ok (.aload_n 0, 1) := by decide +kernel
theorem V.dX17_ends_164 : decode cX17_ends 164 = .ok (.getfield 686, 3) := by decide +kernel
theorem V.dX17_ends_167 : decode cX17_ends 167 = .ok (.invokevirtual 257, 3) := by decide +kernel
theorem V.dX17_ends_170 : decode cX17_ends 170 = .ok (.aload_n 0, 1) := by decide +kernel
theorem V.dX17_ends_171 : decode cX17_ends 171 = .ok (.dup, 1) := by decide +kernel
theorem V.dX17_ends_172 : decode cX17_ends 172 = .ok (.getfield 682, 3) := by decide +kernel
theorem V.dX17_ends_175 : decode cX17_ends 175 = .ok (.iconst 1, 1) := by decide +kernel
theorem V.dX17_ends_176 : decode cX17_ends 176 = .ok (.isub, 1) := by decide +kernel
theorem V.dX17_ends_177 : decode cX17_ends 177 = .ok (.putfield 682, 3) := by decide +kernel
theorem V.dX17_ends_180 : decode cX17_ends 180 = .ok (.aload_n 0, 1) := by decide +kernel
theorem V.dX17_ends_181 : decode cX17_ends 181 = .ok (.getfield 682, 3) := by decide +kernel
theorem V.dX17_ends_184 : decode cX17_ends 184 = .ok (.ifCond .le 8, 3) := by decide +kernel
theorem V.dX17_ends_187 : decode cX17_ends 187 = .ok (.aload_n 0, 1) := by decide +kernel
theorem V.dX17_ends_188 : decode cX17_ends 188 = .ok (.lload_n 3, 1) := by decide +kernel
theorem V.dX17_ends_189 : decode cX17_ends 189 = .ok (.invokevirtual 783, 3) := by decide +kernel
theorem V.dX17_ends_192 : decode cX17_ends 192 = .ok (.return_, 1) := by decide +kernel
theorem V.mdX17_780 : MD RX17 780 yX17_takeResults cX17_takeResults 5 none 1 := ⟨Or.inl q3937, q377, q3940, by decide, by decide, by decide +kernel⟩
theorem V.mdX17_768 : MD RX17 768 yX17_putParameters cX17_putParameters 4 none 1 := ⟨Or.inl q3929, q377, q3932, by decide, by decide, by decide +kernel⟩
theorem V.mdX17_783 : MD RX17 783 yX17_putResults cX17_putResults 4 none 1 := ⟨Or.inl q3950, q377, q3953, by decide, by decide, by decide +kernel⟩
/-! ModuleEngineModel.ends(I)V -/
def V.Mdl_ends_p170  (σ : HS) (x0 : Nat) (x3 : Int64) : Option ((Nat ⊕ Unit) × HS) :=
  ck (tg σ x0 = 18) <|
  ck (tg σ x0 = 18) <| bn (sI σ x0 24 ((gI σ x0 24) - (1 : Int32))) fun σ1 =>
  ck (tg σ1 x0 = 18) <|
  if (gI σ1 x0 24) ≤ 0 then (
    some (.inr (), σ1))
  else (
    ck (tg σ1 x0 = 18) <| clT (Mdl_putResults σ1 x0 x3) fun _ σ2 =>
    some (.inr (), σ2))
theorem V.gX17_ends_p170 {X : CX}  (σ : HS) (x0 : Nat) (x3 : Int64) : G X RX17 "ends" cX17_ends 7 none 3 69 (enX enV (cxz X)) 170 [(0, av x0), (3, jv x3)] [] σ (Mdl_ends_p170 σ x0 x3) := by
  unfold Mdl_ends_p170
  refine g_aload_n 0 0 dX17_ends_170 rfl rfl ?_
  refine g_dup dX17_ends_171 rfl ?_
  refine g_getI fdX17_682 dX17_ends_172 ?_
  refine g_iconst (v := 1) dX17_ends_175 (by decide) ?_
  refine g_isub dX17_ends_176 ?_
  refine g_putI fpX17_682 dX17_ends_177 (fun σ1 => ?_)
  refine g_aload_n 0 0 dX17_ends_180 rfl rfl ?_
  refine g_getI fdX17_682 dX17_ends_181 ?_
  refine g_if_le 192 dX17_ends_184 (by decide) ?_ ?_
  · exact g_return rfl dX17_ends_192
  · refine g_aload_n 0 0 dX17_ends_187 rfl rfl ?_
    refine g_lload_n 3 1 dX17_ends_188 rfl rfl ?_
    refine g_callVT (fc := fun sς => Mdl_putResults sς x0 x3) (ci := 17) (as := [jv x3]) rfl rfl rfl q3952 qs278 q3950 mdX17_783 (ctX17_putResults x0 x3) rfl (Nat.le_of_ble_eq_true rfl) (Nat.le_of_ble_eq_true rfl) (Nat.le_of_ble_eq_true rfl) pu_V (by decide) dX17_ends_189 (fun _ σ2 => ?_)
    exact g_return rfl dX17_ends_192
def V.Mdl_ends_p155  (σ : HS) (x0 : Nat) (x3 : Int64) (x5 : Int32) : Option ((Nat ⊕ Unit) × HS) :=
  if x5 = 0 then (
    ck (tg σ x0 = 18) <|
    ck (tg σ x0 = 18) <| clT (Mdl_stops σ x0 (29 : Int32) (gI σ x0 31)) fun _ σ1 =>
    Mdl_ends_p170 σ1 x0 x3)
  else (
    Mdl_ends_p170 σ x0 x3)
theorem V.gX17_ends_p155 {X : CX}  (σ : HS) (x0 : Nat) (x3 : Int64) (x5 : Int32) : G X RX17 "ends" cX17_ends 7 none 3 69 (enX enV (cxz X)) 155 [(0, av x0), (3, jv x3), (5, iv x5)] [] σ (Mdl_ends_p155 σ x0 x3 x5) := by
  unfold Mdl_ends_p155
  refine g_iload 2 dX17_ends_155 rfl ?_
  refine g_if_ne 170 dX17_ends_157 (by decide) ?_ ?_
  · refine G.sub [0, 1] rfl ?_
    exact gX17_ends_p170 _ _ _
  · refine g_aload_n 0 0 dX17_ends_160 rfl rfl ?_
    refine g_bipush (v := 29) dX17_ends_161 (by decide) ?_
    refine g_aload_n 0 0 dX17_ends_163 rfl rfl ?_
    refine g_getI fdX17_686 dX17_ends_164 ?_
    refine g_callVT (fc := fun sς => Mdl_stops sς x0 (29 : Int32) (gI σ x0 31)) (ci := 17) (as := [iv (29 : Int32), iv (gI σ x0 31)]) rfl rfl rfl q3606 qs214 q3604 mdX17_257 (ctX17_stops x0 (29 : Int32) (gI σ x0 31)) rfl (Nat.le_of_ble_eq_true rfl) (Nat.le_of_ble_eq_true rfl) (Nat.le_of_ble_eq_true rfl) pu_V (by decide) dX17_ends_167 (fun _ σ1 => ?_)
    refine G.sub [0, 1] rfl ?_
    exact gX17_ends_p170 _ _ _
def V.Mdl_ends_p147 (rec100 : HS → Nat → Int32 → Int64 → Int32 → Int32 → Option ((Nat ⊕ Unit) × HS)) (σ : HS) (x0 : Nat) (x2 : Int32) (x3 : Int64) (x6 : Int32) (s0 : Int32) : Option ((Nat ⊕ Unit) × HS) :=
  bn (x6 + (1 : Int32)) fun y1 =>
  rec100 σ x0 x2 x3 s0 y1
theorem V.gX17_ends_p147 {X : CX} (rec100 : HS → Nat → Int32 → Int64 → Int32 → Int32 → Option ((Nat ⊕ Unit) × HS)) (hrec100 : ∀ (σ : HS) (x0 : Nat) (x2 : Int32) (x3 : Int64) (x5 : Int32) (x6 : Int32), G X RX17 "ends" cX17_ends 7 none 3 69 (enX enV (cxz X)) 100 [(0, av x0), (2, iv x2), (3, jv x3), (5, iv x5), (6, iv x6)] [] σ (rec100 σ x0 x2 x3 x5 x6)) (σ : HS) (x0 : Nat) (x2 : Int32) (x3 : Int64) (x6 : Int32) (s0 : Int32) : G X RX17 "ends" cX17_ends 7 none 3 69 (enX enV (cxz X)) 147 [(0, av x0), (2, iv x2), (3, jv x3), (6, iv x6)] [iv s0] σ (Mdl_ends_p147 rec100 σ x0 x2 x3 x6 s0) := by
  unfold Mdl_ends_p147
  refine g_istore dX17_ends_147 (by decide) rfl ?_
  refine g_iincB (w := 1) 4 dX17_ends_149 rfl (by decide) (by decide) (fun _ => rfl) (fun y1 => ?_)
  refine g_goto 100 dX17_ends_152 (by decide) ?_
  refine G.sub [2, 3, 4, 1, 0] rfl ?_
  exact hrec100 _ _ _ _ _ _
def V.Mdl_ends_p100  : Nat → HS → Nat → Int32 → Int64 → Int32 → Int32 → Option ((Nat ⊕ Unit) × HS)
  | 0, _, _, _, _, _, _ => none
  | n + 1, σ, x0, x2, x3, x5, x6 =>
    ck (tg σ x0 = 18) <| cl (Mdl_parametersOf σ x0 x3) fun r2 σ1 =>
    if r2 ≤ x6 then (
      Mdl_ends_p155 σ1 x0 x3 x5)
    else (
      if x5 = 0 then (
        Mdl_ends_p155 σ1 x0 x3 x5)
      else (
        ck (tg σ1 x0 = 18) <|
        ck (tg σ1 (gR σ1 x0 25) = 100 ∧ inb x2 (ln σ1 (gR σ1 x0 25))) <|
        if (gI σ1 (gR σ1 x0 25) (ix x2)) = (4 : Int32) then (
          ck (tg σ1 x0 = 18) <| cl (Mdl_parameterAt σ1 x0 x3 x6) fun r4 σ3 =>
          ck (tg σ3 x0 = 18) <| cl (Mdl_resultAt σ3 x0 x3 x6) fun r6 σ5 =>
          if r4 = r6 then (
            Mdl_ends_p147 (Mdl_ends_p100 n) σ5 x0 x2 x3 x6 (1 : Int32))
          else (
            Mdl_ends_p147 (Mdl_ends_p100 n) σ5 x0 x2 x3 x6 (0 : Int32)))
        else (
          Mdl_ends_p155 σ1 x0 x3 x5)))
theorem V.gX17_ends_p100 {X : CX}  : ∀ (n : Nat) (σ : HS) (x0 : Nat) (x2 : Int32) (x3 : Int64) (x5 : Int32) (x6 : Int32), G X RX17 "ends" cX17_ends 7 none 3 69 (enX enV (cxz X)) 100 [(0, av x0), (2, iv x2), (3, jv x3), (5, iv x5), (6, iv x6)] [] σ (Mdl_ends_p100 n σ x0 x2 x3 x5 x6)
  | 0, σ, x0, x2, x3, x5, x6 => by rw [Mdl_ends_p100]; exact G.nul
  | n + 1, σ, x0, x2, x3, x5, x6 => by
    rw [Mdl_ends_p100]
    refine g_iload 4 dX17_ends_100 rfl ?_
    refine g_aload_n 0 0 dX17_ends_102 rfl rfl ?_
    refine g_lload_n 3 2 dX17_ends_103 rfl rfl ?_
    refine g_callV (fc := fun sς => Mdl_parametersOf sς x0 x3) (ci := 17) (as := [jv x3]) rfl rfl rfl q3923 qs271 mdX17_689 (ctX17_parametersOf x0 x3) rfl (Nat.le_of_ble_eq_true rfl) (Nat.le_of_ble_eq_true rfl) (Nat.le_of_ble_eq_true rfl) pu_I dX17_ends_104 (fun r2 σ1 => ?_)
    refine g_icmp_ge 155 dX17_ends_107 (by decide) ?_ ?_
    · refine G.sub [0, 2, 3] rfl ?_
      exact gX17_ends_p155 _ _ _ _
    · refine g_iload 3 dX17_ends_110 rfl ?_
      refine g_if_eq 155 dX17_ends_112 (by decide) ?_ ?_
      · refine G.sub [0, 2, 3] rfl ?_
        exact gX17_ends_p155 _ _ _ _
      · refine g_aload_n 0 0 dX17_ends_115 rfl rfl ?_
        refine g_getR fdX17_42 dX17_ends_116 ?_
        refine g_iload_n 2 1 dX17_ends_119 rfl rfl ?_
        refine g_iaload dX17_ends_120 ?_
        refine g_iconst (v := 4) dX17_ends_121 (by decide) ?_
        refine g_icmp_ne 155 dX17_ends_122 (by decide) ?_ ?_
        · refine G.sub [0, 2, 3] rfl ?_
          exact gX17_ends_p155 _ _ _ _
        · refine g_aload_n 0 0 dX17_ends_125 rfl rfl ?_
          refine g_lload_n 3 2 dX17_ends_126 rfl rfl ?_
          refine g_iload 4 dX17_ends_127 rfl ?_
          refine g_callV (fc := fun sς => Mdl_parameterAt sς x0 x3 x6) (ci := 17) (as := [jv x3, iv x6]) rfl rfl rfl q3927 qs272 mdX17_678 (ctX17_parameterAt x0 x3 x6) rfl (Nat.le_of_ble_eq_true rfl) (Nat.le_of_ble_eq_true rfl) (Nat.le_of_ble_eq_true rfl) pu_I dX17_ends_129 (fun r4 σ3 => ?_)
          refine g_aload_n 0 0 dX17_ends_132 rfl rfl ?_
          refine g_lload_n 3 2 dX17_ends_133 rfl rfl ?_
          refine g_iload 4 dX17_ends_134 rfl ?_
          refine g_callV (fc := fun sς => Mdl_resultAt sς x0 x3 x6) (ci := 17) (as := [jv x3, iv x6]) rfl rfl rfl q3948 qs277 mdX17_701 (ctX17_resultAt x0 x3 x6) rfl (Nat.le_of_ble_eq_true rfl) (Nat.le_of_ble_eq_true rfl) (Nat.le_of_ble_eq_true rfl) pu_I dX17_ends_136 (fun r6 σ5 => ?_)
          refine g_icmp_ne 146 dX17_ends_139 (by decide) ?_ ?_
          · refine g_iconst (v := 0) dX17_ends_146 (by decide) ?_
            refine G.sub [0, 1, 2, 4] rfl ?_
            exact gX17_ends_p147 (Mdl_ends_p100 n) (gX17_ends_p100 n) _ _ _ _ _ _
          · refine g_iconst (v := 1) dX17_ends_142 (by decide) ?_
            refine g_goto 147 dX17_ends_143 (by decide) ?_
            refine G.sub [0, 1, 2, 4] rfl ?_
            exact gX17_ends_p147 (Mdl_ends_p100 n) (gX17_ends_p100 n) _ _ _ _ _ _
def V.Mdl_ends_p95  (σ : HS) (x0 : Nat) (x2 : Int32) (x3 : Int64) (s0 : Int32) : Option ((Nat ⊕ Unit) × HS) :=
  Mdl_ends_p100 FU σ x0 x2 x3 s0 (0 : Int32)
theorem V.gX17_ends_p95 {X : CX}  (σ : HS) (x0 : Nat) (x2 : Int32) (x3 : Int64) (s0 : Int32) : G X RX17 "ends" cX17_ends 7 none 3 69 (enX enV (cxz X)) 95 [(0, av x0), (2, iv x2), (3, jv x3)] [iv s0] σ (Mdl_ends_p95 σ x0 x2 x3 s0) := by
  unfold Mdl_ends_p95
  refine g_istore dX17_ends_95 (by decide) rfl ?_
  refine g_iconst (v := 0) dX17_ends_97 (by decide) ?_
  refine g_istore dX17_ends_98 (by decide) rfl ?_
  refine G.sub [2, 3, 4, 1, 0] rfl ?_
  exact gX17_ends_p100 FU _ _ _ _ _ _
def V.Mdl_ends_p90  (σ : HS) (x0 : Nat) (x2 : Int32) (x3 : Int64) : Option ((Nat ⊕ Unit) × HS) :=
  Mdl_ends_p95 σ x0 x2 x3 (1 : Int32)
theorem V.gX17_ends_p90 {X : CX}  (σ : HS) (x0 : Nat) (x2 : Int32) (x3 : Int64) : G X RX17 "ends" cX17_ends 7 none 3 69 (enX enV (cxz X)) 90 [(0, av x0), (2, iv x2), (3, jv x3)] [] σ (Mdl_ends_p90 σ x0 x2 x3) := by
  unfold Mdl_ends_p90
  refine g_iconst (v := 1) dX17_ends_90 (by decide) ?_
  refine g_goto 95 dX17_ends_91 (by decide) ?_
  exact gX17_ends_p95 _ _ _ _ _
def V.Mdl_ends_p42  (σ : HS) (x0 : Nat) (x1 : Int32) (x2 : Int32) (x3 : Int64) : Option ((Nat ⊕ Unit) × HS) :=
  if x1 = (5 : Int32) then (
    ck (tg σ x0 = 18) <|
    ck (tg σ (gR σ x0 25) = 100 ∧ inb x2 (ln σ (gR σ x0 25))) <| bn (sI σ (gR σ x0 25) (ix x2) (5 : Int32)) fun σ5 =>
    ck (tg σ5 x0 = 18) <|
    ck (tg σ5 (gR σ5 x0 28) = 103 ∧ inb x2 (ln σ5 (gR σ5 x0 28)) ∧ zb (0 : Int32)) <| bn (sI σ5 (gR σ5 x0 28) (ix x2) (0 : Int32)) fun σ6 =>
    ck (tg σ6 x0 = 18) <| clT (Mdl_putParameters σ6 x0 x3) fun _ σ7 =>
    some (.inr (), σ7))
  else (
    ck (tg σ x0 = 18) <|
    ck (tg σ (gR σ x0 25) = 100 ∧ inb x2 (ln σ (gR σ x0 25))) <|
    if (gI σ (gR σ x0 25) (ix x2)) = (4 : Int32) then (
      ck (tg σ x0 = 18) <| cl (Mdl_parametersOf σ x0 x3) fun r2 σ1 =>
      ck (tg σ1 x0 = 18) <| cl (Mdl_resultsOf σ1 x0 x3) fun r4 σ3 =>
      if r2 = r4 then (
        Mdl_ends_p90 σ3 x0 x2 x3)
      else (
        Mdl_ends_p95 σ3 x0 x2 x3 (0 : Int32)))
    else (
      Mdl_ends_p90 σ x0 x2 x3))
theorem V.gX17_ends_p42 {X : CX}  (σ : HS) (x0 : Nat) (x1 : Int32) (x2 : Int32) (x3 : Int64) : G X RX17 "ends" cX17_ends 7 none 3 69 (enX enV (cxz X)) 42 [(0, av x0), (1, iv x1), (2, iv x2), (3, jv x3)] [] σ (Mdl_ends_p42 σ x0 x1 x2 x3) := by
  unfold Mdl_ends_p42
  refine g_iload_n 1 1 dX17_ends_42 rfl rfl ?_
  refine g_iconst (v := 5) dX17_ends_43 (by decide) ?_
  refine g_icmp_ne 67 dX17_ends_44 (by decide) ?_ ?_
  · refine g_aload_n 0 0 dX17_ends_67 rfl rfl ?_
    refine g_getR fdX17_42 dX17_ends_68 ?_
    refine g_iload_n 2 2 dX17_ends_71 rfl rfl ?_
    refine g_iaload dX17_ends_72 ?_
    refine g_iconst (v := 4) dX17_ends_73 (by decide) ?_
    refine g_icmp_ne 90 dX17_ends_74 (by decide) ?_ ?_
    · refine G.sub [0, 2, 3] rfl ?_
      exact gX17_ends_p90 _ _ _ _
    · refine g_aload_n 0 0 dX17_ends_77 rfl rfl ?_
      refine g_lload_n 3 3 dX17_ends_78 rfl rfl ?_
      refine g_callV (fc := fun sς => Mdl_parametersOf sς x0 x3) (ci := 17) (as := [jv x3]) rfl rfl rfl q3923 qs271 mdX17_689 (ctX17_parametersOf x0 x3) rfl (Nat.le_of_ble_eq_true rfl) (Nat.le_of_ble_eq_true rfl) (Nat.le_of_ble_eq_true rfl) pu_I dX17_ends_79 (fun r2 σ1 => ?_)
      refine g_aload_n 0 0 dX17_ends_82 rfl rfl ?_
      refine g_lload_n 3 3 dX17_ends_83 rfl rfl ?_
      refine g_callV (fc := fun sς => Mdl_resultsOf sς x0 x3) (ci := 17) (as := [jv x3]) rfl rfl rfl q3943 qs276 mdX17_698 (ctX17_resultsOf x0 x3) rfl (Nat.le_of_ble_eq_true rfl) (Nat.le_of_ble_eq_true rfl) (Nat.le_of_ble_eq_true rfl) pu_I dX17_ends_84 (fun r4 σ3 => ?_)
      refine g_icmp_ne 94 dX17_ends_87 (by decide) ?_ ?_
      · refine g_iconst (v := 0) dX17_ends_94 (by decide) ?_
        refine G.sub [0, 2, 3] rfl ?_
        exact gX17_ends_p95 _ _ _ _ _
      · refine G.sub [0, 2, 3] rfl ?_
        exact gX17_ends_p90 _ _ _ _
  · refine g_aload_n 0 0 dX17_ends_47 rfl rfl ?_
    refine g_getR fdX17_42 dX17_ends_48 ?_
    refine g_iload_n 2 2 dX17_ends_51 rfl rfl ?_
    refine g_iconst (v := 5) dX17_ends_52 (by decide) ?_
    refine g_iastore dX17_ends_53 (fun σ5 => ?_)
    refine g_aload_n 0 0 dX17_ends_54 rfl rfl ?_
    refine g_getR fdX17_52 dX17_ends_55 ?_
    refine g_iload_n 2 2 dX17_ends_58 rfl rfl ?_
    refine g_iconst (v := 0) dX17_ends_59 (by decide) ?_
    refine g_zastore dX17_ends_60 (fun σ6 => ?_)
    refine g_aload_n 0 0 dX17_ends_61 rfl rfl ?_
    refine g_lload_n 3 3 dX17_ends_62 rfl rfl ?_
    refine g_callVT (fc := fun sς => Mdl_putParameters sς x0 x3) (ci := 17) (as := [jv x3]) rfl rfl rfl q3931 qs273 q3929 mdX17_768 (ctX17_putParameters x0 x3) rfl (Nat.le_of_ble_eq_true rfl) (Nat.le_of_ble_eq_true rfl) (Nat.le_of_ble_eq_true rfl) pu_V (by decide) dX17_ends_63 (fun _ σ7 => ?_)
    exact g_return rfl dX17_ends_66
def V.Mdl_ends (σ : HS) (x0 : Nat) (x1 : Int32) : Option ((Nat ⊕ Unit) × HS) :=
  ck (tg σ x0 = 18) <|
  bn ((gI σ x0 24) - (1 : Int32)) fun y1 =>
  ck (tg σ x0 = 18) <|
  ck (tg σ (gR σ x0 26) = 101 ∧ inb y1 (ln σ (gR σ x0 26))) <|
  bn (gJ σ (gR σ x0 26) (ix y1)) fun y2 =>
  ck (tg σ x0 = 18) <| clT (Mdl_takeResults σ x0 y2) fun _ σ3 =>
  ck (tg σ3 x0 = 18) <|
  ck (tg σ3 x0 = 18) <|
  ck (tg σ3 (gR σ3 x0 27) = 100 ∧ inb y1 (ln σ3 (gR σ3 x0 27))) <|
  if (gI σ3 x0 23) = (gI σ3 (gR σ3 x0 27) (ix y1)) then (
    Mdl_ends_p42 σ3 x0 x1 y1 y2)
  else (
    ck (tg σ3 x0 = 18) <|
    ck (tg σ3 x0 = 18) <| clT (Mdl_stops σ3 x0 (29 : Int32) (gI σ3 x0 31)) fun _ σ4 =>
    Mdl_ends_p42 σ4 x0 x1 y1 y2)
theorem V.ctX17_ends (x0 : Nat) (x1 : Int32) : Ct yX17_ends  cX17_ends 7 none 3 69 eXV [av x0, iv x1] (fun σ => Mdl_ends σ x0 x1) := by
  refine Ct.of (own := RX17) (nm := "ends") (desc := "(I)V") rfl (by decide) (Nat.le_of_ble_eq_true rfl) (by decide) (fun X σ => ?_)
  show G X RX17 "ends" cX17_ends 7 none 3 69 (enX enV (cxz X)) 0 [(0, av x0), (1, iv x1)] [] σ (Mdl_ends σ x0 x1)
  unfold Mdl_ends
  refine g_aload_n 0 0 dX17_ends_0 rfl rfl ?_
  refine g_getI fdX17_682 dX17_ends_1 ?_
  refine g_iconst (v := 1) dX17_ends_4 (by decide) ?_
  refine g_isub dX17_ends_5 ?_
  refine g_nmI (fun y1 => ?_)
  refine g_istore_n 2 dX17_ends_6 rfl (by decide) rfl ?_
  refine g_aload_n 0 1 dX17_ends_7 rfl rfl ?_
  refine g_getR fdX17_45 dX17_ends_8 ?_
  refine g_iload_n 2 0 dX17_ends_11 rfl rfl ?_
  refine g_laload dX17_ends_12 ?_
  refine g_nmJ (fun y2 => ?_)
  refine g_lstore_n 3 dX17_ends_13 rfl (by decide) rfl ?_
  refine g_aload_n 0 2 dX17_ends_14 rfl rfl ?_
  refine g_lload_n 3 0 dX17_ends_15 rfl rfl ?_
  refine g_callVT (fc := fun sς => Mdl_takeResults sς x0 y2) (ci := 17) (as := [jv y2]) rfl rfl rfl q3939 qs275 q3937 mdX17_780 (ctX17_takeResults x0 y2) rfl (Nat.le_of_ble_eq_true rfl) (Nat.le_of_ble_eq_true rfl) (Nat.le_of_ble_eq_true rfl) pu_V (by decide) dX17_ends_16 (fun _ σ3 => ?_)
  refine g_aload_n 0 2 dX17_ends_19 rfl rfl ?_
  refine g_getI fdX17_685 dX17_ends_20 ?_
  refine g_aload_n 0 2 dX17_ends_23 rfl rfl ?_
  refine g_getR fdX17_49 dX17_ends_24 ?_
  refine g_iload_n 2 1 dX17_ends_27 rfl rfl ?_
  refine g_iaload dX17_ends_28 ?_
  refine g_icmp_eq 42 dX17_ends_29 (by decide) ?_ ?_
  · refine G.sub [2, 3, 1, 0] rfl ?_
    exact gX17_ends_p42 _ _ _ _ _
  · refine g_aload_n 0 2 dX17_ends_32 rfl rfl ?_
    refine g_bipush (v := 29) dX17_ends_33 (by decide) ?_
    refine g_aload_n 0 2 dX17_ends_35 rfl rfl ?_
    refine g_getI fdX17_686 dX17_ends_36 ?_
    refine g_callVT (fc := fun sς => Mdl_stops sς x0 (29 : Int32) (gI σ3 x0 31)) (ci := 17) (as := [iv (29 : Int32), iv (gI σ3 x0 31)]) rfl rfl rfl q3606 qs214 q3604 mdX17_257 (ctX17_stops x0 (29 : Int32) (gI σ3 x0 31)) rfl (Nat.le_of_ble_eq_true rfl) (Nat.le_of_ble_eq_true rfl) (Nat.le_of_ble_eq_true rfl) pu_V (by decide) dX17_ends_39 (fun _ σ4 => ?_)
    refine G.sub [2, 3, 1, 0] rfl ?_
    exact gX17_ends_p42 _ _ _ _ _
theorem V.dX17_wantedBy_0 : decode cX17_wantedBy 0 = .ok (.aload_n 0, 1) := by decide +kernel
theorem V.dX17_wantedBy_1 : decode cX17_wantedBy 1 = .ok (.getfield 682, 3) := by decide +kernel
theorem V.dX17_wantedBy_4 : decode cX17_wantedBy 4 = .ok (.iconst 1, 1) := by decide +kernel
theorem V.dX17_wantedBy_5 : decode cX17_wantedBy 5 = .ok (.isub, 1) := by decide +kernel
theorem V.dX17_wantedBy_6 : decode cX17_wantedBy 6 = .ok (.iload_n 1, 1) := by decide +kernel
theorem V.dX17_wantedBy_7 : decode cX17_wantedBy 7 = .ok (.isub, 1) := by decide +kernel
theorem V.dX17_wantedBy_8 : decode cX17_wantedBy 8 = .ok (.istore_n 2, 1) := by decide +kernel
theorem V.dX17_wantedBy_9 : decode cX17_wantedBy 9 = .ok (.aload_n 0, 1) := by decide +kernel
theorem V.dX17_wantedBy_10 : decode cX17_wantedBy 10 = .ok (.getfield 42, 3) := by decide +kernel
theorem V.dX17_wantedBy_13 : decode cX17_wantedBy 13 = .ok (.iload_n 2, 1) := by decide +kernel
theorem V.dX17_wantedBy_14 : decode cX17_wantedBy 14 = .ok (.iaload, 1) := by decide +kernel
theorem V.dX17_wantedBy_15 : decode cX17_wantedBy 15 = .ok (.iconst 3, 1) := by decide +kernel
theorem V.dX17_wantedBy_16 : decode cX17_wantedBy 16 = .ok (.if_icmp .ne 16, 3) := by decide +kernel
theorem V.dX17_wantedBy_19 : decode cX17_wantedBy 19 = .ok (.aload_n 0, 1) := by decide +kernel
theorem V.dX17_wantedBy_20 : decode cX17_wantedBy 20 = .ok (.aload_n 0, 1) := by decide +kernel
theorem V.dX17_wantedBy_21 : decode cX17_wantedBy 21 = .ok (.getfield 45, 3) := by decide +kernel
theorem V.dX17_wantedBy_24 : decode cX17_wantedBy 24 = .ok (.iload_n 2, 1) := by decide +kernel
theorem V.dX17_wantedBy_25 : decode cX17_wantedBy 25 = .ok (.laload, 1) := by decide +kernel
theorem V.dX17_wantedBy_26 : decode cX17_wantedBy 26 = .ok (.invokevirtual 689, 3) := by decide +kernel
theorem V.dX17_wantedBy_29 : decode cX17_wantedBy 29 = .ok (.goto 13, 3) := by decide +kernel
theorem V.dX17_wantedBy_32 : decode cX17_wantedBy 32 = .ok (.aload_n 0, 1) := by decide +kernel
theorem V.dX17_wantedBy_33 : decode cX17_wantedBy 33 = .ok (.aload_n 0, 1) := by decide +kernel
theorem V.dX17_wantedBy_34 : decode cX17_wantedBy 34 = .ok (.getfield 45, 3) := by decide +kernel
theorem V.dX17_wantedBy_37 : decode cX17_wantedBy 37 = .ok (.iload_n 2, 1) := by decide +kernel
theorem V.dX17_wantedBy_38 : decode cX17_wantedBy 38 = .ok (.laload, 1) := by decide +kernel
theorem V.dX17_wantedBy_39 : decode cX17_wantedBy 39 = .ok (.invokevirtual 698, 3) := by decide +kernel
theorem V.dX17_wantedBy_42 : decode cX17_wantedBy 42 = .ok (.ireturn, 1) := by decide +kernel
/-! ModuleEngineModel.wantedBy(I)I -/
def V.Mdl_wantedBy (σ : HS) (x0 : Nat) (x1 : Int32) : Option (Int32 × HS) :=
  ck (tg σ x0 = 18) <|
  bn (((gI σ x0 24) - (1 : Int32)) - x1) fun y1 =>
  ck (tg σ x0 = 18) <|
  ck (tg σ (gR σ x0 25) = 100 ∧ inb y1 (ln σ (gR σ x0 25))) <|
  if (gI σ (gR σ x0 25) (ix y1)) = (3 : Int32) then (
    ck (tg σ x0 = 18) <|
    ck (tg σ (gR σ x0 26) = 101 ∧ inb y1 (ln σ (gR σ x0 26))) <|
    ck (tg σ x0 = 18) <| cl (Mdl_parametersOf σ x0 (gJ σ (gR σ x0 26) (ix y1))) fun r5 σ4 =>
    some (r5, σ4))
  else (
    ck (tg σ x0 = 18) <|
    ck (tg σ (gR σ x0 26) = 101 ∧ inb y1 (ln σ (gR σ x0 26))) <|
    ck (tg σ x0 = 18) <| cl (Mdl_resultsOf σ x0 (gJ σ (gR σ x0 26) (ix y1))) fun r3 σ2 =>
    some (r3, σ2))
theorem V.ctX17_wantedBy (x0 : Nat) (x1 : Int32) : Ct yX17_wantedBy  cX17_wantedBy 3 (some .int) 1 22 eI [av x0, iv x1] (fun σ => Mdl_wantedBy σ x0 x1) := by
  refine Ct.of (own := RX17) (nm := "wantedBy") (desc := "(I)I") rfl (by decide) (Nat.le_of_ble_eq_true rfl) (by decide) (fun X σ => ?_)
  show G X RX17 "wantedBy" cX17_wantedBy 3 (some .int) 1 22 enI 0 [(0, av x0), (1, iv x1)] [] σ (Mdl_wantedBy σ x0 x1)
  unfold Mdl_wantedBy
  refine g_aload_n 0 0 dX17_wantedBy_0 rfl rfl ?_
  refine g_getI fdX17_682 dX17_wantedBy_1 ?_
  refine g_iconst (v := 1) dX17_wantedBy_4 (by decide) ?_
  refine g_isub dX17_wantedBy_5 ?_
  refine g_iload_n 1 1 dX17_wantedBy_6 rfl rfl ?_
  refine g_isub dX17_wantedBy_7 ?_
  refine g_nmI (fun y1 => ?_)
  refine g_istore_n 2 dX17_wantedBy_8 rfl (by decide) rfl ?_
  refine g_aload_n 0 1 dX17_wantedBy_9 rfl rfl ?_
  refine g_getR fdX17_42 dX17_wantedBy_10 ?_
  refine g_iload_n 2 0 dX17_wantedBy_13 rfl rfl ?_
  refine g_iaload dX17_wantedBy_14 ?_
  refine g_iconst (v := 3) dX17_wantedBy_15 (by decide) ?_
  refine g_icmp_ne 32 dX17_wantedBy_16 (by decide) ?_ ?_
  · refine g_aload_n 0 1 dX17_wantedBy_32 rfl rfl ?_
    refine g_aload_n 0 1 dX17_wantedBy_33 rfl rfl ?_
    refine g_getR fdX17_45 dX17_wantedBy_34 ?_
    refine g_iload_n 2 0 dX17_wantedBy_37 rfl rfl ?_
    refine g_laload dX17_wantedBy_38 ?_
    refine g_callV (fc := fun sς => Mdl_resultsOf sς x0 (gJ σ (gR σ x0 26) (ix y1))) (ci := 17) (as := [jv (gJ σ (gR σ x0 26) (ix y1))]) rfl rfl rfl q3943 qs276 mdX17_698 (ctX17_resultsOf x0 (gJ σ (gR σ x0 26) (ix y1))) rfl (Nat.le_of_ble_eq_true rfl) (Nat.le_of_ble_eq_true rfl) (Nat.le_of_ble_eq_true rfl) pu_I dX17_wantedBy_39 (fun r3 σ2 => ?_)
    exact g_ireturn rfl dX17_wantedBy_42
  · refine g_aload_n 0 1 dX17_wantedBy_19 rfl rfl ?_
    refine g_aload_n 0 1 dX17_wantedBy_20 rfl rfl ?_
    refine g_getR fdX17_45 dX17_wantedBy_21 ?_
    refine g_iload_n 2 0 dX17_wantedBy_24 rfl rfl ?_
    refine g_laload dX17_wantedBy_25 ?_
    refine g_callV (fc := fun sς => Mdl_parametersOf sς x0 (gJ σ (gR σ x0 26) (ix y1))) (ci := 17) (as := [jv (gJ σ (gR σ x0 26) (ix y1))]) rfl rfl rfl q3923 qs271 mdX17_689 (ctX17_parametersOf x0 (gJ σ (gR σ x0 26) (ix y1))) rfl (Nat.le_of_ble_eq_true rfl) (Nat.le_of_ble_eq_true rfl) (Nat.le_of_ble_eq_true rfl) pu_I dX17_wantedBy_26 (fun r5 σ4 => ?_)
    refine g_goto 42 dX17_wantedBy_29 (by decide) ?_
    exact g_ireturn rfl dX17_wantedBy_42
theorem V.dX17_wantedAt_0 : decode cX17_wantedAt 0 = .ok (.aload_n 0, 1) := by decide +kernel
theorem V.dX17_wantedAt_1 : decode cX17_wantedAt 1 = .ok (.getfield 682, 3) := by decide +kernel
theorem V.dX17_wantedAt_4 : decode cX17_wantedAt 4 = .ok (.iconst 1, 1) := by decide +kernel
theorem V.dX17_wantedAt_5 : decode cX17_wantedAt 5 = .ok (.isub, 1) := by decide +kernel
theorem V.dX17_wantedAt_6 : decode cX17_wantedAt 6 = .ok (.iload_n 1, 1) := by decide +kernel
theorem V.dX17_wantedAt_7 : decode cX17_wantedAt 7 = .ok (.isub, 1) := by decide +kernel
theorem V.dX17_wantedAt_8 : decode cX17_wantedAt 8 = .ok (.istore_n 3, 1) := by decide +kernel
theorem V.dX17_wantedAt_9 : decode cX17_wantedAt 9 = .ok (.aload_n 0, 1) := by decide +kernel
theorem V.dX17_wantedAt_10 : decode cX17_wantedAt 10 = .ok (.getfield 42, 3) := by decide +kernel
theorem V.dX17_wantedAt_13 : decode cX17_wantedAt 13 = .ok (.iload_n 3, 1) := by decide +kernel
theorem V.dX17_wantedAt_14 : decode cX17_wantedAt 14 = .ok (.iaload, 1) := by decide +kernel
theorem V.dX17_wantedAt_15 : decode cX17_wantedAt 15 = .ok (.iconst 3, 1) := by decide +kernel
theorem V.dX17_wantedAt_16 : decode cX17_wantedAt 16 = .ok (.if_icmp .ne 17, 3) := by decide +kernel
theorem V.dX17_wantedAt_19 : decode cX17_wantedAt 19 = .ok (.aload_n 0, 1) := by decide +kernel
theorem V.dX17_wantedAt_20 : decode cX17_wantedAt 20 = .ok (.aload_n 0, 1) := by decide +kernel
theorem V.dX17_wantedAt_21 : decode cX17_wantedAt 21 = .ok (.getfield 45, 3) := by decide +kernel
theorem V.dX17_wantedAt_24 : decode cX17_wantedAt 24 = .ok (.iload_n 3, 1) := by decide +kernel
theorem V.dX17_wantedAt_25 : decode cX17_wantedAt 25 = .ok (.laload, 1) := by decide +kernel
theorem V.dX17_wantedAt_26 : decode cX17_wantedAt 26 = .ok (.iload_n 2, 1) := by decide +kernel
theorem V.dX17_wantedAt_27 : decode cX17_wantedAt 27 = .ok (.invokevirtual 678, 3) := by decide +kernel
theorem V.dX17_wantedAt_30 : decode cX17_wantedAt 30 = .ok (.goto 14, 3) := by decide +kernel
theorem V.dX17_wantedAt_33 : decode cX17_wantedAt 33 = .ok (.aload_n 0, 1) := by decide +kernel
theorem V.dX17_wantedAt_34 : decode cX17_wantedAt 34 = .ok (.aload_n 0, 1) := by decide +kernel
theorem V.dX17_wantedAt_35 : decode cX17_wantedAt 35 = .ok (.getfield 45, 3) := by decide +kernel
theorem V.dX17_wantedAt_38 : decode cX17_wantedAt 38 = .ok (.iload_n 3, 1) := by decide +kernel
theorem V.dX17_wantedAt_39 : decode cX17_wantedAt 39 = .ok (.laload, 1) := by decide +kernel
theorem V.dX17_wantedAt_40 : decode cX17_wantedAt 40 = .ok (.iload_n 2, 1) := by decide +kernel
theorem V.dX17_wantedAt_41 : decode cX17_wantedAt 41 = .ok (.invokevirtual 701, 3) := by decide +kernel
theorem V.dX17_wantedAt_44 : decode cX17_wantedAt 44 = .ok (.ireturn, 1) := by decide +kernel
/-! ModuleEngineModel.wantedAt(II)I -/
def V.Mdl_wantedAt (σ : HS) (x0 : Nat) (x1 : Int32) (x2 : Int32) : Option (Int32 × HS) :=
  ck (tg σ x0 = 18) <|
  bn (((gI σ x0 24) - (1 : Int32)) - x1) fun y1 =>
  ck (tg σ x0 = 18) <|
  ck (tg σ (gR σ x0 25) = 100 ∧ inb y1 (ln σ (gR σ x0 25))) <|
  if (gI σ (gR σ x0 25) (ix y1)) = (3 : Int32) then (
    ck (tg σ x0 = 18) <|
    ck (tg σ (gR σ x0 26) = 101 ∧ inb y1 (ln σ (gR σ x0 26))) <|
    ck (tg σ x0 = 18) <| cl (Mdl_parameterAt σ x0 (gJ σ (gR σ x0 26) (ix y1)) x2) fun r5 σ4 =>
    some (r5, σ4))
  else (
    ck (tg σ x0 = 18) <|
    ck (tg σ (gR σ x0 26) = 101 ∧ inb y1 (ln σ (gR σ x0 26))) <|
    ck (tg σ x0 = 18) <| cl (Mdl_resultAt σ x0 (gJ σ (gR σ x0 26) (ix y1)) x2) fun r3 σ2 =>
    some (r3, σ2))
theorem V.ctX17_wantedAt (x0 : Nat) (x1 : Int32) (x2 : Int32) : Ct yX17_wantedAt  cX17_wantedAt 4 (some .int) 1 23 eI [av x0, iv x1, iv x2] (fun σ => Mdl_wantedAt σ x0 x1 x2) := by
  refine Ct.of (own := RX17) (nm := "wantedAt") (desc := "(II)I") rfl (by decide) (Nat.le_of_ble_eq_true rfl) (by decide) (fun X σ => ?_)
  show G X RX17 "wantedAt" cX17_wantedAt 4 (some .int) 1 23 enI 0 [(0, av x0), (1, iv x1), (2, iv x2)] [] σ (Mdl_wantedAt σ x0 x1 x2)
  unfold Mdl_wantedAt
  refine g_aload_n 0 0 dX17_wantedAt_0 rfl rfl ?_
  refine g_getI fdX17_682 dX17_wantedAt_1 ?_
  refine g_iconst (v := 1) dX17_wantedAt_4 (by decide) ?_
  refine g_isub dX17_wantedAt_5 ?_
  refine g_iload_n 1 1 dX17_wantedAt_6 rfl rfl ?_
  refine g_isub dX17_wantedAt_7 ?_
  refine g_nmI (fun y1 => ?_)
  refine g_istore_n 3 dX17_wantedAt_8 rfl (by decide) rfl ?_
  refine g_aload_n 0 1 dX17_wantedAt_9 rfl rfl ?_
  refine g_getR fdX17_42 dX17_wantedAt_10 ?_
  refine g_iload_n 3 0 dX17_wantedAt_13 rfl rfl ?_
  refine g_iaload dX17_wantedAt_14 ?_
  refine g_iconst (v := 3) dX17_wantedAt_15 (by decide) ?_
  refine g_icmp_ne 33 dX17_wantedAt_16 (by decide) ?_ ?_
  · refine g_aload_n 0 1 dX17_wantedAt_33 rfl rfl ?_
    refine g_aload_n 0 1 dX17_wantedAt_34 rfl rfl ?_
    refine g_getR fdX17_45 dX17_wantedAt_35 ?_
    refine g_iload_n 3 0 dX17_wantedAt_38 rfl rfl ?_
    refine g_laload dX17_wantedAt_39 ?_
    refine g_iload_n 2 3 dX17_wantedAt_40 rfl rfl ?_
    refine g_callV (fc := fun sς => Mdl_resultAt sς x0 (gJ σ (gR σ x0 26) (ix y1)) x2) (ci := 17) (as := [jv (gJ σ (gR σ x0 26) (ix y1)), iv x2]) rfl rfl rfl q3948 qs277 mdX17_701 (ctX17_resultAt x0 (gJ σ (gR σ x0 26) (ix y1)) x2) rfl (Nat.le_of_ble_eq_true rfl) (Nat.le_of_ble_eq_true rfl) (Nat.le_of_ble_eq_true rfl) pu_I dX17_wantedAt_41 (fun r3 σ2 => ?_)
    exact g_ireturn rfl dX17_wantedAt_44
  · refine g_aload_n 0 1 dX17_wantedAt_19 rfl rfl ?_
    refine g_aload_n 0 1 dX17_wantedAt_20 rfl rfl ?_
    refine g_getR fdX17_45 dX17_wantedAt_21 ?_
    refine g_iload_n 3 0 dX17_wantedAt_24 rfl rfl ?_
    refine g_laload dX17_wantedAt_25 ?_
    refine g_iload_n 2 3 dX17_wantedAt_26 rfl rfl ?_
    refine g_callV (fc := fun sς => Mdl_parameterAt sς x0 (gJ σ (gR σ x0 26) (ix y1)) x2) (ci := 17) (as := [jv (gJ σ (gR σ x0 26) (ix y1)), iv x2]) rfl rfl rfl q3927 qs272 mdX17_678 (ctX17_parameterAt x0 (gJ σ (gR σ x0 26) (ix y1)) x2) rfl (Nat.le_of_ble_eq_true rfl) (Nat.le_of_ble_eq_true rfl) (Nat.le_of_ble_eq_true rfl) pu_I dX17_wantedAt_27 (fun r5 σ4 => ?_)
    refine g_goto 44 dX17_wantedAt_30 (by decide) ?_
    exact g_ireturn rfl dX17_wantedAt_44
theorem V.dX17_takeWanted_0 : decode cX17_takeWanted 0 = .ok (.aload_n 0, 1) := by decide +kernel
theorem V.dX17_takeWanted_1 : decode cX17_takeWanted 1 = .ok (.iload_n 1, 1) := by decide +kernel
theorem V.dX17_takeWanted_2 : decode cX17_takeWanted 2 = .ok (.invokevirtual 704, 3) := by decide +kernel
theorem V.dX17_takeWanted_5 : decode cX17_takeWanted 5 = .ok (.iconst 1, 1) := by decide +kernel
theorem V.dX17_takeWanted_6 : decode cX17_takeWanted 6 = .ok (.isub, 1) := by decide +kernel
theorem V.dX17_takeWanted_7 : decode cX17_takeWanted 7 = .ok (.istore_n 2, 1) := by decide +kernel
theorem V.dX17_takeWanted_8 : decode cX17_takeWanted 8 = .ok (.iload_n 2, 1) := by decide +kernel
theorem V.dX17_takeWanted_9 : decode cX17_takeWanted 9 = .ok (.ifCond .lt 20, 3) := by decide +kernel
theorem V.dX17_takeWanted_12 : decode cX17_takeWanted 12 = .ok (.aload_n 0, 1) := by decide +kernel
theorem V.dX17_takeWanted_13 : decode cX17_takeWanted 13 = .ok (.aload_n 0, 1) := by decide +kernel
theorem V.dX17_takeWanted_14 : decode cX17_takeWanted 14 = .ok (.iload_n 1, 1) := by decide +kernel
theorem V.dX17_takeWanted_15 : decode cX17_takeWanted 15 = .ok (.iload_n 2, 1) := by decide +kernel
theorem V.dX17_takeWanted_16 : decode cX17_takeWanted 16 = .ok (.invokevirtual 707, 3) := by decide +kernel
theorem V.dX17_takeWanted_19 : decode cX17_takeWanted 19 = .ok (.invokevirtual 692, 3) := by decide +kernel
theorem V.dX17_takeWanted_22 : decode cX17_takeWanted 22 = .ok (.istore_n 3, 1) := by decide +kernel
theorem V.dX17_takeWanted_23 : decode cX17_takeWanted 23 = .ok (.iinc 2 (-1), 3) := by decide +kernel
theorem V.dX17_takeWanted_26 : decode cX17_takeWanted 26 = .ok (.goto (-18), 3) := by decide +kernel
theorem V.dX17_takeWanted_29 : decode cX17_takeWanted 29 = .ok (.return_, 1) := by decide +kernel
theorem V.mdX17_704 : MD RX17 704 yX17_wantedBy cX17_wantedBy 3 (some .int) 1 := ⟨Or.inl q3958, q377, q3961, by decide, by decide, by decide +kernel⟩
theorem V.mdX17_707 : MD RX17 707 yX17_wantedAt cX17_wantedAt 4 (some .int) 2 := ⟨Or.inl q3962, q377, q3965, by decide, by decide, by decide +kernel⟩
/-! ModuleEngineModel.takeWanted(I)V -/
def V.Mdl_takeWanted_p8  : Nat → HS → Nat → Int32 → Int32 → Option ((Nat ⊕ Unit) × HS)
  | 0, _, _, _, _ => none
  | n + 1, σ, x0, x1, x2 =>
    if x2 < 0 then (
      some (.inr (), σ))
    else (
      ck (tg σ x0 = 18) <| cl (Mdl_wantedAt σ x0 x1 x2) fun r2 σ1 =>
      ck (tg σ1 x0 = 18) <| clT (Mdl_take σ1 x0 r2) fun r4 σ3 =>
      bn (x2 + (-1 : Int32)) fun y5 =>
      Mdl_takeWanted_p8 n σ3 x0 x1 y5)
theorem V.gX17_takeWanted_p8 {X : CX}  : ∀ (n : Nat) (σ : HS) (x0 : Nat) (x1 : Int32) (x2 : Int32), G X RX17 "takeWanted" cX17_takeWanted 4 none 2 46 (enX enV (cxz X)) 8 [(0, av x0), (1, iv x1), (2, iv x2)] [] σ (Mdl_takeWanted_p8 n σ x0 x1 x2)
  | 0, σ, x0, x1, x2 => by rw [Mdl_takeWanted_p8]; exact G.nul
  | n + 1, σ, x0, x1, x2 => by
    rw [Mdl_takeWanted_p8]
    refine g_iload_n 2 2 dX17_takeWanted_8 rfl rfl ?_
    refine g_if_lt 29 dX17_takeWanted_9 (by decide) ?_ ?_
    · exact g_return rfl dX17_takeWanted_29
    · refine g_aload_n 0 0 dX17_takeWanted_12 rfl rfl ?_
      refine g_aload_n 0 0 dX17_takeWanted_13 rfl rfl ?_
      refine g_iload_n 1 1 dX17_takeWanted_14 rfl rfl ?_
      refine g_iload_n 2 2 dX17_takeWanted_15 rfl rfl ?_
      refine g_callV (fc := fun sς => Mdl_wantedAt sς x0 x1 x2) (ci := 17) (as := [iv x1, iv x2]) rfl rfl rfl q3964 qs281 mdX17_707 (ctX17_wantedAt x0 x1 x2) rfl (Nat.le_of_ble_eq_true rfl) (Nat.le_of_ble_eq_true rfl) (Nat.le_of_ble_eq_true rfl) pu_I dX17_takeWanted_16 (fun r2 σ1 => ?_)
      refine g_callVT (fc := fun sς => Mdl_take sς x0 r2) (ci := 17) (as := [iv r2]) rfl rfl rfl q3900 qs266 q3898 mdX17_692 (ctX17_take x0 r2) rfl (Nat.le_of_ble_eq_true rfl) (Nat.le_of_ble_eq_true rfl) (Nat.le_of_ble_eq_true rfl) pu_I (by decide) dX17_takeWanted_19 (fun r4 σ3 => ?_)
      refine g_istore_n 3 dX17_takeWanted_22 rfl (by decide) rfl ?_
      refine g_iincB (w := (-1)) 3 dX17_takeWanted_23 rfl (by decide) (by decide) (fun _ => rfl) (fun y5 => ?_)
      refine g_goto 8 dX17_takeWanted_26 (by decide) ?_
      refine G.sub [2, 3, 0] rfl ?_
      exact gX17_takeWanted_p8 n _ _ _ _
def V.Mdl_takeWanted (σ : HS) (x0 : Nat) (x1 : Int32) : Option ((Nat ⊕ Unit) × HS) :=
  ck (tg σ x0 = 18) <| cl (Mdl_wantedBy σ x0 x1) fun r2 σ1 =>
  bn (r2 - (1 : Int32)) fun y3 =>
  Mdl_takeWanted_p8 FU σ1 x0 x1 y3
theorem V.ctX17_takeWanted (x0 : Nat) (x1 : Int32) : Ct yX17_takeWanted  cX17_takeWanted 4 none 2 46 eXV [av x0, iv x1] (fun σ => Mdl_takeWanted σ x0 x1) := by
  refine Ct.of (own := RX17) (nm := "takeWanted") (desc := "(I)V") rfl (by decide) (Nat.le_of_ble_eq_true rfl) (by decide) (fun X σ => ?_)
  show G X RX17 "takeWanted" cX17_takeWanted 4 none 2 46 (enX enV (cxz X)) 0 [(0, av x0), (1, iv x1)] [] σ (Mdl_takeWanted σ x0 x1)
  unfold Mdl_takeWanted
  refine g_aload_n 0 0 dX17_takeWanted_0 rfl rfl ?_
  refine g_iload_n 1 1 dX17_takeWanted_1 rfl rfl ?_
  refine g_callV (fc := fun sς => Mdl_wantedBy sς x0 x1) (ci := 17) (as := [iv x1]) rfl rfl rfl q3960 qs280 mdX17_704 (ctX17_wantedBy x0 x1) rfl (Nat.le_of_ble_eq_true rfl) (Nat.le_of_ble_eq_true rfl) (Nat.le_of_ble_eq_true rfl) pu_I dX17_takeWanted_2 (fun r2 σ1 => ?_)
  refine g_iconst (v := 1) dX17_takeWanted_5 (by decide) ?_
  refine g_isub dX17_takeWanted_6 ?_
  refine g_nmI (fun y3 => ?_)
  refine g_istore_n 2 dX17_takeWanted_7 rfl (by decide) rfl ?_
  refine G.sub [1, 2, 0] rfl ?_
  exact gX17_takeWanted_p8 FU _ _ _ _
theorem V.dX17_chooses_0 : decode cX17_chooses 0 = .ok (.aload_n 0, 1) := by decide +kernel
theorem V.dX17_chooses_1 : decode cX17_chooses 1 = .ok (.invokevirtual 603, 3) := by decide +kernel
theorem V.dX17_chooses_4 : decode cX17_chooses 4 = .ok (.l2i, 1) := by decide +kernel
theorem V.dX17_chooses_5 : decode cX17_chooses 5 = .ok (.istore_n 1, 1) := by decide +kernel
theorem V.dX17_chooses_6 : decode cX17_chooses 6 = .ok (.aload_n 0, 1) := by decide +kernel
theorem V.dX17_chooses_7 : decode cX17_chooses 7 = .ok (.getfield 594, 3) := by decide +kernel
theorem V.dX17_chooses_10 : decode cX17_chooses 10 = .ok (.istore_n 2, 1) := by decide +kernel
theorem V.dX17_chooses_11 : decode cX17_chooses 11 = .ok (.iconst 0, 1) := by decide +kernel
theorem V.dX17_chooses_12 : decode cX17_chooses 12 = .ok (.istore_n 3, 1) := by decide +kernel
theorem V.dX17_chooses_13 : decode cX17_chooses 13 = .ok (.iconst 0, 1) := by decide +kernel
theorem V.dX17_chooses_14 : decode cX17_chooses 14 = .ok (.istore 4, 2) := by decide +kernel
theorem V.dX17_chooses_16 : decode cX17_chooses 16 = .ok (.iload 4, 2) := by decide +kernel
theorem V.dX17_chooses_18 : decode cX17_chooses 18 = .ok (.iload_n 1, 1) := by decide +kernel
theorem V.dX17_chooses_19 : decode cX17_chooses 19 = .ok (.if_icmp .gt 15, 3) := by decide +kernel
theorem V.dX17_chooses_22 : decode cX17_chooses 22 = .ok (.aload_n 0, 1) := by decide +kernel
theorem V.dX17_chooses_23 : decode cX17_chooses 23 = .ok (.invokevirtual 603, 3) := by decide +kernel
theorem V.dX17_chooses_26 : decode cX17_chooses 26 = .ok (.l2i, 1) := by decide +kernel
theorem V.dX17_chooses_27 : decode cX17_chooses 27 = .ok (.istore_n 3, 1) := by decide +kernel
theorem V.dX17_chooses_28 : decode cX17_chooses 28 = .ok (.iinc 4 1, 3) := by decide +kernel
theorem V.dX17_chooses_31 : decode cX17_chooses 31 = .ok (.goto (-15), 3) := by decide +kernel
theorem V.dX17_chooses_34 : decode cX17_chooses 34 = .ok (.aload_n 0, 1) := by decide +kernel
theorem V.dX17_chooses_35 : decode cX17_chooses 35 = .ok (.bipush 127, 2) := by decide +kernel
theorem V.dX17_chooses_37 : decode cX17_chooses 37 = .ok (.iconst 1, 1) := by decide +kernel
theorem V.dX17_chooses_38 : decode cX17_chooses 38 = .ok (.invokevirtual 750, 3) := by decide +kernel
theorem V.dX17_chooses_41 : decode cX17_chooses 41 = .ok (.aload_n 0, 1) := by decide +kernel
theorem V.dX17_chooses_42 : decode cX17_chooses 42 = .ok (.iload_n 3, 1) := by decide +kernel
theorem V.dX17_chooses_43 : decode cX17_chooses 43 = .ok (.invokevirtual 704, 3) := by decide +kernel
theorem V.dX17_chooses_46 : decode cX17_chooses 46 = .ok (.istore 4, 2) := by decide +kernel
theorem V.dX17_chooses_48 : decode cX17_chooses 48 = .ok (.aload_n 0, 1) := by decide +kernel
theorem V.dX17_chooses_49 : decode cX17_chooses 49 = .ok (.iload_n 2, 1) := by decide +kernel
theorem V.dX17_chooses_50 : decode cX17_chooses 50 = .ok (.putfield 594, 3) := by decide +kernel
theorem V.dX17_chooses_53 : decode cX17_chooses 53 = .ok (.iconst 0, 1) := by decide +kernel
theorem V.dX17_chooses_54 : decode cX17_chooses 54 = .ok (.istore 5, 2) := by decide +kernel
theorem V.dX17_chooses_56 : decode cX17_chooses 56 = .ok (.iload 5, 2) := by decide +kernel
theorem V.dX17_chooses_58 : decode cX17_chooses 58 = .ok (.iload_n 1, 1) := by decide +kernel
theorem V.dX17_chooses_59 : decode cX17_chooses 59 = .ok (.if_icmp .ge 100, 3) := by decide +kernel
theorem V.dX17_chooses_62 : decode cX17_chooses 62 = .ok (.aload_n 0, 1) := by decide +kernel
theorem V.dX17_chooses_63 : decode cX17_chooses 63 = .ok (.invokevirtual 603, 3) := by decide +kernel
theorem V.dX17_chooses_66 : decode cX17_chooses 66 = .ok (.l2i, 1) := by decide +kernel
theorem V.dX17_chooses_67 : decode cX17_chooses 67 = .ok (.istore 6, 2) := by decide +kernel
theorem V.dX17_chooses_69 : decode cX17_chooses 69 = .ok (.aload_n 0, 1) := by decide +kernel
theorem V.dX17_chooses_70 : decode cX17_chooses 70 = .ok (.iload 6, 2) := by decide +kernel
theorem V.dX17_chooses_72 : decode cX17_chooses 72 = .ok (.invokevirtual 704, 3) := by decide +kernel
theorem V.dX17_chooses_75 : decode cX17_chooses 75 = .ok (.iload 4, 2) := by decide +kernel
theorem V.dX17_chooses_77 : decode cX17_chooses 77 = .ok (.if_icmp .eq 13, 3) := by decide +kernel
theorem V.dX17_chooses_80 : decode cX17_chooses 80 = .ok (.aload_n 0, 1) := by decide +kernel
theorem V.dX17_chooses_81 : decode cX17_chooses 81 = .ok (.bipush 29, 2) := by decide +kernel
theorem V.dX17_chooses_83 : decode cX17_chooses 83 = .ok (.aload_n 0, 1) := by decide +kernel
theorem V.dX17_chooses_84 : decode cX17_chooses 84 = .ok (.getfield 686, 3) := by decide +kernel
theorem V.dX17_chooses_87 : decode cX17_chooses 87 = .ok (.invokevirtual 257, 3) := by decide +kernel
theorem V.dX17_chooses_90 : decode cX17_chooses 90 = .ok (.iload 4, 2) := by decide +kernel
theorem V.dX17_chooses_92 : decode cX17_chooses 92 = .ok (.iconst 1, 1) := by decide +kernel
theorem V.dX17_chooses_93 : decode cX17_chooses 93 = .ok (.isub, 1) := by decide +kernel
theorem V.dX17_chooses_94 : decode cX17_chooses 94 = .ok (.istore 7, 2) := by decide +kernel
theorem V.dX17_chooses_96 : decode cX17_chooses 96 = .ok (.iload 7, 2) := by decide +kernel
theorem V.dX17_chooses_98 : decode cX17_chooses 98 = .ok (.ifCond .lt 28, 3) := by decide +kernel
theorem V.dX17_chooses_101 : decode cX17_chooses 101 = .ok (.aload_n 0, 1) := by decide +kernel
theorem V.dX17_chooses_102 : decode cX17_chooses 102 = .ok (.getfield 55, 3) := by decide +kernel
theorem V.dX17_chooses_105 : decode cX17_chooses 105 = .ok (.iload 7, 2) := by decide +kernel
theorem V.dX17_chooses_107 : decode cX17_chooses 107 = .ok (.aload_n 0, 1) := by decide +kernel
theorem V.dX17_chooses_108 : decode cX17_chooses 108 = .ok (.aload_n 0, 1) := by decide +kernel
theorem V.dX17_chooses_109 : decode cX17_chooses 109 = .ok (.iload 6, 2) := by decide +kernel
theorem V.dX17_chooses_111 : decode cX17_chooses 111 = .ok (.iload 7, 2) := by decide +kernel
theorem V.dX17_chooses_113 : decode cX17_chooses 113 = .ok (.invokevirtual 707, 3) := by decide +kernel
theorem V.dX17_chooses_116 : decode cX17_chooses 116 = .ok (.invokevirtual 692, 3) := by decide +kernel
theorem V.dX17_chooses_119 : decode cX17_chooses 119 = .ok (.iastore, 1) := by decide +kernel
theorem V.dX17_chooses_120 : decode cX17_chooses 120 = .ok (.iinc 7 (-1), 3) := by decide +kernel
theorem V.dX17_chooses_123 : decode cX17_chooses 123 = .ok (.goto (-27), 3) := by decide +kernel
theorem V.dX17_chooses_126 : decode cX17_chooses 126 = .ok (.iconst 0, 1) := by decide +kernel
theorem V.dX17_chooses_127 : decode cX17_chooses 127 = .ok (.istore 7, 2) := by decide +kernel
theorem V.dX17_chooses_129 : decode cX17_chooses 129 = .ok (.iload 7, 2) := by decide +kernel
theorem V.dX17_chooses_131 : decode cX17_chooses 131 = .ok (.iload 4, 2) := by decide +kernel
theorem V.dX17_chooses_133 : decode cX17_chooses 133 = .ok (.if_icmp .ge 20, 3) := by decide +kernel
theorem V.dX17_chooses_136 : decode cX17_chooses 136 = .ok (.aload_n 0, 1) := by decide +kernel
theorem V.dX17_chooses_137 : decode cX17_chooses 137 = .ok (.aload_n 0, 1) := by decide +kernel
theorem V.dX17_chooses_138 : decode cX17_chooses 138 = .ok (.getfield 55, 3) := by decide +kernel
theorem V.dX17_chooses_141 : decode cX17_chooses 141 = .ok (.iload 7, 2) := by decide +kernel
theorem V.dX17_chooses_143 : decode cX17_chooses 143 = .ok (.iaload, 1) := by decide +kernel
theorem V.dX17_chooses_144 : decode cX17_chooses 144 = .ok (.invokevirtual 695, 3) := by decide +kernel
theorem V.dX17_chooses_147 : decode cX17_chooses 147 = .ok (.iinc 7 1, 3) := by decide +kernel
theorem V.dX17_chooses_150 : decode cX17_chooses 150 = .ok (.goto (-21), 3) := by decide +kernel
theorem V.dX17_chooses_153 : decode cX17_chooses 153 = .ok (.iinc 5 1, 3) := by decide +kernel
theorem V.dX17_chooses_156 : decode cX17_chooses 156 = .ok (.goto (-100), 3) := by decide +kernel
theorem V.dX17_chooses_159 : decode cX17_chooses 159 = .ok (.aload_n 0, 1) := by decide +kernel
theorem V.dX17_chooses_160 : decode cX17_chooses 160 = .ok (.iload_n 3, 1) := by decide +kernel
theorem V.dX17_chooses_161 : decode cX17_chooses 161 = .ok (.invokevirtual 774, 3) := by decide +kernel
theorem V.dX17_chooses_164 : decode cX17_chooses 164 = .ok (.aload_n 0, 1) := by decide +kernel
theorem V.dX17_chooses_165 : decode cX17_chooses 165 = .ok (.invokevirtual 762, 3) := by decide +kernel
theorem V.dX17_chooses_168 : decode cX17_chooses 168 = .ok (.return_, 1) := by decide +kernel
theorem V.mdX17_774 : MD RX17 774 yX17_takeWanted cX17_takeWanted 4 none 1 := ⟨Or.inl q3954, q377, q3957, by decide, by decide, by decide +kernel⟩
theorem V.mdX17_762 : MD RX17 762 yX17_dies cX17_dies 1 none 0 := ⟨Or.inl q3913, q377, q3916, by decide, by decide, by decide +kernel⟩
theorem V.fdX17_55 : FD RX17 55 17 32 2 := ⟨(RX17, TX17, 101), tyX17, rfl, rfl, in_X17, by decide, Or.inl q3068, rfl⟩
/-! ModuleEngineModel.chooses()V -/
def V.Mdl_chooses_p129 (rec56 : HS → Nat → Int32 → Int32 → Int32 → Int32 → Option ((Nat ⊕ Unit) × HS)) : Nat → HS → Nat → Int32 → Int32 → Int32 → Int32 → Int32 → Option ((Nat ⊕ Unit) × HS)
  | 0, _, _, _, _, _, _, _ => none
  | n + 1, σ, x0, x1, x3, x4, x5, x7 =>
    if x4 ≤ x7 then (
      bn (x5 + (1 : Int32)) fun y1 =>
      rec56 σ x0 x1 x3 x4 y1)
    else (
      ck (tg σ x0 = 18) <|
      ck (tg σ (gR σ x0 32) = 100 ∧ inb x7 (ln σ (gR σ x0 32))) <|
      ck (tg σ x0 = 18) <| clT (Mdl_put σ x0 (gI σ (gR σ x0 32) (ix x7))) fun _ σ2 =>
      bn (x7 + (1 : Int32)) fun y3 =>
      Mdl_chooses_p129 rec56 n σ2 x0 x1 x3 x4 x5 y3)
theorem V.gX17_chooses_p129 {X : CX} (rec56 : HS → Nat → Int32 → Int32 → Int32 → Int32 → Option ((Nat ⊕ Unit) × HS)) (hrec56 : ∀ (σ : HS) (x0 : Nat) (x1 : Int32) (x3 : Int32) (x4 : Int32) (x5 : Int32), G X RX17 "chooses" cX17_chooses 8 none 3 69 (enX enV (cxz X)) 56 [(0, av x0), (1, iv x1), (3, iv x3), (4, iv x4), (5, iv x5)] [] σ (rec56 σ x0 x1 x3 x4 x5)) : ∀ (n : Nat) (σ : HS) (x0 : Nat) (x1 : Int32) (x3 : Int32) (x4 : Int32) (x5 : Int32) (x7 : Int32), G X RX17 "chooses" cX17_chooses 8 none 3 69 (enX enV (cxz X)) 129 [(0, av x0), (1, iv x1), (3, iv x3), (4, iv x4), (5, iv x5), (7, iv x7)] [] σ (Mdl_chooses_p129 rec56 n σ x0 x1 x3 x4 x5 x7)
  | 0, σ, x0, x1, x3, x4, x5, x7 => by rw [Mdl_chooses_p129]; exact G.nul
  | n + 1, σ, x0, x1, x3, x4, x5, x7 => by
    rw [Mdl_chooses_p129]
    refine g_iload 5 dX17_chooses_129 rfl ?_
    refine g_iload 3 dX17_chooses_131 rfl ?_
    refine g_icmp_ge 153 dX17_chooses_133 (by decide) ?_ ?_
    · refine g_iincB (w := 1) 4 dX17_chooses_153 rfl (by decide) (by decide) (fun _ => rfl) (fun y1 => ?_)
      refine g_goto 56 dX17_chooses_156 (by decide) ?_
      refine G.sub [1, 2, 3, 4, 0] rfl ?_
      exact hrec56 _ _ _ _ _ _
    · refine g_aload_n 0 0 dX17_chooses_136 rfl rfl ?_
      refine g_aload_n 0 0 dX17_chooses_137 rfl rfl ?_
      refine g_getR fdX17_55 dX17_chooses_138 ?_
      refine g_iload 5 dX17_chooses_141 rfl ?_
      refine g_iaload dX17_chooses_143 ?_
      refine g_callVT (fc := fun sς => Mdl_put sς x0 (gI σ (gR σ x0 32) (ix x7))) (ci := 17) (as := [iv (gI σ (gR σ x0 32) (ix x7))]) rfl rfl rfl q3907 qs267 q3905 mdX17_695 (ctX17_put x0 (gI σ (gR σ x0 32) (ix x7))) rfl (Nat.le_of_ble_eq_true rfl) (Nat.le_of_ble_eq_true rfl) (Nat.le_of_ble_eq_true rfl) pu_V (by decide) dX17_chooses_144 (fun _ σ2 => ?_)
      refine g_iincB (w := 1) 5 dX17_chooses_147 rfl (by decide) (by decide) (fun _ => rfl) (fun y3 => ?_)
      refine g_goto 129 dX17_chooses_150 (by decide) ?_
      refine G.sub [1, 2, 3, 4, 5, 0] rfl ?_
      exact gX17_chooses_p129 rec56 hrec56 n _ _ _ _ _ _ _
def V.Mdl_chooses_p96 (rec56 : HS → Nat → Int32 → Int32 → Int32 → Int32 → Option ((Nat ⊕ Unit) × HS)) : Nat → HS → Nat → Int32 → Int32 → Int32 → Int32 → Int32 → Int32 → Option ((Nat ⊕ Unit) × HS)
  | 0, _, _, _, _, _, _, _, _ => none
  | n + 1, σ, x0, x1, x3, x4, x5, x6, x7 =>
    if x7 < 0 then (
      Mdl_chooses_p129 rec56 FU σ x0 x1 x3 x4 x5 (0 : Int32))
    else (
      ck (tg σ x0 = 18) <|
      ck (tg σ x0 = 18) <| cl (Mdl_wantedAt σ x0 x6 x7) fun r2 σ1 =>
      ck (tg σ1 x0 = 18) <| clT (Mdl_take σ1 x0 r2) fun r4 σ3 =>
      ck (tg σ3 (gR σ x0 32) = 100 ∧ inb x7 (ln σ3 (gR σ x0 32))) <| bn (sI σ3 (gR σ x0 32) (ix x7) r4) fun σ5 =>
      bn (x7 + (-1 : Int32)) fun y6 =>
      Mdl_chooses_p96 rec56 n σ5 x0 x1 x3 x4 x5 x6 y6)
theorem V.gX17_chooses_p96 {X : CX} (rec56 : HS → Nat → Int32 → Int32 → Int32 → Int32 → Option ((Nat ⊕ Unit) × HS)) (hrec56 : ∀ (σ : HS) (x0 : Nat) (x1 : Int32) (x3 : Int32) (x4 : Int32) (x5 : Int32), G X RX17 "chooses" cX17_chooses 8 none 3 69 (enX enV (cxz X)) 56 [(0, av x0), (1, iv x1), (3, iv x3), (4, iv x4), (5, iv x5)] [] σ (rec56 σ x0 x1 x3 x4 x5)) : ∀ (n : Nat) (σ : HS) (x0 : Nat) (x1 : Int32) (x3 : Int32) (x4 : Int32) (x5 : Int32) (x6 : Int32) (x7 : Int32), G X RX17 "chooses" cX17_chooses 8 none 3 69 (enX enV (cxz X)) 96 [(0, av x0), (1, iv x1), (3, iv x3), (4, iv x4), (5, iv x5), (6, iv x6), (7, iv x7)] [] σ (Mdl_chooses_p96 rec56 n σ x0 x1 x3 x4 x5 x6 x7)
  | 0, σ, x0, x1, x3, x4, x5, x6, x7 => by rw [Mdl_chooses_p96]; exact G.nul
  | n + 1, σ, x0, x1, x3, x4, x5, x6, x7 => by
    rw [Mdl_chooses_p96]
    refine g_iload 6 dX17_chooses_96 rfl ?_
    refine g_if_lt 126 dX17_chooses_98 (by decide) ?_ ?_
    · refine g_iconst (v := 0) dX17_chooses_126 (by decide) ?_
      refine g_istore dX17_chooses_127 (by decide) rfl ?_
      refine G.sub [1, 2, 3, 4, 5, 0] rfl ?_
      exact gX17_chooses_p129 rec56 hrec56 FU _ _ _ _ _ _ _
    · refine g_aload_n 0 0 dX17_chooses_101 rfl rfl ?_
      refine g_getR fdX17_55 dX17_chooses_102 ?_
      refine g_iload 6 dX17_chooses_105 rfl ?_
      refine g_aload_n 0 0 dX17_chooses_107 rfl rfl ?_
      refine g_aload_n 0 0 dX17_chooses_108 rfl rfl ?_
      refine g_iload 5 dX17_chooses_109 rfl ?_
      refine g_iload 6 dX17_chooses_111 rfl ?_
      refine g_callV (fc := fun sς => Mdl_wantedAt sς x0 x6 x7) (ci := 17) (as := [iv x6, iv x7]) rfl rfl rfl q3964 qs281 mdX17_707 (ctX17_wantedAt x0 x6 x7) rfl (Nat.le_of_ble_eq_true rfl) (Nat.le_of_ble_eq_true rfl) (Nat.le_of_ble_eq_true rfl) pu_I dX17_chooses_113 (fun r2 σ1 => ?_)
      refine g_callVT (fc := fun sς => Mdl_take sς x0 r2) (ci := 17) (as := [iv r2]) rfl rfl rfl q3900 qs266 q3898 mdX17_692 (ctX17_take x0 r2) rfl (Nat.le_of_ble_eq_true rfl) (Nat.le_of_ble_eq_true rfl) (Nat.le_of_ble_eq_true rfl) pu_I (by decide) dX17_chooses_116 (fun r4 σ3 => ?_)
      refine g_iastore dX17_chooses_119 (fun σ5 => ?_)
      refine g_iincB (w := (-1)) 6 dX17_chooses_120 rfl (by decide) (by decide) (fun _ => rfl) (fun y6 => ?_)
      refine g_goto 96 dX17_chooses_123 (by decide) ?_
      refine G.sub [1, 2, 3, 4, 5, 6, 0] rfl ?_
      exact gX17_chooses_p96 rec56 hrec56 n _ _ _ _ _ _ _ _
def V.Mdl_chooses_p90 (rec56 : HS → Nat → Int32 → Int32 → Int32 → Int32 → Option ((Nat ⊕ Unit) × HS)) (σ : HS) (x0 : Nat) (x1 : Int32) (x3 : Int32) (x4 : Int32) (x5 : Int32) (x6 : Int32) : Option ((Nat ⊕ Unit) × HS) :=
  bn (x4 - (1 : Int32)) fun y1 =>
  Mdl_chooses_p96 rec56 FU σ x0 x1 x3 x4 x5 x6 y1
theorem V.gX17_chooses_p90 {X : CX} (rec56 : HS → Nat → Int32 → Int32 → Int32 → Int32 → Option ((Nat ⊕ Unit) × HS)) (hrec56 : ∀ (σ : HS) (x0 : Nat) (x1 : Int32) (x3 : Int32) (x4 : Int32) (x5 : Int32), G X RX17 "chooses" cX17_chooses 8 none 3 69 (enX enV (cxz X)) 56 [(0, av x0), (1, iv x1), (3, iv x3), (4, iv x4), (5, iv x5)] [] σ (rec56 σ x0 x1 x3 x4 x5)) (σ : HS) (x0 : Nat) (x1 : Int32) (x3 : Int32) (x4 : Int32) (x5 : Int32) (x6 : Int32) : G X RX17 "chooses" cX17_chooses 8 none 3 69 (enX enV (cxz X)) 90 [(0, av x0), (1, iv x1), (3, iv x3), (4, iv x4), (5, iv x5), (6, iv x6)] [] σ (Mdl_chooses_p90 rec56 σ x0 x1 x3 x4 x5 x6) := by
  unfold Mdl_chooses_p90
  refine g_iload 3 dX17_chooses_90 rfl ?_
  refine g_iconst (v := 1) dX17_chooses_92 (by decide) ?_
  refine g_isub dX17_chooses_93 ?_
  refine g_nmI (fun y1 => ?_)
  refine g_istore dX17_chooses_94 (by decide) rfl ?_
  refine G.sub [1, 2, 3, 4, 5, 6, 0] rfl ?_
  exact gX17_chooses_p96 rec56 hrec56 FU _ _ _ _ _ _ _ _
def V.Mdl_chooses_p56  : Nat → HS → Nat → Int32 → Int32 → Int32 → Int32 → Option ((Nat ⊕ Unit) × HS)
  | 0, _, _, _, _, _, _ => none
  | n + 1, σ, x0, x1, x3, x4, x5 =>
    if x1 ≤ x5 then (
      ck (tg σ x0 = 18) <| clT (Mdl_takeWanted σ x0 x3) fun _ σ1 =>
      ck (tg σ1 x0 = 18) <| cl (Mdl_dies σ1 x0 ) fun _ σ2 =>
      some (.inr (), σ2))
    else (
      ck (tg σ x0 = 18) <| cl (Mdl_word σ x0 ) fun r4 σ3 =>
      ck (tg σ3 x0 = 18) <| cl (Mdl_wantedBy σ3 x0 r4.toInt32) fun r6 σ5 =>
      if r6 = x4 then (
        Mdl_chooses_p90 (Mdl_chooses_p56 n) σ5 x0 x1 x3 x4 x5 r4.toInt32)
      else (
        ck (tg σ5 x0 = 18) <|
        ck (tg σ5 x0 = 18) <| clT (Mdl_stops σ5 x0 (29 : Int32) (gI σ5 x0 31)) fun _ σ7 =>
        Mdl_chooses_p90 (Mdl_chooses_p56 n) σ7 x0 x1 x3 x4 x5 r4.toInt32))
theorem V.gX17_chooses_p56 {X : CX}  : ∀ (n : Nat) (σ : HS) (x0 : Nat) (x1 : Int32) (x3 : Int32) (x4 : Int32) (x5 : Int32), G X RX17 "chooses" cX17_chooses 8 none 3 69 (enX enV (cxz X)) 56 [(0, av x0), (1, iv x1), (3, iv x3), (4, iv x4), (5, iv x5)] [] σ (Mdl_chooses_p56 n σ x0 x1 x3 x4 x5)
  | 0, σ, x0, x1, x3, x4, x5 => by rw [Mdl_chooses_p56]; exact G.nul
  | n + 1, σ, x0, x1, x3, x4, x5 => by
    rw [Mdl_chooses_p56]
    refine g_iload 4 dX17_chooses_56 rfl ?_
    refine g_iload_n 1 1 dX17_chooses_58 rfl rfl ?_
    refine g_icmp_ge 159 dX17_chooses_59 (by decide) ?_ ?_
    · refine g_aload_n 0 0 dX17_chooses_159 rfl rfl ?_
      refine g_iload_n 3 2 dX17_chooses_160 rfl rfl ?_
      refine g_callVT (fc := fun sς => Mdl_takeWanted sς x0 x3) (ci := 17) (as := [iv x3]) rfl rfl rfl q3956 qs279 q3954 mdX17_774 (ctX17_takeWanted x0 x3) rfl (Nat.le_of_ble_eq_true rfl) (Nat.le_of_ble_eq_true rfl) (Nat.le_of_ble_eq_true rfl) pu_V (by decide) dX17_chooses_161 (fun _ σ1 => ?_)
      refine g_aload_n 0 0 dX17_chooses_164 rfl rfl ?_
      refine g_callV (fc := fun sς => Mdl_dies sς x0 ) (ci := 17) (as := []) rfl rfl rfl q3915 qs269 mdX17_762 (ctX17_dies x0 ) rfl (Nat.le_of_ble_eq_true rfl) (Nat.le_of_ble_eq_true rfl) (Nat.le_of_ble_eq_true rfl) pu_V dX17_chooses_165 (fun _ σ2 => ?_)
      exact g_return rfl dX17_chooses_168
    · refine g_aload_n 0 0 dX17_chooses_62 rfl rfl ?_
      refine g_callV (fc := fun sς => Mdl_word sς x0 ) (ci := 17) (as := []) rfl rfl rfl q3813 qs250 mdX17_603 (ctX17_word x0 ) rfl (Nat.le_of_ble_eq_true rfl) (Nat.le_of_ble_eq_true rfl) (Nat.le_of_ble_eq_true rfl) pu_J dX17_chooses_63 (fun r4 σ3 => ?_)
      refine g_l2i dX17_chooses_66 ?_
      refine g_istore dX17_chooses_67 (by decide) rfl ?_
      refine g_aload_n 0 1 dX17_chooses_69 rfl rfl ?_
      refine g_iload 0 dX17_chooses_70 rfl ?_
      refine g_callV (fc := fun sς => Mdl_wantedBy sς x0 r4.toInt32) (ci := 17) (as := [iv r4.toInt32]) rfl rfl rfl q3960 qs280 mdX17_704 (ctX17_wantedBy x0 r4.toInt32) rfl (Nat.le_of_ble_eq_true rfl) (Nat.le_of_ble_eq_true rfl) (Nat.le_of_ble_eq_true rfl) pu_I dX17_chooses_72 (fun r6 σ5 => ?_)
      refine g_iload 4 dX17_chooses_75 rfl ?_
      refine g_icmp_eq 90 dX17_chooses_77 (by decide) ?_ ?_
      · refine G.sub [1, 2, 3, 4, 5, 0] rfl ?_
        exact gX17_chooses_p90 (Mdl_chooses_p56 n) (gX17_chooses_p56 n) _ _ _ _ _ _ _
      · refine g_aload_n 0 1 dX17_chooses_80 rfl rfl ?_
        refine g_bipush (v := 29) dX17_chooses_81 (by decide) ?_
        refine g_aload_n 0 1 dX17_chooses_83 rfl rfl ?_
        refine g_getI fdX17_686 dX17_chooses_84 ?_
        refine g_callVT (fc := fun sς => Mdl_stops sς x0 (29 : Int32) (gI σ5 x0 31)) (ci := 17) (as := [iv (29 : Int32), iv (gI σ5 x0 31)]) rfl rfl rfl q3606 qs214 q3604 mdX17_257 (ctX17_stops x0 (29 : Int32) (gI σ5 x0 31)) rfl (Nat.le_of_ble_eq_true rfl) (Nat.le_of_ble_eq_true rfl) (Nat.le_of_ble_eq_true rfl) pu_V (by decide) dX17_chooses_87 (fun _ σ7 => ?_)
        refine G.sub [1, 2, 3, 4, 5, 0] rfl ?_
        exact gX17_chooses_p90 (Mdl_chooses_p56 n) (gX17_chooses_p56 n) _ _ _ _ _ _ _
def V.Mdl_chooses_p16  : Nat → HS → Nat → Int32 → Int32 → Int32 → Int32 → Option ((Nat ⊕ Unit) × HS)
  | 0, _, _, _, _, _, _ => none
  | n + 1, σ, x0, x1, x2, x3, x4 =>
    if x1 < x4 then (
      ck (tg σ x0 = 18) <| clT (Mdl_takes σ x0 (127 : Int32) (1 : Int32)) fun _ σ1 =>
      ck (tg σ1 x0 = 18) <| cl (Mdl_wantedBy σ1 x0 x3) fun r3 σ2 =>
      ck (tg σ2 x0 = 18) <| bn (sI σ2 x0 19 x2) fun σ4 =>
      Mdl_chooses_p56 FU σ4 x0 x1 x3 r3 (0 : Int32))
    else (
      ck (tg σ x0 = 18) <| cl (Mdl_word σ x0 ) fun r6 σ5 =>
      bn (x4 + (1 : Int32)) fun y7 =>
      Mdl_chooses_p16 n σ5 x0 x1 x2 r6.toInt32 y7)
theorem V.gX17_chooses_p16 {X : CX}  : ∀ (n : Nat) (σ : HS) (x0 : Nat) (x1 : Int32) (x2 : Int32) (x3 : Int32) (x4 : Int32), G X RX17 "chooses" cX17_chooses 8 none 3 69 (enX enV (cxz X)) 16 [(0, av x0), (1, iv x1), (2, iv x2), (3, iv x3), (4, iv x4)] [] σ (Mdl_chooses_p16 n σ x0 x1 x2 x3 x4)
  | 0, σ, x0, x1, x2, x3, x4 => by rw [Mdl_chooses_p16]; exact G.nul
  | n + 1, σ, x0, x1, x2, x3, x4 => by
    rw [Mdl_chooses_p16]
    refine g_iload 4 dX17_chooses_16 rfl ?_
    refine g_iload_n 1 1 dX17_chooses_18 rfl rfl ?_
    refine g_icmp_gt 34 dX17_chooses_19 (by decide) ?_ ?_
    · refine g_aload_n 0 0 dX17_chooses_34 rfl rfl ?_
      refine g_bipush (v := 127) dX17_chooses_35 (by decide) ?_
      refine g_iconst (v := 1) dX17_chooses_37 (by decide) ?_
      refine g_callVT (fc := fun sς => Mdl_takes sς x0 (127 : Int32) (1 : Int32)) (ci := 17) (as := [iv (127 : Int32), iv (1 : Int32)]) rfl rfl rfl q3896 qs265 q3894 mdX17_750 (ctX17_takes x0 (127 : Int32) (1 : Int32)) rfl (Nat.le_of_ble_eq_true rfl) (Nat.le_of_ble_eq_true rfl) (Nat.le_of_ble_eq_true rfl) pu_V (by decide) dX17_chooses_38 (fun _ σ1 => ?_)
      refine g_aload_n 0 0 dX17_chooses_41 rfl rfl ?_
      refine g_iload_n 3 3 dX17_chooses_42 rfl rfl ?_
      refine g_callV (fc := fun sς => Mdl_wantedBy sς x0 x3) (ci := 17) (as := [iv x3]) rfl rfl rfl q3960 qs280 mdX17_704 (ctX17_wantedBy x0 x3) rfl (Nat.le_of_ble_eq_true rfl) (Nat.le_of_ble_eq_true rfl) (Nat.le_of_ble_eq_true rfl) pu_I dX17_chooses_43 (fun r3 σ2 => ?_)
      refine g_istore dX17_chooses_46 (by decide) rfl ?_
      refine g_aload_n 0 1 dX17_chooses_48 rfl rfl ?_
      refine g_iload_n 2 3 dX17_chooses_49 rfl rfl ?_
      refine g_putI fpX17_594 dX17_chooses_50 (fun σ4 => ?_)
      refine g_iconst (v := 0) dX17_chooses_53 (by decide) ?_
      refine g_istore dX17_chooses_54 (by decide) rfl ?_
      refine G.sub [2, 3, 5, 1, 0] rfl ?_
      exact gX17_chooses_p56 FU _ _ _ _ _ _
    · refine g_aload_n 0 0 dX17_chooses_22 rfl rfl ?_
      refine g_callV (fc := fun sς => Mdl_word sς x0 ) (ci := 17) (as := []) rfl rfl rfl q3813 qs250 mdX17_603 (ctX17_word x0 ) rfl (Nat.le_of_ble_eq_true rfl) (Nat.le_of_ble_eq_true rfl) (Nat.le_of_ble_eq_true rfl) pu_J dX17_chooses_23 (fun r6 σ5 => ?_)
      refine g_l2i dX17_chooses_26 ?_
      refine g_istore_n 3 dX17_chooses_27 rfl (by decide) rfl ?_
      refine g_iincB (w := 1) 4 dX17_chooses_28 rfl (by decide) (by decide) (fun _ => rfl) (fun y7 => ?_)
      refine g_goto 16 dX17_chooses_31 (by decide) ?_
      refine G.sub [2, 3, 4, 1, 0] rfl ?_
      exact gX17_chooses_p16 n _ _ _ _ _ _
def V.Mdl_chooses (σ : HS) (x0 : Nat) : Option ((Nat ⊕ Unit) × HS) :=
  ck (tg σ x0 = 18) <| cl (Mdl_word σ x0 ) fun r2 σ1 =>
  ck (tg σ1 x0 = 18) <|
  bn (gI σ1 x0 19) fun y3 =>
  Mdl_chooses_p16 FU σ1 x0 r2.toInt32 y3 (0 : Int32) (0 : Int32)
theorem V.ctX17_chooses (x0 : Nat) : Ct yX17_chooses  cX17_chooses 8 none 3 69 eXV [av x0] (fun σ => Mdl_chooses σ x0) := by
  refine Ct.of (own := RX17) (nm := "chooses") (desc := "()V") rfl (by decide) (Nat.le_of_ble_eq_true rfl) (by decide) (fun X σ => ?_)
  show G X RX17 "chooses" cX17_chooses 8 none 3 69 (enX enV (cxz X)) 0 [(0, av x0)] [] σ (Mdl_chooses σ x0)
  unfold Mdl_chooses
  refine g_aload_n 0 0 dX17_chooses_0 rfl rfl ?_
  refine g_callV (fc := fun sς => Mdl_word sς x0 ) (ci := 17) (as := []) rfl rfl rfl q3813 qs250 mdX17_603 (ctX17_word x0 ) rfl (Nat.le_of_ble_eq_true rfl) (Nat.le_of_ble_eq_true rfl) (Nat.le_of_ble_eq_true rfl) pu_J dX17_chooses_1 (fun r2 σ1 => ?_)
  refine g_l2i dX17_chooses_4 ?_
  refine g_istore_n 1 dX17_chooses_5 rfl (by decide) rfl ?_
  refine g_aload_n 0 1 dX17_chooses_6 rfl rfl ?_
  refine g_getI fdX17_594 dX17_chooses_7 ?_
  refine g_nmI (fun y3 => ?_)
  refine g_istore_n 2 dX17_chooses_10 rfl (by decide) rfl ?_
  refine g_iconst (v := 0) dX17_chooses_11 (by decide) ?_
  refine g_istore_n 3 dX17_chooses_12 rfl (by decide) rfl ?_
  refine g_iconst (v := 0) dX17_chooses_13 (by decide) ?_
  refine g_istore dX17_chooses_14 (by decide) rfl ?_
  refine G.sub [4, 3, 2, 1, 0] rfl ?_
  exact gX17_chooses_p16 FU _ _ _ _ _ _
theorem V.dX17_selects_0 : decode cX17_selects 0 = .ok (.aload_n 0, 1) := by decide +kernel
theorem V.dX17_selects_1 : decode cX17_selects 1 = .ok (.bipush 127, 2) := by decide +kernel
theorem V.dX17_selects_3 : decode cX17_selects 3 = .ok (.iconst 1, 1) := by decide +kernel
theorem V.dX17_selects_4 : decode cX17_selects 4 = .ok (.invokevirtual 750, 3) := by decide +kernel
theorem V.dX17_selects_7 : decode cX17_selects 7 = .ok (.aload_n 0, 1) := by decide +kernel
theorem V.dX17_selects_8 : decode cX17_selects 8 = .ok (.iconst 0, 1) := by decide +kernel
theorem V.dX17_selects_9 : decode cX17_selects 9 = .ok (.invokevirtual 692, 3) := by decide +kernel
theorem V.dX17_selects_12 : decode cX17_selects 12 = .ok (.istore_n 1, 1) := by decide +kernel
theorem V.dX17_selects_13 : decode cX17_selects 13 = .ok (.aload_n 0, 1) := by decide +kernel
theorem V.dX17_selects_14 : decode cX17_selects 14 = .ok (.iconst 0, 1) := by decide +kernel
theorem V.dX17_selects_15 : decode cX17_selects 15 = .ok (.invokevirtual 692, 3) := by decide +kernel
theorem V.dX17_selects_18 : decode cX17_selects 18 = .ok (.istore_n 2, 1) := by decide +kernel
theorem V.dX17_selects_19 : decode cX17_selects 19 = .ok (.iload_n 1, 1) := by decide +kernel
theorem V.dX17_selects_20 : decode cX17_selects 20 = .ok (.invokestatic 270, 3) := by decide +kernel
theorem V.dX17_selects_23 : decode cX17_selects 23 = .ok (.ifCond .ne 29, 3) := by decide +kernel
theorem V.dX17_selects_26 : decode cX17_selects 26 = .ok (.iload_n 2, 1) := by decide +kernel
theorem V.dX17_selects_27 : decode cX17_selects 27 = .ok (.invokestatic 270, 3) := by decide +kernel
theorem V.dX17_selects_30 : decode cX17_selects 30 = .ok (.ifCond .ne 22, 3) := by decide +kernel
theorem V.dX17_selects_33 : decode cX17_selects 33 = .ok (.iload_n 1, 1) := by decide +kernel
theorem V.dX17_selects_34 : decode cX17_selects 34 = .ok (.iconst (-1), 1) := by decide +kernel
theorem V.dX17_selects_35 : decode cX17_selects 35 = .ok (.if_icmp .eq 13, 3) := by decide +kernel
theorem V.dX17_selects_38 : decode cX17_selects 38 = .ok (.iload_n 2, 1) := by decide +kernel
theorem V.dX17_selects_39 : decode cX17_selects 39 = .ok (.iconst (-1), 1) := by decide +kernel
theorem V.dX17_selects_40 : decode cX17_selects 40 = .ok (.if_icmp .eq 8, 3) := by decide +kernel
theorem V.dX17_selects_43 : decode cX17_selects 43 = .ok (.iload_n 1, 1) := by decide +kernel
theorem V.dX17_selects_44 : decode cX17_selects 44 = .ok (.iload_n 2, 1) := by decide +kernel
theorem V.dX17_selects_45 : decode cX17_selects 45 = .ok (.if_icmp .ne 7, 3) := by decide +kernel
theorem V.dX17_selects_48 : decode cX17_selects 48 = .ok (.iconst 1, 1) := by decide +kernel
theorem V.dX17_selects_49 : decode cX17_selects 49 = .ok (.goto 4, 3) := by decide +kernel
theorem V.dX17_selects_52 : decode cX17_selects 52 = .ok (.iconst 0, 1) := by decide +kernel
theorem V.dX17_selects_53 : decode cX17_selects 53 = .ok (.istore_n 3, 1) := by decide +kernel
theorem V.dX17_selects_54 : decode cX17_selects 54 = .ok (.iload_n 3, 1) := by decide +kernel
theorem V.dX17_selects_55 : decode cX17_selects 55 = .ok (.ifCond .ne 13, 3) := by decide +kernel
theorem V.dX17_selects_58 : decode cX17_selects 58 = .ok (.aload_n 0, 1) := by decide +kernel
theorem V.dX17_selects_59 : decode cX17_selects 59 = .ok (.bipush 29, 2) := by decide +kernel
theorem V.dX17_selects_61 : decode cX17_selects 61 = .ok (.aload_n 0, 1) := by decide +kernel
theorem V.dX17_selects_62 : decode cX17_selects 62 = .ok (.getfield 686, 3) := by decide +kernel
theorem V.dX17_selects_65 : decode cX17_selects 65 = .ok (.invokevirtual 257, 3) := by decide +kernel
theorem V.dX17_selects_68 : decode cX17_selects 68 = .ok (.aload_n 0, 1) := by decide +kernel
theorem V.dX17_selects_69 : decode cX17_selects 69 = .ok (.iload_n 1, 1) := by decide +kernel
theorem V.dX17_selects_70 : decode cX17_selects 70 = .ok (.iconst (-1), 1) := by decide +kernel
theorem V.dX17_selects_71 : decode cX17_selects 71 = .ok (.if_icmp .ne 7, 3) := by decide +kernel
theorem V.dX17_selects_74 : decode cX17_selects 74 = .ok (.iload_n 2, 1) := by decide +kernel
theorem V.dX17_selects_75 : decode cX17_selects 75 = .ok (.goto 4, 3) := by decide +kernel
theorem V.dX17_selects_78 : decode cX17_selects 78 = .ok (.iload_n 1, 1) := by decide +kernel
theorem V.dX17_selects_79 : decode cX17_selects 79 = .ok (.invokevirtual 695, 3) := by decide +kernel
theorem V.dX17_selects_82 : decode cX17_selects 82 = .ok (.return_, 1) := by decide +kernel
/-! ModuleEngineModel.selects()V -/
def V.Mdl_selects_p79  (σ : HS) (s0 : Int32) (s1 : Nat) : Option ((Nat ⊕ Unit) × HS) :=
  ck (tg σ s1 = 18) <| clT (Mdl_put σ s1 s0) fun _ σ1 =>
  some (.inr (), σ1)
theorem V.gX17_selects_p79 {X : CX}  (σ : HS) (s0 : Int32) (s1 : Nat) : G X RX17 "selects" cX17_selects 4 none 3 69 (enX enV (cxz X)) 79 [] [iv s0, av s1] σ (Mdl_selects_p79 σ s0 s1) := by
  unfold Mdl_selects_p79
  refine g_callVT (fc := fun sς => Mdl_put sς s1 s0) (ci := 17) (as := [iv s0]) rfl rfl rfl q3907 qs267 q3905 mdX17_695 (ctX17_put s1 s0) rfl (Nat.le_of_ble_eq_true rfl) (Nat.le_of_ble_eq_true rfl) (Nat.le_of_ble_eq_true rfl) pu_V (by decide) dX17_selects_79 (fun _ σ1 => ?_)
  exact g_return rfl dX17_selects_82
def V.Mdl_selects_p68  (σ : HS) (x0 : Nat) (x1 : Int32) (x2 : Int32) : Option ((Nat ⊕ Unit) × HS) :=
  if x1 = (-1 : Int32) then (
    Mdl_selects_p79 σ x2 x0)
  else (
    Mdl_selects_p79 σ x1 x0)
theorem V.gX17_selects_p68 {X : CX}  (σ : HS) (x0 : Nat) (x1 : Int32) (x2 : Int32) : G X RX17 "selects" cX17_selects 4 none 3 69 (enX enV (cxz X)) 68 [(0, av x0), (1, iv x1), (2, iv x2)] [] σ (Mdl_selects_p68 σ x0 x1 x2) := by
  unfold Mdl_selects_p68
  refine g_aload_n 0 0 dX17_selects_68 rfl rfl ?_
  refine g_iload_n 1 1 dX17_selects_69 rfl rfl ?_
  refine g_iconst (v := (-1)) dX17_selects_70 (by decide) ?_
  refine g_icmp_ne 78 dX17_selects_71 (by decide) ?_ ?_
  · refine g_iload_n 1 1 dX17_selects_78 rfl rfl ?_
    refine G.sub [] rfl ?_
    exact gX17_selects_p79 _ _ _
  · refine g_iload_n 2 2 dX17_selects_74 rfl rfl ?_
    refine g_goto 79 dX17_selects_75 (by decide) ?_
    refine G.sub [] rfl ?_
    exact gX17_selects_p79 _ _ _
def V.Mdl_selects_p53  (σ : HS) (x0 : Nat) (x1 : Int32) (x2 : Int32) (s0 : Int32) : Option ((Nat ⊕ Unit) × HS) :=
  if s0 = 0 then (
    ck (tg σ x0 = 18) <|
    ck (tg σ x0 = 18) <| clT (Mdl_stops σ x0 (29 : Int32) (gI σ x0 31)) fun _ σ1 =>
    Mdl_selects_p68 σ1 x0 x1 x2)
  else (
    Mdl_selects_p68 σ x0 x1 x2)
theorem V.gX17_selects_p53 {X : CX}  (σ : HS) (x0 : Nat) (x1 : Int32) (x2 : Int32) (s0 : Int32) : G X RX17 "selects" cX17_selects 4 none 3 69 (enX enV (cxz X)) 53 [(0, av x0), (1, iv x1), (2, iv x2)] [iv s0] σ (Mdl_selects_p53 σ x0 x1 x2 s0) := by
  unfold Mdl_selects_p53
  refine g_istore_n 3 dX17_selects_53 rfl (by decide) rfl ?_
  refine g_iload_n 3 0 dX17_selects_54 rfl rfl ?_
  refine g_if_ne 68 dX17_selects_55 (by decide) ?_ ?_
  · refine G.sub [1, 2, 3] rfl ?_
    exact gX17_selects_p68 _ _ _ _
  · refine g_aload_n 0 1 dX17_selects_58 rfl rfl ?_
    refine g_bipush (v := 29) dX17_selects_59 (by decide) ?_
    refine g_aload_n 0 1 dX17_selects_61 rfl rfl ?_
    refine g_getI fdX17_686 dX17_selects_62 ?_
    refine g_callVT (fc := fun sς => Mdl_stops sς x0 (29 : Int32) (gI σ x0 31)) (ci := 17) (as := [iv (29 : Int32), iv (gI σ x0 31)]) rfl rfl rfl q3606 qs214 q3604 mdX17_257 (ctX17_stops x0 (29 : Int32) (gI σ x0 31)) rfl (Nat.le_of_ble_eq_true rfl) (Nat.le_of_ble_eq_true rfl) (Nat.le_of_ble_eq_true rfl) pu_V (by decide) dX17_selects_65 (fun _ σ1 => ?_)
    refine G.sub [1, 2, 3] rfl ?_
    exact gX17_selects_p68 _ _ _ _
def V.Mdl_selects_p52  (σ : HS) (x0 : Nat) (x1 : Int32) (x2 : Int32) : Option ((Nat ⊕ Unit) × HS) :=
  Mdl_selects_p53 σ x0 x1 x2 (0 : Int32)
theorem V.gX17_selects_p52 {X : CX}  (σ : HS) (x0 : Nat) (x1 : Int32) (x2 : Int32) : G X RX17 "selects" cX17_selects 4 none 3 69 (enX enV (cxz X)) 52 [(0, av x0), (1, iv x1), (2, iv x2)] [] σ (Mdl_selects_p52 σ x0 x1 x2) := by
  unfold Mdl_selects_p52
  refine g_iconst (v := 0) dX17_selects_52 (by decide) ?_
  exact gX17_selects_p53 _ _ _ _ _
def V.Mdl_selects_p48  (σ : HS) (x0 : Nat) (x1 : Int32) (x2 : Int32) : Option ((Nat ⊕ Unit) × HS) :=
  Mdl_selects_p53 σ x0 x1 x2 (1 : Int32)
theorem V.gX17_selects_p48 {X : CX}  (σ : HS) (x0 : Nat) (x1 : Int32) (x2 : Int32) : G X RX17 "selects" cX17_selects 4 none 3 69 (enX enV (cxz X)) 48 [(0, av x0), (1, iv x1), (2, iv x2)] [] σ (Mdl_selects_p48 σ x0 x1 x2) := by
  unfold Mdl_selects_p48
  refine g_iconst (v := 1) dX17_selects_48 (by decide) ?_
  refine g_goto 53 dX17_selects_49 (by decide) ?_
  exact gX17_selects_p53 _ _ _ _ _
def V.Mdl_selects (σ : HS) (x0 : Nat) : Option ((Nat ⊕ Unit) × HS) :=
  ck (tg σ x0 = 18) <| clT (Mdl_takes σ x0 (127 : Int32) (1 : Int32)) fun _ σ1 =>
  ck (tg σ1 x0 = 18) <| clT (Mdl_take σ1 x0 (0 : Int32)) fun r3 σ2 =>
  ck (tg σ2 x0 = 18) <| clT (Mdl_take σ2 x0 (0 : Int32)) fun r5 σ4 =>
  cl (Mdl_isReference σ4 r3) fun r7 σ6 =>
  if r7 = 0 then (
    cl (Mdl_isReference σ6 r5) fun r9 σ8 =>
    if r9 = 0 then (
      if r3 = (-1 : Int32) then (
        Mdl_selects_p48 σ8 x0 r3 r5)
      else (
        if r5 = (-1 : Int32) then (
          Mdl_selects_p48 σ8 x0 r3 r5)
        else (
          if r3 = r5 then (
            Mdl_selects_p48 σ8 x0 r3 r5)
          else (
            Mdl_selects_p52 σ8 x0 r3 r5))))
    else (
      Mdl_selects_p52 σ8 x0 r3 r5))
  else (
    Mdl_selects_p52 σ6 x0 r3 r5)
theorem V.ctX17_selects (x0 : Nat) : Ct yX17_selects  cX17_selects 4 none 3 69 eXV [av x0] (fun σ => Mdl_selects σ x0) := by
  refine Ct.of (own := RX17) (nm := "selects") (desc := "()V") rfl (by decide) (Nat.le_of_ble_eq_true rfl) (by decide) (fun X σ => ?_)
  show G X RX17 "selects" cX17_selects 4 none 3 69 (enX enV (cxz X)) 0 [(0, av x0)] [] σ (Mdl_selects σ x0)
  unfold Mdl_selects
  refine g_aload_n 0 0 dX17_selects_0 rfl rfl ?_
  refine g_bipush (v := 127) dX17_selects_1 (by decide) ?_
  refine g_iconst (v := 1) dX17_selects_3 (by decide) ?_
  refine g_callVT (fc := fun sς => Mdl_takes sς x0 (127 : Int32) (1 : Int32)) (ci := 17) (as := [iv (127 : Int32), iv (1 : Int32)]) rfl rfl rfl q3896 qs265 q3894 mdX17_750 (ctX17_takes x0 (127 : Int32) (1 : Int32)) rfl (Nat.le_of_ble_eq_true rfl) (Nat.le_of_ble_eq_true rfl) (Nat.le_of_ble_eq_true rfl) pu_V (by decide) dX17_selects_4 (fun _ σ1 => ?_)
  refine g_aload_n 0 0 dX17_selects_7 rfl rfl ?_
  refine g_iconst (v := 0) dX17_selects_8 (by decide) ?_
  refine g_callVT (fc := fun sς => Mdl_take sς x0 (0 : Int32)) (ci := 17) (as := [iv (0 : Int32)]) rfl rfl rfl q3900 qs266 q3898 mdX17_692 (ctX17_take x0 (0 : Int32)) rfl (Nat.le_of_ble_eq_true rfl) (Nat.le_of_ble_eq_true rfl) (Nat.le_of_ble_eq_true rfl) pu_I (by decide) dX17_selects_9 (fun r3 σ2 => ?_)
  refine g_istore_n 1 dX17_selects_12 rfl (by decide) rfl ?_
  refine g_aload_n 0 1 dX17_selects_13 rfl rfl ?_
  refine g_iconst (v := 0) dX17_selects_14 (by decide) ?_
  refine g_callVT (fc := fun sς => Mdl_take sς x0 (0 : Int32)) (ci := 17) (as := [iv (0 : Int32)]) rfl rfl rfl q3900 qs266 q3898 mdX17_692 (ctX17_take x0 (0 : Int32)) rfl (Nat.le_of_ble_eq_true rfl) (Nat.le_of_ble_eq_true rfl) (Nat.le_of_ble_eq_true rfl) pu_I (by decide) dX17_selects_15 (fun r5 σ4 => ?_)
  refine g_istore_n 2 dX17_selects_18 rfl (by decide) rfl ?_
  refine g_iload_n 1 1 dX17_selects_19 rfl rfl ?_
  refine g_callS (fc := fun sς => Mdl_isReference sς r3) (as := [iv r3]) q3663 mdX17_270 (ctX17_isReference r3) rfl (Nat.le_of_ble_eq_true rfl) (Nat.le_of_ble_eq_true rfl) (Nat.le_of_ble_eq_true rfl) pu_I dX17_selects_20 (fun r7 σ6 => ?_)
  refine g_if_ne 52 dX17_selects_23 (by decide) ?_ ?_
  · refine G.sub [2, 1, 0] rfl ?_
    exact gX17_selects_p52 _ _ _ _
  · refine g_iload_n 2 0 dX17_selects_26 rfl rfl ?_
    refine g_callS (fc := fun sς => Mdl_isReference sς r5) (as := [iv r5]) q3663 mdX17_270 (ctX17_isReference r5) rfl (Nat.le_of_ble_eq_true rfl) (Nat.le_of_ble_eq_true rfl) (Nat.le_of_ble_eq_true rfl) pu_I dX17_selects_27 (fun r9 σ8 => ?_)
    refine g_if_ne 52 dX17_selects_30 (by decide) ?_ ?_
    · refine G.sub [2, 1, 0] rfl ?_
      exact gX17_selects_p52 _ _ _ _
    · refine g_iload_n 1 1 dX17_selects_33 rfl rfl ?_
      refine g_iconst (v := (-1)) dX17_selects_34 (by decide) ?_
      refine g_icmp_eq 48 dX17_selects_35 (by decide) ?_ ?_
      · refine G.sub [2, 1, 0] rfl ?_
        exact gX17_selects_p48 _ _ _ _
      · refine g_iload_n 2 0 dX17_selects_38 rfl rfl ?_
        refine g_iconst (v := (-1)) dX17_selects_39 (by decide) ?_
        refine g_icmp_eq 48 dX17_selects_40 (by decide) ?_ ?_
        · refine G.sub [2, 1, 0] rfl ?_
          exact gX17_selects_p48 _ _ _ _
        · refine g_iload_n 1 1 dX17_selects_43 rfl rfl ?_
          refine g_iload_n 2 0 dX17_selects_44 rfl rfl ?_
          refine g_icmp_ne 52 dX17_selects_45 (by decide) ?_ ?_
          · refine G.sub [2, 1, 0] rfl ?_
            exact gX17_selects_p52 _ _ _ _
          · refine G.sub [2, 1, 0] rfl ?_
            exact gX17_selects_p48 _ _ _ _
theorem V.dX17_controls_0 : decode cX17_controls 0 = .ok (.iload_n 1, 1) := by decide +kernel
theorem V.dX17_controls_1 : decode cX17_controls 1 = .ok (.tableswitch 394 0 28 #[131, 394, 138, 138, 138, 174, 394, 394, 394, 394, 394, 174, 182, 198, 253, 260, 276, 307, 394, 394, 394, 394, 394, 394, 394, 394, 335, 345, 352], 131) := by decide +kernel
theorem V.dX17_controls_132 : decode cX17_controls 132 = .ok (.aload_n 0, 1) := by decide +kernel
theorem V.dX17_controls_133 : decode cX17_controls 133 = .ok (.invokevirtual 762, 3) := by decide +kernel
theorem V.dX17_controls_136 : decode cX17_controls 136 = .ok (.goto 259, 3) := by decide +kernel
theorem V.dX17_controls_139 : decode cX17_controls 139 = .ok (.aload_n 0, 1) := by decide +kernel
theorem V.dX17_controls_140 : decode cX17_controls 140 = .ok (.invokevirtual 600, 3) := by decide +kernel
theorem V.dX17_controls_143 : decode cX17_controls 143 = .ok (.lstore_n 2, 1) := by decide +kernel
theorem V.dX17_controls_144 : decode cX17_controls 144 = .ok (.iload_n 1, 1) := by decide +kernel
theorem V.dX17_controls_145 : decode cX17_controls 145 = .ok (.iconst 4, 1) := by decide +kernel
theorem V.dX17_controls_146 : decode cX17_controls 146 = .ok (.if_icmp .ne 10, 3) := by decide +kernel
theorem V.dX17_controls_149 : decode cX17_controls 149 = .ok (.aload_n 0, 1) := by decide +kernel
theorem V.dX17_controls_150 : decode cX17_controls 150 = .ok (.bipush 127, 2) := by decide +kernel
theorem V.dX17_controls_152 : decode cX17_controls 152 = .ok (.iconst 1, 1) := by decide +kernel
theorem V.dX17_controls_153 : decode cX17_controls 153 = .ok (.invokevirtual 750, 3) := by decide +kernel
theorem V.dX17_controls_156 : decode cX17_controls 156 = .ok (.aload_n 0, 1) := by decide +kernel
theorem V.dX17_controls_157 : decode cX17_controls 157 = .ok (.lload_n 2, 1) := by decide +kernel
theorem V.dX17_controls_158 : decode cX17_controls 158 = .ok (.invokevirtual 765, 3) := by decide +kernel
theorem V.dX17_controls_161 : decode cX17_controls 161 = .ok (.aload_n 0, 1) := by decide +kernel
theorem V.dX17_controls_162 : decode cX17_controls 162 = .ok (.iload_n 1, 1) := by decide +kernel
theorem V.dX17_controls_163 : decode cX17_controls 163 = .ok (.lload_n 2, 1) := by decide +kernel
theorem V.dX17_controls_164 : decode cX17_controls 164 = .ok (.invokevirtual 716, 3) := by decide +kernel
theorem V.dX17_controls_167 : decode cX17_controls 167 = .ok (.aload_n 0, 1) := by decide +kernel
theorem V.dX17_controls_168 : decode cX17_controls 168 = .ok (.lload_n 2, 1) := by decide +kernel
theorem V.dX17_controls_169 : decode cX17_controls 169 = .ok (.invokevirtual 768, 3) := by decide +kernel
theorem V.dX17_controls_172 : decode cX17_controls 172 = .ok (.goto 223, 3) := by decide +kernel
theorem V.dX17_controls_175 : decode cX17_controls 175 = .ok (.aload_n 0, 1) := by decide +kernel
theorem V.dX17_controls_176 : decode cX17_controls 176 = .ok (.iload_n 1, 1) := by decide +kernel
theorem V.dX17_controls_177 : decode cX17_controls 177 = .ok (.invokevirtual 771, 3) := by decide +kernel
theorem V.dX17_controls_180 : decode cX17_controls 180 = .ok (.goto 215, 3) := by decide +kernel
theorem V.dX17_controls_183 : decode cX17_controls 183 = .ok (.aload_n 0, 1) := by decide +kernel
theorem V.dX17_controls_184 : decode cX17_controls 184 = .ok (.aload_n 0, 1) := by decide +kernel
theorem V.dX17_controls_185 : decode cX17_controls 185 = .ok (.invokevirtual 603, 3) := by decide +kernel
theorem V.dX17_controls_188 : decode cX17_controls 188 = .ok (.l2i, 1) := by decide +kernel
theorem V.dX17_controls_189 : decode cX17_controls 189 = .ok (.invokevirtual 774, 3) := by decide +kernel
theorem V.dX17_controls_192 : decode cX17_controls 192 = .ok (.aload_n 0, 1) := by decide +kernel
theorem V.dX17_controls_193 : decode cX17_controls 193 = .ok (.invokevirtual 762, 3) := by decide +kernel
theorem V.dX17_controls_196 : decode cX17_controls 196 = .ok (.goto 199, 3) := by decide +kernel
theorem V.dX17_controls_199 : decode cX17_controls 199 = .ok (.aload_n 0, 1) := by decide +kernel
theorem V.dX17_controls_200 : decode cX17_controls 200 = .ok (.invokevirtual 603, 3) := by decide +kernel
theorem V.dX17_controls_203 : decode cX17_controls 203 = .ok (.l2i, 1) := by decide +kernel
theorem V.dX17_controls_204 : decode cX17_controls 204 = .ok (.istore 4, 2) := by decide +kernel
theorem V.dX17_controls_206 : decode cX17_controls 206 = .ok (.aload_n 0, 1) := by decide +kernel
theorem V.dX17_controls_207 : decode cX17_controls 207 = .ok (.bipush 127, 2) := by decide +kernel
theorem V.dX17_controls_209 : decode cX17_controls 209 = .ok (.iconst 1, 1) := by decide +kernel
theorem V.dX17_controls_210 : decode cX17_controls 210 = .ok (.invokevirtual 750, 3) := by decide +kernel
theorem V.dX17_controls_213 : decode cX17_controls 213 = .ok (.aload_n 0, 1) := by decide +kernel
theorem V.dX17_controls_214 : decode cX17_controls 214 = .ok (.iload 4, 2) := by decide +kernel
theorem V.dX17_controls_216 : decode cX17_controls 216 = .ok (.invokevirtual 774, 3) := by decide +kernel
theorem V.dX17_controls_219 : decode cX17_controls 219 = .ok (.iconst 0, 1) := by decide +kernel
theorem V.dX17_controls_220 : decode cX17_controls 220 = .ok (.istore 5, 2) := by decide +kernel
theorem V.dX17_controls_222 : decode cX17_controls 222 = .ok (.iload 5, 2) := by decide +kernel
theorem V.dX17_controls_224 : decode cX17_controls 224 = .ok (.aload_n 0, 1) := by decide +kernel
theorem V.dX17_controls_225 : decode cX17_controls 225 = .ok (.iload 4, 2) := by decide +kernel
theorem V.dX17_controls_227 : decode cX17_controls 227 = .ok (.invokevirtual 704, 3) := by decide +kernel
theorem V.dX17_controls_230 : decode cX17_controls 230 = .ok (.if_icmp .ge 21, 3) := by decide +kernel
theorem V.dX17_controls_233 : decode cX17_controls 233 = .ok (.aload_n 0, 1) := by decide +kernel
theorem V.dX17_controls_234 : decode cX17_controls 234 = .ok (.aload_n 0, 1) := by decide +kernel
theorem V.dX17_controls_235 : decode cX17_controls 235 = .ok (.iload 4, 2) := by decide +kernel
theorem V.dX17_controls_237 : decode cX17_controls 237 = .ok (.iload 5, 2) := by decide +kernel
theorem V.dX17_controls_239 : decode cX17_controls 239 = .ok (.invokevirtual 707, 3) := by decide +kernel
theorem V.dX17_controls_242 : decode cX17_controls 242 = .ok (.invokevirtual 695, 3) := by decide +kernel
theorem V.dX17_controls_245 : decode cX17_controls 245 = .ok (.iinc 5 1, 3) := by decide +kernel
theorem V.dX17_controls_248 : decode cX17_controls 248 = .ok (.goto (-26), 3) := by decide +kernel
theorem V.dX17_controls_251 : decode cX17_controls 251 = .ok (.goto 144, 3) := by decide +kernel
theorem V.dX17_controls_254 : decode cX17_controls 254 = .ok (.aload_n 0, 1) := by decide +kernel
theorem V.dX17_controls_255 : decode cX17_controls 255 = .ok (.invokevirtual 777, 3) := by decide +kernel
theorem V.dX17_controls_258 : decode cX17_controls 258 = .ok (.goto 137, 3) := by decide +kernel
theorem V.dX17_controls_261 : decode cX17_controls 261 = .ok (.aload_n 0, 1) := by decide +kernel
theorem V.dX17_controls_262 : decode cX17_controls 262 = .ok (.aload_n 0, 1) := by decide +kernel
theorem V.dX17_controls_263 : decode cX17_controls 263 = .ok (.getfield 713, 3) := by decide +kernel
theorem V.dX17_controls_266 : decode cX17_controls 266 = .ok (.i2l, 1) := by decide +kernel
theorem V.dX17_controls_267 : decode cX17_controls 267 = .ok (.invokevirtual 780, 3) := by decide +kernel
theorem V.dX17_controls_270 : decode cX17_controls 270 = .ok (.aload_n 0, 1) := by decide +kernel
theorem V.dX17_controls_271 : decode cX17_controls 271 = .ok (.invokevirtual 762, 3) := by decide +kernel
theorem V.dX17_controls_274 : decode cX17_controls 274 = .ok (.goto 121, 3) := by decide +kernel
theorem V.dX17_controls_277 : decode cX17_controls 277 = .ok (.aload_n 0, 1) := by decide +kernel
theorem V.dX17_controls_278 : decode cX17_controls 278 = .ok (.getfield 221, 3) := by decide +kernel
theorem V.dX17_controls_281 : decode cX17_controls 281 = .ok (.aload_n 0, 1) := by decide +kernel
theorem V.dX17_controls_282 : decode cX17_controls 282 = .ok (.invokevirtual 603, 3) := by decide +kernel
theorem V.dX17_controls_285 : decode cX17_controls 285 = .ok (.l2i, 1) := by decide +kernel
theorem V.dX17_controls_286 : decode cX17_controls 286 = .ok (.invokevirtual 621, 3) := by decide +kernel
theorem V.dX17_controls_289 : decode cX17_controls 289 = .ok (.istore 5, 2) := by decide +kernel
theorem V.dX17_controls_291 : decode cX17_controls 291 = .ok (.aload_n 0, 1) := by decide +kernel
theorem V.dX17_controls_292 : decode cX17_controls 292 = .ok (.iload 5, 2) := by decide +kernel
theorem V.dX17_controls_294 : decode cX17_controls 294 = .ok (.i2l, 1) := by decide +kernel
theorem V.dX17_controls_295 : decode cX17_controls 295 = .ok (.invokevirtual 765, 3) := by decide +kernel
theorem V.dX17_controls_298 : decode cX17_controls 298 = .ok (.aload_n 0, 1) := by decide +kernel
theorem V.dX17_controls_299 : decode cX17_controls 299 = .ok (.iload 5, 2) := by decide +kernel
theorem V.dX17_controls_301 : decode cX17_controls 301 = .ok (.i2l, 1) := by decide +kernel
theorem V.dX17_controls_302 : decode cX17_controls 302 = .ok (.invokevirtual 783, 3) := by decide +kernel
theorem V.dX17_controls_305 : decode cX17_controls 305 = .ok (.goto 90, 3) := by decide +kernel
theorem V.dX17_controls_308 : decode cX17_controls 308 = .ok (.aload_n 0, 1) := by decide +kernel
theorem V.dX17_controls_309 : decode cX17_controls 309 = .ok (.invokevirtual 603, 3) := by decide +kernel
theorem V.dX17_controls_312 : decode cX17_controls 312 = .ok (.lstore 6, 2) := by decide +kernel
theorem V.dX17_controls_314 : decode cX17_controls 314 = .ok (.aload_n 0, 1) := by decide +kernel
theorem V.dX17_controls_315 : decode cX17_controls 315 = .ok (.bipush 127, 2) := by decide +kernel
theorem V.dX17_controls_317 : decode cX17_controls 317 = .ok (.iconst 1, 1) := by decide +kernel
theorem V.dX17_controls_318 : decode cX17_controls 318 = .ok (.invokevirtual 750, 3) := by decide +kernel
theorem V.dX17_controls_321 : decode cX17_controls 321 = .ok (.aload_n 0, 1) := by decide +kernel
theorem V.dX17_controls_322 : decode cX17_controls 322 = .ok (.lload 6, 2) := by decide +kernel
theorem V.dX17_controls_324 : decode cX17_controls 324 = .ok (.invokevirtual 765, 3) := by decide +kernel
theorem V.dX17_controls_327 : decode cX17_controls 327 = .ok (.aload_n 0, 1) := by decide +kernel
theorem V.dX17_controls_328 : decode cX17_controls 328 = .ok (.lload 6, 2) := by decide +kernel
theorem V.dX17_controls_330 : decode cX17_controls 330 = .ok (.invokevirtual 783, 3) := by decide +kernel
theorem V.dX17_controls_333 : decode cX17_controls 333 = .ok (.goto 62, 3) := by decide +kernel
theorem V.dX17_controls_336 : decode cX17_controls 336 = .ok (.aload_n 0, 1) := by decide +kernel
theorem V.dX17_controls_337 : decode cX17_controls 337 = .ok (.iconst 0, 1) := by decide +kernel
theorem V.dX17_controls_338 : decode cX17_controls 338 = .ok (.invokevirtual 692, 3) := by decide +kernel
theorem V.dX17_controls_341 : decode cX17_controls 341 = .ok (.istore 8, 2) := by decide +kernel
theorem V.dX17_controls_343 : decode cX17_controls 343 = .ok (.goto 52, 3) := by decide +kernel
theorem V.dX17_controls_346 : decode cX17_controls 346 = .ok (.aload_n 0, 1) := by decide +kernel
theorem V.dX17_controls_347 : decode cX17_controls 347 = .ok (.invokevirtual 786, 3) := by decide +kernel
theorem V.dX17_controls_350 : decode cX17_controls 350 = .ok (.goto 45, 3) := by decide +kernel
theorem V.dX17_controls_353 : decode cX17_controls 353 = .ok (.aload_n 0, 1) := by decide +kernel
theorem V.dX17_controls_354 : decode cX17_controls 354 = .ok (.invokevirtual 603, 3) := by decide +kernel
theorem V.dX17_controls_357 : decode cX17_controls 357 = .ok (.lstore 9, 2) := by decide +kernel
theorem V.dX17_controls_359 : decode cX17_controls 359 = .ok (.aload_n 0, 1) := by decide +kernel
theorem V.dX17_controls_360 : decode cX17_controls 360 = .ok (.getfield 221, 3) := by decide +kernel
theorem V.dX17_controls_363 : decode cX17_controls 363 = .ok (.aload_n 0, 1) := by decide +kernel
theorem V.dX17_controls_364 : decode cX17_controls 364 = .ok (.getfield 594, 3) := by decide +kernel
theorem V.dX17_controls_367 : decode cX17_controls 367 = .ok (.invokevirtual 261, 3) := by decide +kernel
theorem V.dX17_controls_370 : decode cX17_controls 370 = .ok (.istore 11, 2) := by decide +kernel
theorem V.dX17_controls_372 : decode cX17_controls 372 = .ok (.aload_n 0, 1) := by decide +kernel
theorem V.dX17_controls_373 : decode cX17_controls 373 = .ok (.bipush 127, 2) := by decide +kernel
theorem V.dX17_controls_375 : decode cX17_controls 375 = .ok (.iconst 1, 1) := by decide +kernel
theorem V.dX17_controls_376 : decode cX17_controls 376 = .ok (.invokevirtual 750, 3) := by decide +kernel
theorem V.dX17_controls_379 : decode cX17_controls 379 = .ok (.aload_n 0, 1) := by decide +kernel
theorem V.dX17_controls_380 : decode cX17_controls 380 = .ok (.iload 11, 2) := by decide +kernel
theorem V.dX17_controls_382 : decode cX17_controls 382 = .ok (.iconst 2, 1) := by decide +kernel
theorem V.dX17_controls_383 : decode cX17_controls 383 = .ok (.invokevirtual 750, 3) := by decide +kernel
theorem V.dX17_controls_386 : decode cX17_controls 386 = .ok (.aload_n 0, 1) := by decide +kernel
theorem V.dX17_controls_387 : decode cX17_controls 387 = .ok (.iload 11, 2) := by decide +kernel
theorem V.dX17_controls_389 : decode cX17_controls 389 = .ok (.invokevirtual 695, 3) := by decide +kernel
theorem V.dX17_controls_392 : decode cX17_controls 392 = .ok (.goto 3, 3) := by decide +kernel
theorem V.dX17_controls_395 : decode cX17_controls 395 = .ok (.return_, 1) := by decide +kernel
theorem V.mdX17_777 : MD RX17 777 yX17_chooses cX17_chooses 8 none 0 := ⟨Or.inl q3966, q377, q3969, by decide, by decide, by decide +kernel⟩
theorem V.mdX17_621 : MD RX17 621 yX20_typeOfFunction cX20_typeOfFunction 3 (some .int) 1 := ⟨Or.inl q3795, q385, q3798, by decide, by decide, by decide +kernel⟩
theorem V.mdX17_765 : MD RX17 765 yX17_takeParameters cX17_takeParameters 5 none 1 := ⟨Or.inl q3917, q377, q3920, by decide, by decide, by decide +kernel⟩
theorem V.mdX17_786 : MD RX17 786 yX17_selects cX17_selects 4 none 0 := ⟨Or.inl q3970, q377, q3973, by decide, by decide, by decide +kernel⟩
theorem V.mdX17_771 : MD RX17 771 yX17_ends cX17_ends 7 none 1 := ⟨Or.inl q3933, q377, q3936, by decide, by decide, by decide +kernel⟩
theorem V.mdX17_716 : MD RX17 716 yX17_begins cX17_begins 4 none 2 := ⟨Or.inl q3865, q377, q3868, by decide, by decide, by decide +kernel⟩
/-! ModuleEngineModel.controls(I)V -/
def V.Mdl_controls_p156  (σ : HS) (x0 : Nat) (x1 : Int32) (x2 : Int64) : Option ((Nat ⊕ Unit) × HS) :=
  ck (tg σ x0 = 18) <| clT (Mdl_takeParameters σ x0 x2) fun _ σ1 =>
  ck (tg σ1 x0 = 18) <| clT (Mdl_begins σ1 x0 x1 x2) fun _ σ2 =>
  ck (tg σ2 x0 = 18) <| clT (Mdl_putParameters σ2 x0 x2) fun _ σ3 =>
  some (.inr (), σ3)
theorem V.gX17_controls_p156 {X : CX}  (σ : HS) (x0 : Nat) (x1 : Int32) (x2 : Int64) : G X RX17 "controls" cX17_controls 12 none 4 96 (enX enV (cxz X)) 156 [(0, av x0), (1, iv x1), (2, jv x2)] [] σ (Mdl_controls_p156 σ x0 x1 x2) := by
  unfold Mdl_controls_p156
  refine g_aload_n 0 0 dX17_controls_156 rfl rfl ?_
  refine g_lload_n 2 2 dX17_controls_157 rfl rfl ?_
  refine g_callVT (fc := fun sς => Mdl_takeParameters sς x0 x2) (ci := 17) (as := [jv x2]) rfl rfl rfl q3919 qs270 q3917 mdX17_765 (ctX17_takeParameters x0 x2) rfl (Nat.le_of_ble_eq_true rfl) (Nat.le_of_ble_eq_true rfl) (Nat.le_of_ble_eq_true rfl) pu_V (by decide) dX17_controls_158 (fun _ σ1 => ?_)
  refine g_aload_n 0 0 dX17_controls_161 rfl rfl ?_
  refine g_iload_n 1 1 dX17_controls_162 rfl rfl ?_
  refine g_lload_n 2 2 dX17_controls_163 rfl rfl ?_
  refine g_callVT (fc := fun sς => Mdl_begins sς x0 x1 x2) (ci := 17) (as := [iv x1, jv x2]) rfl rfl rfl q3867 qs260 q3865 mdX17_716 (ctX17_begins x0 x1 x2) rfl (Nat.le_of_ble_eq_true rfl) (Nat.le_of_ble_eq_true rfl) (Nat.le_of_ble_eq_true rfl) pu_V (by decide) dX17_controls_164 (fun _ σ2 => ?_)
  refine g_aload_n 0 0 dX17_controls_167 rfl rfl ?_
  refine g_lload_n 2 2 dX17_controls_168 rfl rfl ?_
  refine g_callVT (fc := fun sς => Mdl_putParameters sς x0 x2) (ci := 17) (as := [jv x2]) rfl rfl rfl q3931 qs273 q3929 mdX17_768 (ctX17_putParameters x0 x2) rfl (Nat.le_of_ble_eq_true rfl) (Nat.le_of_ble_eq_true rfl) (Nat.le_of_ble_eq_true rfl) pu_V (by decide) dX17_controls_169 (fun _ σ3 => ?_)
  refine g_goto 395 dX17_controls_172 (by decide) ?_
  exact g_return rfl dX17_controls_395
def V.Mdl_controls_p139  (σ : HS) (x0 : Nat) (x1 : Int32) : Option ((Nat ⊕ Unit) × HS) :=
  ck (tg σ x0 = 18) <| cl (Mdl_blockWord σ x0 ) fun r2 σ1 =>
  if x1 = (4 : Int32) then (
    ck (tg σ1 x0 = 18) <| clT (Mdl_takes σ1 x0 (127 : Int32) (1 : Int32)) fun _ σ3 =>
    Mdl_controls_p156 σ3 x0 x1 r2)
  else (
    Mdl_controls_p156 σ1 x0 x1 r2)
theorem V.gX17_controls_p139 {X : CX}  (σ : HS) (x0 : Nat) (x1 : Int32) : G X RX17 "controls" cX17_controls 12 none 4 96 (enX enV (cxz X)) 139 [(0, av x0), (1, iv x1)] [] σ (Mdl_controls_p139 σ x0 x1) := by
  unfold Mdl_controls_p139
  refine g_aload_n 0 0 dX17_controls_139 rfl rfl ?_
  refine g_callV (fc := fun sς => Mdl_blockWord sς x0 ) (ci := 17) (as := []) rfl rfl rfl q3826 qs253 mdX17_600 (ctX17_blockWord x0 ) rfl (Nat.le_of_ble_eq_true rfl) (Nat.le_of_ble_eq_true rfl) (Nat.le_of_ble_eq_true rfl) pu_J dX17_controls_140 (fun r2 σ1 => ?_)
  refine g_lstore_n 2 dX17_controls_143 rfl (by decide) rfl ?_
  refine g_iload_n 1 2 dX17_controls_144 rfl rfl ?_
  refine g_iconst (v := 4) dX17_controls_145 (by decide) ?_
  refine g_icmp_ne 156 dX17_controls_146 (by decide) ?_ ?_
  · refine G.sub [1, 2, 0] rfl ?_
    exact gX17_controls_p156 _ _ _ _
  · refine g_aload_n 0 1 dX17_controls_149 rfl rfl ?_
    refine g_bipush (v := 127) dX17_controls_150 (by decide) ?_
    refine g_iconst (v := 1) dX17_controls_152 (by decide) ?_
    refine g_callVT (fc := fun sς => Mdl_takes sς x0 (127 : Int32) (1 : Int32)) (ci := 17) (as := [iv (127 : Int32), iv (1 : Int32)]) rfl rfl rfl q3896 qs265 q3894 mdX17_750 (ctX17_takes x0 (127 : Int32) (1 : Int32)) rfl (Nat.le_of_ble_eq_true rfl) (Nat.le_of_ble_eq_true rfl) (Nat.le_of_ble_eq_true rfl) pu_V (by decide) dX17_controls_153 (fun _ σ3 => ?_)
    refine G.sub [1, 2, 0] rfl ?_
    exact gX17_controls_p156 _ _ _ _
def V.Mdl_controls_p175  (σ : HS) (x0 : Nat) (x1 : Int32) : Option ((Nat ⊕ Unit) × HS) :=
  ck (tg σ x0 = 18) <| clT (Mdl_ends σ x0 x1) fun _ σ1 =>
  some (.inr (), σ1)
theorem V.gX17_controls_p175 {X : CX}  (σ : HS) (x0 : Nat) (x1 : Int32) : G X RX17 "controls" cX17_controls 12 none 4 96 (enX enV (cxz X)) 175 [(0, av x0), (1, iv x1)] [] σ (Mdl_controls_p175 σ x0 x1) := by
  unfold Mdl_controls_p175
  refine g_aload_n 0 0 dX17_controls_175 rfl rfl ?_
  refine g_iload_n 1 1 dX17_controls_176 rfl rfl ?_
  refine g_callVT (fc := fun sς => Mdl_ends sς x0 x1) (ci := 17) (as := [iv x1]) rfl rfl rfl q3935 qs274 q3933 mdX17_771 (ctX17_ends x0 x1) rfl (Nat.le_of_ble_eq_true rfl) (Nat.le_of_ble_eq_true rfl) (Nat.le_of_ble_eq_true rfl) pu_V (by decide) dX17_controls_177 (fun _ σ1 => ?_)
  refine g_goto 395 dX17_controls_180 (by decide) ?_
  exact g_return rfl dX17_controls_395
def V.Mdl_controls_p222  : Nat → HS → Nat → Int32 → Int32 → Option ((Nat ⊕ Unit) × HS)
  | 0, _, _, _, _ => none
  | n + 1, σ, x0, x4, x5 =>
    ck (tg σ x0 = 18) <| cl (Mdl_wantedBy σ x0 x4) fun r2 σ1 =>
    if r2 ≤ x5 then (
      some (.inr (), σ1))
    else (
      ck (tg σ1 x0 = 18) <| cl (Mdl_wantedAt σ1 x0 x4 x5) fun r4 σ3 =>
      ck (tg σ3 x0 = 18) <| clT (Mdl_put σ3 x0 r4) fun _ σ5 =>
      bn (x5 + (1 : Int32)) fun y6 =>
      Mdl_controls_p222 n σ5 x0 x4 y6)
theorem V.gX17_controls_p222 {X : CX}  : ∀ (n : Nat) (σ : HS) (x0 : Nat) (x4 : Int32) (x5 : Int32), G X RX17 "controls" cX17_controls 12 none 4 96 (enX enV (cxz X)) 222 [(0, av x0), (4, iv x4), (5, iv x5)] [] σ (Mdl_controls_p222 n σ x0 x4 x5)
  | 0, σ, x0, x4, x5 => by rw [Mdl_controls_p222]; exact G.nul
  | n + 1, σ, x0, x4, x5 => by
    rw [Mdl_controls_p222]
    refine g_iload 2 dX17_controls_222 rfl ?_
    refine g_aload_n 0 0 dX17_controls_224 rfl rfl ?_
    refine g_iload 1 dX17_controls_225 rfl ?_
    refine g_callV (fc := fun sς => Mdl_wantedBy sς x0 x4) (ci := 17) (as := [iv x4]) rfl rfl rfl q3960 qs280 mdX17_704 (ctX17_wantedBy x0 x4) rfl (Nat.le_of_ble_eq_true rfl) (Nat.le_of_ble_eq_true rfl) (Nat.le_of_ble_eq_true rfl) pu_I dX17_controls_227 (fun r2 σ1 => ?_)
    refine g_icmp_ge 251 dX17_controls_230 (by decide) ?_ ?_
    · refine g_goto 395 dX17_controls_251 (by decide) ?_
      exact g_return rfl dX17_controls_395
    · refine g_aload_n 0 0 dX17_controls_233 rfl rfl ?_
      refine g_aload_n 0 0 dX17_controls_234 rfl rfl ?_
      refine g_iload 1 dX17_controls_235 rfl ?_
      refine g_iload 2 dX17_controls_237 rfl ?_
      refine g_callV (fc := fun sς => Mdl_wantedAt sς x0 x4 x5) (ci := 17) (as := [iv x4, iv x5]) rfl rfl rfl q3964 qs281 mdX17_707 (ctX17_wantedAt x0 x4 x5) rfl (Nat.le_of_ble_eq_true rfl) (Nat.le_of_ble_eq_true rfl) (Nat.le_of_ble_eq_true rfl) pu_I dX17_controls_239 (fun r4 σ3 => ?_)
      refine g_callVT (fc := fun sς => Mdl_put sς x0 r4) (ci := 17) (as := [iv r4]) rfl rfl rfl q3907 qs267 q3905 mdX17_695 (ctX17_put x0 r4) rfl (Nat.le_of_ble_eq_true rfl) (Nat.le_of_ble_eq_true rfl) (Nat.le_of_ble_eq_true rfl) pu_V (by decide) dX17_controls_242 (fun _ σ5 => ?_)
      refine g_iincB (w := 1) 2 dX17_controls_245 rfl (by decide) (by decide) (fun _ => rfl) (fun y6 => ?_)
      refine g_goto 222 dX17_controls_248 (by decide) ?_
      refine G.sub [1, 2, 0] rfl ?_
      exact gX17_controls_p222 n _ _ _ _
def V.Mdl_controls (σ : HS) (x0 : Nat) (x1 : Int32) : Option ((Nat ⊕ Unit) × HS) :=
  swx x1 [
    (0, (
      ck (tg σ x0 = 18) <| cl (Mdl_dies σ x0 ) fun _ σ1 =>
      some (.inr (), σ1))),
    (2, (
      Mdl_controls_p139 σ x0 x1)),
    (3, (
      Mdl_controls_p139 σ x0 x1)),
    (4, (
      Mdl_controls_p139 σ x0 x1)),
    (5, (
      Mdl_controls_p175 σ x0 x1)),
    (11, (
      Mdl_controls_p175 σ x0 x1)),
    (12, (
      ck (tg σ x0 = 18) <| cl (Mdl_word σ x0 ) fun r3 σ2 =>
      ck (tg σ2 x0 = 18) <| clT (Mdl_takeWanted σ2 x0 r3.toInt32) fun _ σ4 =>
      ck (tg σ4 x0 = 18) <| cl (Mdl_dies σ4 x0 ) fun _ σ5 =>
      some (.inr (), σ5))),
    (13, (
      ck (tg σ x0 = 18) <| cl (Mdl_word σ x0 ) fun r7 σ6 =>
      ck (tg σ6 x0 = 18) <| clT (Mdl_takes σ6 x0 (127 : Int32) (1 : Int32)) fun _ σ8 =>
      ck (tg σ8 x0 = 18) <| clT (Mdl_takeWanted σ8 x0 r7.toInt32) fun _ σ9 =>
      Mdl_controls_p222 FU σ9 x0 r7.toInt32 (0 : Int32))),
    (14, (
      ck (tg σ x0 = 18) <| clT (Mdl_chooses σ x0 ) fun _ σ10 =>
      some (.inr (), σ10))),
    (15, (
      ck (tg σ x0 = 18) <|
      ck (tg σ x0 = 18) <| clT (Mdl_takeResults σ x0 ((gI σ x0 30).toInt64)) fun _ σ11 =>
      ck (tg σ11 x0 = 18) <| cl (Mdl_dies σ11 x0 ) fun _ σ12 =>
      some (.inr (), σ12))),
    (16, (
      ck (tg σ x0 = 18) <|
      ck (tg σ x0 = 18) <| cl (Mdl_word σ x0 ) fun r14 σ13 =>
      ck (tg σ13 (gR σ x0 10) = 21) <| cl (Pln_typeOfFunction σ13 (gR σ x0 10) r14.toInt32) fun r16 σ15 =>
      ck (tg σ15 x0 = 18) <| clT (Mdl_takeParameters σ15 x0 r16.toInt64) fun _ σ17 =>
      ck (tg σ17 x0 = 18) <| clT (Mdl_putResults σ17 x0 r16.toInt64) fun _ σ18 =>
      some (.inr (), σ18))),
    (17, (
      ck (tg σ x0 = 18) <| cl (Mdl_word σ x0 ) fun r20 σ19 =>
      ck (tg σ19 x0 = 18) <| clT (Mdl_takes σ19 x0 (127 : Int32) (1 : Int32)) fun _ σ21 =>
      ck (tg σ21 x0 = 18) <| clT (Mdl_takeParameters σ21 x0 r20) fun _ σ22 =>
      ck (tg σ22 x0 = 18) <| clT (Mdl_putResults σ22 x0 r20) fun _ σ23 =>
      some (.inr (), σ23))),
    (26, (
      ck (tg σ x0 = 18) <| clT (Mdl_take σ x0 (0 : Int32)) fun r25 σ24 =>
      some (.inr (), σ24))),
    (27, (
      ck (tg σ x0 = 18) <| clT (Mdl_selects σ x0 ) fun _ σ26 =>
      some (.inr (), σ26))),
    (28, (
      ck (tg σ x0 = 18) <| cl (Mdl_word σ x0 ) fun r28 σ27 =>
      ck (tg σ27 x0 = 18) <|
      ck (tg σ27 x0 = 18) <|
      ck (tg σ27 (gR σ27 x0 10) = 21) <| cl (Pln_at σ27 (gR σ27 x0 10) (gI σ27 x0 19)) fun r30 σ29 =>
      ck (tg σ29 x0 = 18) <| clT (Mdl_takes σ29 x0 (127 : Int32) (1 : Int32)) fun _ σ31 =>
      ck (tg σ31 x0 = 18) <| clT (Mdl_takes σ31 x0 r30 (2 : Int32)) fun _ σ32 =>
      ck (tg σ32 x0 = 18) <| clT (Mdl_put σ32 x0 r30) fun _ σ33 =>
      some (.inr (), σ33)))
    ] (
    some (.inr (), σ))
theorem V.ctX17_controls (x0 : Nat) (x1 : Int32) : Ct yX17_controls  cX17_controls 12 none 4 96 eXV [av x0, iv x1] (fun σ => Mdl_controls σ x0 x1) := by
  refine Ct.of (own := RX17) (nm := "controls") (desc := "(I)V") rfl (by decide) (Nat.le_of_ble_eq_true rfl) (by decide) (fun X σ => ?_)
  show G X RX17 "controls" cX17_controls 12 none 4 96 (enX enV (cxz X)) 0 [(0, av x0), (1, iv x1)] [] σ (Mdl_controls σ x0 x1)
  unfold Mdl_controls
  refine g_iload_n 1 1 dX17_controls_0 rfl rfl ?_
  refine g_tsw dX17_controls_1 (by decide +kernel) ?_
  refine g_case ex0 (t := 132) (by decide +kernel) ?_ (fun hx => ?_)
  · refine g_aload_n 0 0 dX17_controls_132 rfl rfl ?_
    refine g_callV (fc := fun sς => Mdl_dies sς x0 ) (ci := 17) (as := []) rfl rfl rfl q3915 qs269 mdX17_762 (ctX17_dies x0 ) rfl (Nat.le_of_ble_eq_true rfl) (Nat.le_of_ble_eq_true rfl) (Nat.le_of_ble_eq_true rfl) pu_V dX17_controls_133 (fun _ σ1 => ?_)
    refine g_goto 395 dX17_controls_136 (by decide) ?_
    exact g_return rfl dX17_controls_395
  refine g_case hx (t := 139) (by decide +kernel) ?_ (fun hx => ?_)
  · exact gX17_controls_p139 _ _ _
  refine g_case hx (t := 139) (by decide +kernel) ?_ (fun hx => ?_)
  · exact gX17_controls_p139 _ _ _
  refine g_case hx (t := 139) (by decide +kernel) ?_ (fun hx => ?_)
  · exact gX17_controls_p139 _ _ _
  refine g_case hx (t := 175) (by decide +kernel) ?_ (fun hx => ?_)
  · exact gX17_controls_p175 _ _ _
  refine g_case hx (t := 175) (by decide +kernel) ?_ (fun hx => ?_)
  · exact gX17_controls_p175 _ _ _
  refine g_case hx (t := 183) (by decide +kernel) ?_ (fun hx => ?_)
  · refine g_aload_n 0 0 dX17_controls_183 rfl rfl ?_
    refine g_aload_n 0 0 dX17_controls_184 rfl rfl ?_
    refine g_callV (fc := fun sς => Mdl_word sς x0 ) (ci := 17) (as := []) rfl rfl rfl q3813 qs250 mdX17_603 (ctX17_word x0 ) rfl (Nat.le_of_ble_eq_true rfl) (Nat.le_of_ble_eq_true rfl) (Nat.le_of_ble_eq_true rfl) pu_J dX17_controls_185 (fun r3 σ2 => ?_)
    refine g_l2i dX17_controls_188 ?_
    refine g_callVT (fc := fun sς => Mdl_takeWanted sς x0 r3.toInt32) (ci := 17) (as := [iv r3.toInt32]) rfl rfl rfl q3956 qs279 q3954 mdX17_774 (ctX17_takeWanted x0 r3.toInt32) rfl (Nat.le_of_ble_eq_true rfl) (Nat.le_of_ble_eq_true rfl) (Nat.le_of_ble_eq_true rfl) pu_V (by decide) dX17_controls_189 (fun _ σ4 => ?_)
    refine g_aload_n 0 0 dX17_controls_192 rfl rfl ?_
    refine g_callV (fc := fun sς => Mdl_dies sς x0 ) (ci := 17) (as := []) rfl rfl rfl q3915 qs269 mdX17_762 (ctX17_dies x0 ) rfl (Nat.le_of_ble_eq_true rfl) (Nat.le_of_ble_eq_true rfl) (Nat.le_of_ble_eq_true rfl) pu_V dX17_controls_193 (fun _ σ5 => ?_)
    refine g_goto 395 dX17_controls_196 (by decide) ?_
    exact g_return rfl dX17_controls_395
  refine g_case hx (t := 199) (by decide +kernel) ?_ (fun hx => ?_)
  · refine g_aload_n 0 0 dX17_controls_199 rfl rfl ?_
    refine g_callV (fc := fun sς => Mdl_word sς x0 ) (ci := 17) (as := []) rfl rfl rfl q3813 qs250 mdX17_603 (ctX17_word x0 ) rfl (Nat.le_of_ble_eq_true rfl) (Nat.le_of_ble_eq_true rfl) (Nat.le_of_ble_eq_true rfl) pu_J dX17_controls_200 (fun r7 σ6 => ?_)
    refine g_l2i dX17_controls_203 ?_
    refine g_istore dX17_controls_204 (by decide) rfl ?_
    refine g_aload_n 0 1 dX17_controls_206 rfl rfl ?_
    refine g_bipush (v := 127) dX17_controls_207 (by decide) ?_
    refine g_iconst (v := 1) dX17_controls_209 (by decide) ?_
    refine g_callVT (fc := fun sς => Mdl_takes sς x0 (127 : Int32) (1 : Int32)) (ci := 17) (as := [iv (127 : Int32), iv (1 : Int32)]) rfl rfl rfl q3896 qs265 q3894 mdX17_750 (ctX17_takes x0 (127 : Int32) (1 : Int32)) rfl (Nat.le_of_ble_eq_true rfl) (Nat.le_of_ble_eq_true rfl) (Nat.le_of_ble_eq_true rfl) pu_V (by decide) dX17_controls_210 (fun _ σ8 => ?_)
    refine g_aload_n 0 1 dX17_controls_213 rfl rfl ?_
    refine g_iload 0 dX17_controls_214 rfl ?_
    refine g_callVT (fc := fun sς => Mdl_takeWanted sς x0 r7.toInt32) (ci := 17) (as := [iv r7.toInt32]) rfl rfl rfl q3956 qs279 q3954 mdX17_774 (ctX17_takeWanted x0 r7.toInt32) rfl (Nat.le_of_ble_eq_true rfl) (Nat.le_of_ble_eq_true rfl) (Nat.le_of_ble_eq_true rfl) pu_V (by decide) dX17_controls_216 (fun _ σ9 => ?_)
    refine g_iconst (v := 0) dX17_controls_219 (by decide) ?_
    refine g_istore dX17_controls_220 (by decide) rfl ?_
    refine G.sub [2, 1, 0] rfl ?_
    exact gX17_controls_p222 FU _ _ _ _
  refine g_case hx (t := 254) (by decide +kernel) ?_ (fun hx => ?_)
  · refine g_aload_n 0 0 dX17_controls_254 rfl rfl ?_
    refine g_callVT (fc := fun sς => Mdl_chooses sς x0 ) (ci := 17) (as := []) rfl rfl rfl q3968 qs282 q3966 mdX17_777 (ctX17_chooses x0 ) rfl (Nat.le_of_ble_eq_true rfl) (Nat.le_of_ble_eq_true rfl) (Nat.le_of_ble_eq_true rfl) pu_V (by decide) dX17_controls_255 (fun _ σ10 => ?_)
    refine g_goto 395 dX17_controls_258 (by decide) ?_
    exact g_return rfl dX17_controls_395
  refine g_case hx (t := 261) (by decide +kernel) ?_ (fun hx => ?_)
  · refine g_aload_n 0 0 dX17_controls_261 rfl rfl ?_
    refine g_aload_n 0 0 dX17_controls_262 rfl rfl ?_
    refine g_getI fdX17_713 dX17_controls_263 ?_
    refine g_i2l dX17_controls_266 ?_
    refine g_callVT (fc := fun sς => Mdl_takeResults sς x0 ((gI σ x0 30).toInt64)) (ci := 17) (as := [jv ((gI σ x0 30).toInt64)]) rfl rfl rfl q3939 qs275 q3937 mdX17_780 (ctX17_takeResults x0 ((gI σ x0 30).toInt64)) rfl (Nat.le_of_ble_eq_true rfl) (Nat.le_of_ble_eq_true rfl) (Nat.le_of_ble_eq_true rfl) pu_V (by decide) dX17_controls_267 (fun _ σ11 => ?_)
    refine g_aload_n 0 0 dX17_controls_270 rfl rfl ?_
    refine g_callV (fc := fun sς => Mdl_dies sς x0 ) (ci := 17) (as := []) rfl rfl rfl q3915 qs269 mdX17_762 (ctX17_dies x0 ) rfl (Nat.le_of_ble_eq_true rfl) (Nat.le_of_ble_eq_true rfl) (Nat.le_of_ble_eq_true rfl) pu_V dX17_controls_271 (fun _ σ12 => ?_)
    refine g_goto 395 dX17_controls_274 (by decide) ?_
    exact g_return rfl dX17_controls_395
  refine g_case hx (t := 277) (by decide +kernel) ?_ (fun hx => ?_)
  · refine g_aload_n 0 0 dX17_controls_277 rfl rfl ?_
    refine g_getR fdX17_221 dX17_controls_278 ?_
    refine g_aload_n 0 0 dX17_controls_281 rfl rfl ?_
    refine g_callV (fc := fun sς => Mdl_word sς x0 ) (ci := 17) (as := []) rfl rfl rfl q3813 qs250 mdX17_603 (ctX17_word x0 ) rfl (Nat.le_of_ble_eq_true rfl) (Nat.le_of_ble_eq_true rfl) (Nat.le_of_ble_eq_true rfl) pu_J dX17_controls_282 (fun r14 σ13 => ?_)
    refine g_l2i dX17_controls_285 ?_
    refine g_callV (fc := fun sς => Pln_typeOfFunction sς (gR σ x0 10) r14.toInt32) (ci := 20) (as := [iv r14.toInt32]) rfl rfl rfl q3796 q3797 mdX17_621 (ctX20_typeOfFunction (gR σ x0 10) r14.toInt32) rfl (Nat.le_of_ble_eq_true rfl) (Nat.le_of_ble_eq_true rfl) (Nat.le_of_ble_eq_true rfl) pu_I dX17_controls_286 (fun r16 σ15 => ?_)
    refine g_istore dX17_controls_289 (by decide) rfl ?_
    refine g_aload_n 0 1 dX17_controls_291 rfl rfl ?_
    refine g_iload 0 dX17_controls_292 rfl ?_
    refine g_i2l dX17_controls_294 ?_
    refine g_callVT (fc := fun sς => Mdl_takeParameters sς x0 r16.toInt64) (ci := 17) (as := [jv r16.toInt64]) rfl rfl rfl q3919 qs270 q3917 mdX17_765 (ctX17_takeParameters x0 r16.toInt64) rfl (Nat.le_of_ble_eq_true rfl) (Nat.le_of_ble_eq_true rfl) (Nat.le_of_ble_eq_true rfl) pu_V (by decide) dX17_controls_295 (fun _ σ17 => ?_)
    refine g_aload_n 0 1 dX17_controls_298 rfl rfl ?_
    refine g_iload 0 dX17_controls_299 rfl ?_
    refine g_i2l dX17_controls_301 ?_
    refine g_callVT (fc := fun sς => Mdl_putResults sς x0 r16.toInt64) (ci := 17) (as := [jv r16.toInt64]) rfl rfl rfl q3952 qs278 q3950 mdX17_783 (ctX17_putResults x0 r16.toInt64) rfl (Nat.le_of_ble_eq_true rfl) (Nat.le_of_ble_eq_true rfl) (Nat.le_of_ble_eq_true rfl) pu_V (by decide) dX17_controls_302 (fun _ σ18 => ?_)
    refine g_goto 395 dX17_controls_305 (by decide) ?_
    exact g_return rfl dX17_controls_395
  refine g_case hx (t := 308) (by decide +kernel) ?_ (fun hx => ?_)
  · refine g_aload_n 0 0 dX17_controls_308 rfl rfl ?_
    refine g_callV (fc := fun sς => Mdl_word sς x0 ) (ci := 17) (as := []) rfl rfl rfl q3813 qs250 mdX17_603 (ctX17_word x0 ) rfl (Nat.le_of_ble_eq_true rfl) (Nat.le_of_ble_eq_true rfl) (Nat.le_of_ble_eq_true rfl) pu_J dX17_controls_309 (fun r20 σ19 => ?_)
    refine g_lstore dX17_controls_312 (by decide) rfl ?_
    refine g_aload_n 0 1 dX17_controls_314 rfl rfl ?_
    refine g_bipush (v := 127) dX17_controls_315 (by decide) ?_
    refine g_iconst (v := 1) dX17_controls_317 (by decide) ?_
    refine g_callVT (fc := fun sς => Mdl_takes sς x0 (127 : Int32) (1 : Int32)) (ci := 17) (as := [iv (127 : Int32), iv (1 : Int32)]) rfl rfl rfl q3896 qs265 q3894 mdX17_750 (ctX17_takes x0 (127 : Int32) (1 : Int32)) rfl (Nat.le_of_ble_eq_true rfl) (Nat.le_of_ble_eq_true rfl) (Nat.le_of_ble_eq_true rfl) pu_V (by decide) dX17_controls_318 (fun _ σ21 => ?_)
    refine g_aload_n 0 1 dX17_controls_321 rfl rfl ?_
    refine g_lload 0 dX17_controls_322 rfl ?_
    refine g_callVT (fc := fun sς => Mdl_takeParameters sς x0 r20) (ci := 17) (as := [jv r20]) rfl rfl rfl q3919 qs270 q3917 mdX17_765 (ctX17_takeParameters x0 r20) rfl (Nat.le_of_ble_eq_true rfl) (Nat.le_of_ble_eq_true rfl) (Nat.le_of_ble_eq_true rfl) pu_V (by decide) dX17_controls_324 (fun _ σ22 => ?_)
    refine g_aload_n 0 1 dX17_controls_327 rfl rfl ?_
    refine g_lload 0 dX17_controls_328 rfl ?_
    refine g_callVT (fc := fun sς => Mdl_putResults sς x0 r20) (ci := 17) (as := [jv r20]) rfl rfl rfl q3952 qs278 q3950 mdX17_783 (ctX17_putResults x0 r20) rfl (Nat.le_of_ble_eq_true rfl) (Nat.le_of_ble_eq_true rfl) (Nat.le_of_ble_eq_true rfl) pu_V (by decide) dX17_controls_330 (fun _ σ23 => ?_)
    refine g_goto 395 dX17_controls_333 (by decide) ?_
    exact g_return rfl dX17_controls_395
  refine g_case hx (t := 336) (by decide +kernel) ?_ (fun hx => ?_)
  · refine g_aload_n 0 0 dX17_controls_336 rfl rfl ?_
    refine g_iconst (v := 0) dX17_controls_337 (by decide) ?_
    refine g_callVT (fc := fun sς => Mdl_take sς x0 (0 : Int32)) (ci := 17) (as := [iv (0 : Int32)]) rfl rfl rfl q3900 qs266 q3898 mdX17_692 (ctX17_take x0 (0 : Int32)) rfl (Nat.le_of_ble_eq_true rfl) (Nat.le_of_ble_eq_true rfl) (Nat.le_of_ble_eq_true rfl) pu_I (by decide) dX17_controls_338 (fun r25 σ24 => ?_)
    refine g_istore dX17_controls_341 (by decide) rfl ?_
    refine g_goto 395 dX17_controls_343 (by decide) ?_
    exact g_return rfl dX17_controls_395
  refine g_case hx (t := 346) (by decide +kernel) ?_ (fun hx => ?_)
  · refine g_aload_n 0 0 dX17_controls_346 rfl rfl ?_
    refine g_callVT (fc := fun sς => Mdl_selects sς x0 ) (ci := 17) (as := []) rfl rfl rfl q3972 qs283 q3970 mdX17_786 (ctX17_selects x0 ) rfl (Nat.le_of_ble_eq_true rfl) (Nat.le_of_ble_eq_true rfl) (Nat.le_of_ble_eq_true rfl) pu_V (by decide) dX17_controls_347 (fun _ σ26 => ?_)
    refine g_goto 395 dX17_controls_350 (by decide) ?_
    exact g_return rfl dX17_controls_395
  refine g_case hx (t := 353) (by decide +kernel) ?_ (fun hx => ?_)
  · refine g_aload_n 0 0 dX17_controls_353 rfl rfl ?_
    refine g_callV (fc := fun sς => Mdl_word sς x0 ) (ci := 17) (as := []) rfl rfl rfl q3813 qs250 mdX17_603 (ctX17_word x0 ) rfl (Nat.le_of_ble_eq_true rfl) (Nat.le_of_ble_eq_true rfl) (Nat.le_of_ble_eq_true rfl) pu_J dX17_controls_354 (fun r28 σ27 => ?_)
    refine g_lstore dX17_controls_357 (by decide) rfl ?_
    refine g_aload_n 0 1 dX17_controls_359 rfl rfl ?_
    refine g_getR fdX17_221 dX17_controls_360 ?_
    refine g_aload_n 0 1 dX17_controls_363 rfl rfl ?_
    refine g_getI fdX17_594 dX17_controls_364 ?_
    refine g_callV (fc := fun sς => Pln_at sς (gR σ27 x0 10) (gI σ27 x0 19)) (ci := 20) (as := [iv (gI σ27 x0 19)]) rfl rfl rfl q3609 q3610 mdX17_261 (ctX20_at (gR σ27 x0 10) (gI σ27 x0 19)) rfl (Nat.le_of_ble_eq_true rfl) (Nat.le_of_ble_eq_true rfl) (Nat.le_of_ble_eq_true rfl) pu_I dX17_controls_367 (fun r30 σ29 => ?_)
    refine g_istore dX17_controls_370 (by decide) rfl ?_
    refine g_aload_n 0 2 dX17_controls_372 rfl rfl ?_
    refine g_bipush (v := 127) dX17_controls_373 (by decide) ?_
    refine g_iconst (v := 1) dX17_controls_375 (by decide) ?_
    refine g_callVT (fc := fun sς => Mdl_takes sς x0 (127 : Int32) (1 : Int32)) (ci := 17) (as := [iv (127 : Int32), iv (1 : Int32)]) rfl rfl rfl q3896 qs265 q3894 mdX17_750 (ctX17_takes x0 (127 : Int32) (1 : Int32)) rfl (Nat.le_of_ble_eq_true rfl) (Nat.le_of_ble_eq_true rfl) (Nat.le_of_ble_eq_true rfl) pu_V (by decide) dX17_controls_376 (fun _ σ31 => ?_)
    refine g_aload_n 0 2 dX17_controls_379 rfl rfl ?_
    refine g_iload 0 dX17_controls_380 rfl ?_
    refine g_iconst (v := 2) dX17_controls_382 (by decide) ?_
    refine g_callVT (fc := fun sς => Mdl_takes sς x0 r30 (2 : Int32)) (ci := 17) (as := [iv r30, iv (2 : Int32)]) rfl rfl rfl q3896 qs265 q3894 mdX17_750 (ctX17_takes x0 r30 (2 : Int32)) rfl (Nat.le_of_ble_eq_true rfl) (Nat.le_of_ble_eq_true rfl) (Nat.le_of_ble_eq_true rfl) pu_V (by decide) dX17_controls_383 (fun _ σ32 => ?_)
    refine g_aload_n 0 2 dX17_controls_386 rfl rfl ?_
    refine g_iload 0 dX17_controls_387 rfl ?_
    refine g_callVT (fc := fun sς => Mdl_put sς x0 r30) (ci := 17) (as := [iv r30]) rfl rfl rfl q3907 qs267 q3905 mdX17_695 (ctX17_put x0 r30) rfl (Nat.le_of_ble_eq_true rfl) (Nat.le_of_ble_eq_true rfl) (Nat.le_of_ble_eq_true rfl) pu_V (by decide) dX17_controls_389 (fun _ σ33 => ?_)
    refine g_goto 395 dX17_controls_392 (by decide) ?_
    exact g_return rfl dX17_controls_395
  refine g_dflt (t := 395) (tswT_d (by decide +kernel) (by decide +kernel) hx) ?_
  exact g_return rfl dX17_controls_395
theorem V.dX17_localType_0 : decode cX17_localType 0 = .ok (.aload_n 0, 1) := by decide +kernel
theorem V.dX17_localType_1 : decode cX17_localType 1 = .ok (.getfield 221, 3) := by decide +kernel
theorem V.dX17_localType_4 : decode cX17_localType 4 = .ok (.getfield 387, 3) := by decide +kernel
theorem V.dX17_localType_7 : decode cX17_localType 7 = .ok (.iload_n 2, 1) := by decide +kernel
theorem V.dX17_localType_8 : decode cX17_localType 8 = .ok (.iaload, 1) := by decide +kernel
theorem V.dX17_localType_9 : decode cX17_localType 9 = .ok (.istore 5, 2) := by decide +kernel
theorem V.dX17_localType_11 : decode cX17_localType 11 = .ok (.lload_n 3, 1) := by decide +kernel
theorem V.dX17_localType_12 : decode cX17_localType 12 = .ok (.iload 5, 2) := by decide +kernel
theorem V.dX17_localType_14 : decode cX17_localType 14 = .ok (.i2l, 1) := by decide +kernel
theorem V.dX17_localType_15 : decode cX17_localType 15 = .ok (.lcmp, 1) := by decide +kernel
theorem V.dX17_localType_16 : decode cX17_localType 16 = .ok (.ifCond .ge 12, 3) := by decide +kernel
theorem V.dX17_localType_19 : decode cX17_localType 19 = .ok (.aload_n 0, 1) := by decide +kernel
theorem V.dX17_localType_20 : decode cX17_localType 20 = .ok (.iload_n 2, 1) := by decide +kernel
theorem V.dX17_localType_21 : decode cX17_localType 21 = .ok (.i2l, 1) := by decide +kernel
theorem V.dX17_localType_22 : decode cX17_localType 22 = .ok (.lload_n 3, 1) := by decide +kernel
theorem V.dX17_localType_23 : decode cX17_localType 23 = .ok (.l2i, 1) := by decide +kernel
theorem V.dX17_localType_24 : decode cX17_localType 24 = .ok (.invokevirtual 678, 3) := by decide +kernel
theorem V.dX17_localType_27 : decode cX17_localType 27 = .ok (.ireturn, 1) := by decide +kernel
theorem V.dX17_localType_28 : decode cX17_localType 28 = .ok (.aload_n 0, 1) := by decide +kernel
theorem V.dX17_localType_29 : decode cX17_localType 29 = .ok (.aload_n 0, 1) := by decide +kernel
theorem V.dX17_localType_30 : decode cX17_localType 30 = .ok (.getfield 221, 3) := by decide +kernel
theorem V.dX17_localType_33 : decode cX17_localType 33 = .ok (.getfield 517, 3) := by decide +kernel
theorem V.dX17_localType_36 : decode cX17_localType 36 = .ok (.iload_n 1, 1) := by decide +kernel
theorem V.dX17_localType_37 : decode cX17_localType 37 = .ok (.iaload, 1) := by decide +kernel
theorem V.dX17_localType_38 : decode cX17_localType 38 = .ok (.putfield 594, 3) := by decide +kernel
theorem V.dX17_localType_41 : decode cX17_localType 41 = .ok (.aload_n 0, 1) := by decide +kernel
theorem V.dX17_localType_42 : decode cX17_localType 42 = .ok (.invokevirtual 603, 3) := by decide +kernel
theorem V.dX17_localType_45 : decode cX17_localType 45 = .ok (.lstore 6, 2) := by decide +kernel
theorem V.dX17_localType_47 : decode cX17_localType 47 = .ok (.iload 5, 2) := by decide +kernel
theorem V.dX17_localType_49 : decode cX17_localType 49 = .ok (.i2l, 1) := by decide +kernel
theorem V.dX17_localType_50 : decode cX17_localType 50 = .ok (.lstore 8, 2) := by decide +kernel
theorem V.dX17_localType_52 : decode cX17_localType 52 = .ok (.lconst 0, 1) := by decide +kernel
theorem V.dX17_localType_53 : decode cX17_localType 53 = .ok (.lstore 10, 2) := by decide +kernel
theorem V.dX17_localType_55 : decode cX17_localType 55 = .ok (.lload 10, 2) := by decide +kernel
theorem V.dX17_localType_57 : decode cX17_localType 57 = .ok (.lload 6, 2) := by decide +kernel
theorem V.dX17_localType_59 : decode cX17_localType 59 = .ok (.lcmp, 1) := by decide +kernel
theorem V.dX17_localType_60 : decode cX17_localType 60 = .ok (.ifCond .ge 61, 3) := by decide +kernel
theorem V.dX17_localType_63 : decode cX17_localType 63 = .ok (.aload_n 0, 1) := by decide +kernel
theorem V.dX17_localType_64 : decode cX17_localType 64 = .ok (.invokevirtual 603, 3) := by decide +kernel
theorem V.dX17_localType_67 : decode cX17_localType 67 = .ok (.lstore 12, 2) := by decide +kernel
theorem V.dX17_localType_69 : decode cX17_localType 69 = .ok (.aload_n 0, 1) := by decide +kernel
theorem V.dX17_localType_70 : decode cX17_localType 70 = .ok (.getfield 221, 3) := by decide +kernel
theorem V.dX17_localType_73 : decode cX17_localType 73 = .ok (.aload_n 0, 1) := by decide +kernel
theorem V.dX17_localType_74 : decode cX17_localType 74 = .ok (.getfield 594, 3) := by decide +kernel
theorem V.dX17_localType_77 : decode cX17_localType 77 = .ok (.invokevirtual 261, 3) := by decide +kernel
theorem V.dX17_localType_80 : decode cX17_localType 80 = .ok (.istore 14, 2) := by decide +kernel
theorem V.dX17_localType_82 : decode cX17_localType 82 = .ok (.aload_n 0, 1) := by decide +kernel
theorem V.dX17_localType_83 : decode cX17_localType 83 = .ok (.dup, 1) := by decide +kernel
theorem V.dX17_localType_84 : decode cX17_localType 84 = .ok (.getfield 594, 3) := by decide +kernel
theorem V.dX17_localType_87 : decode cX17_localType 87 = .ok (.iconst 1, 1) := by decide +kernel
theorem V.dX17_localType_88 : decode cX17_localType 88 = .ok (.iadd, 1) := by decide +kernel
theorem V.dX17_localType_89 : decode cX17_localType 89 = .ok (.putfield 594, 3) := by decide +kernel
theorem V.dX17_localType_92 : decode cX17_localType 92 = .ok (.lload_n 3, 1) := by decide +kernel
theorem V.dX17_localType_93 : decode cX17_localType 93 = .ok (.lload 8, 2) := by decide +kernel
theorem V.dX17_localType_95 : decode cX17_localType 95 = .ok (.lload 12, 2) := by decide +kernel
theorem V.dX17_localType_97 : decode cX17_localType 97 = .ok (.ladd, 1) := by decide +kernel
theorem V.dX17_localType_98 : decode cX17_localType 98 = .ok (.lcmp, 1) := by decide +kernel
theorem V.dX17_localType_99 : decode cX17_localType 99 = .ok (.ifCond .ge 6, 3) := by decide +kernel
theorem V.dX17_localType_102 : decode cX17_localType 102 = .ok (.iload 14, 2) := by decide +kernel
theorem V.dX17_localType_104 : decode cX17_localType 104 = .ok (.ireturn, 1) := by decide +kernel
theorem V.dX17_localType_105 : decode cX17_localType 105 = .ok (.lload 8, 2) := by decide +kernel
theorem V.dX17_localType_107 : decode cX17_localType 107 = .ok (.lload 12, 2) := by decide +kernel
theorem V.dX17_localType_109 : decode cX17_localType 109 = .ok (.ladd, 1) := by decide +kernel
theorem V.dX17_localType_110 : decode cX17_localType 110 = .ok (.lstore 8, 2) := by decide +kernel
theorem V.dX17_localType_112 : decode cX17_localType 112 = .ok (.lload 10, 2) := by decide +kernel
theorem V.dX17_localType_114 : decode cX17_localType 114 = .ok (.lconst 1, 1) := by decide +kernel
theorem V.dX17_localType_115 : decode cX17_localType 115 = .ok (.ladd, 1) := by decide +kernel
theorem V.dX17_localType_116 : decode cX17_localType 116 = .ok (.lstore 10, 2) := by decide +kernel
theorem V.dX17_localType_118 : decode cX17_localType 118 = .ok (.goto (-63), 3) := by decide +kernel
theorem V.dX17_localType_121 : decode cX17_localType 121 = .ok (.iconst 0, 1) := by decide +kernel
theorem V.dX17_localType_122 : decode cX17_localType 122 = .ok (.ireturn, 1) := by decide +kernel
/-! ModuleEngineModel.localType(IIJ)I -/
def V.Mdl_localType_p55  : Nat → HS → Nat → Int64 → Int64 → Int64 → Int64 → Option (Int32 × HS)
  | 0, _, _, _, _, _, _ => none
  | n + 1, σ, x0, x3, x6, x8, x10 =>
    if x6 ≤ x10 then (
      some ((0 : Int32), σ))
    else (
      ck (tg σ x0 = 18) <| cl (Mdl_word σ x0 ) fun r2 σ1 =>
      ck (tg σ1 x0 = 18) <|
      ck (tg σ1 x0 = 18) <|
      ck (tg σ1 (gR σ1 x0 10) = 21) <| cl (Pln_at σ1 (gR σ1 x0 10) (gI σ1 x0 19)) fun r4 σ3 =>
      ck (tg σ3 x0 = 18) <|
      ck (tg σ3 x0 = 18) <| bn (sI σ3 x0 19 ((gI σ3 x0 19) + (1 : Int32))) fun σ5 =>
      if (x8 + r2) ≤ x3 then (
        bn (x8 + r2) fun y6 =>
        bn (x10 + (1 : Int64)) fun y7 =>
        Mdl_localType_p55 n σ5 x0 x3 x6 y6 y7)
      else (
        some (r4, σ5)))
theorem V.gX17_localType_p55 {X : CX}  : ∀ (n : Nat) (σ : HS) (x0 : Nat) (x3 : Int64) (x6 : Int64) (x8 : Int64) (x10 : Int64), G X RX17 "localType" cX17_localType 15 (some .int) 2 45 enI 55 [(0, av x0), (3, jv x3), (6, jv x6), (8, jv x8), (10, jv x10)] [] σ (Mdl_localType_p55 n σ x0 x3 x6 x8 x10)
  | 0, σ, x0, x3, x6, x8, x10 => by rw [Mdl_localType_p55]; exact G.nul
  | n + 1, σ, x0, x3, x6, x8, x10 => by
    rw [Mdl_localType_p55]
    refine g_lload 4 dX17_localType_55 rfl ?_
    refine g_lload 2 dX17_localType_57 rfl ?_
    refine g_lcmp_ge 121 dX17_localType_59 dX17_localType_60 (by decide) ?_ ?_
    · refine g_iconst (v := 0) dX17_localType_121 (by decide) ?_
      exact g_ireturn rfl dX17_localType_122
    · refine g_aload_n 0 0 dX17_localType_63 rfl rfl ?_
      refine g_callV (fc := fun sς => Mdl_word sς x0 ) (ci := 17) (as := []) rfl rfl rfl q3813 qs250 mdX17_603 (ctX17_word x0 ) rfl (Nat.le_of_ble_eq_true rfl) (Nat.le_of_ble_eq_true rfl) (Nat.le_of_ble_eq_true rfl) pu_J dX17_localType_64 (fun r2 σ1 => ?_)
      refine g_lstore dX17_localType_67 (by decide) rfl ?_
      refine g_aload_n 0 1 dX17_localType_69 rfl rfl ?_
      refine g_getR fdX17_221 dX17_localType_70 ?_
      refine g_aload_n 0 1 dX17_localType_73 rfl rfl ?_
      refine g_getI fdX17_594 dX17_localType_74 ?_
      refine g_callV (fc := fun sς => Pln_at sς (gR σ1 x0 10) (gI σ1 x0 19)) (ci := 20) (as := [iv (gI σ1 x0 19)]) rfl rfl rfl q3609 q3610 mdX17_261 (ctX20_at (gR σ1 x0 10) (gI σ1 x0 19)) rfl (Nat.le_of_ble_eq_true rfl) (Nat.le_of_ble_eq_true rfl) (Nat.le_of_ble_eq_true rfl) pu_I dX17_localType_77 (fun r4 σ3 => ?_)
      refine g_istore dX17_localType_80 (by decide) rfl ?_
      refine g_aload_n 0 2 dX17_localType_82 rfl rfl ?_
      refine g_dup dX17_localType_83 rfl ?_
      refine g_getI fdX17_594 dX17_localType_84 ?_
      refine g_iconst (v := 1) dX17_localType_87 (by decide) ?_
      refine g_iadd dX17_localType_88 ?_
      refine g_putI fpX17_594 dX17_localType_89 (fun σ5 => ?_)
      refine g_lload_n 3 3 dX17_localType_92 rfl rfl ?_
      refine g_lload 5 dX17_localType_93 rfl ?_
      refine g_lload 1 dX17_localType_95 rfl ?_
      refine g_ladd dX17_localType_97 ?_
      refine g_lcmp_ge 105 dX17_localType_98 dX17_localType_99 (by decide) ?_ ?_
      · refine g_lload 5 dX17_localType_105 rfl ?_
        refine g_lload 1 dX17_localType_107 rfl ?_
        refine g_ladd dX17_localType_109 ?_
        refine g_nmJ (fun y6 => ?_)
        refine g_lstore dX17_localType_110 (by decide) rfl ?_
        refine g_lload 6 dX17_localType_112 rfl ?_
        refine g_lconst (v := 1) dX17_localType_114 (by decide) ?_
        refine g_ladd dX17_localType_115 ?_
        refine g_nmJ (fun y7 => ?_)
        refine g_lstore dX17_localType_116 (by decide) rfl ?_
        refine g_goto 55 dX17_localType_118 (by decide) ?_
        refine G.sub [4, 5, 6, 1, 0] rfl ?_
        exact gX17_localType_p55 n _ _ _ _ _ _
      · refine g_iload 0 dX17_localType_102 rfl ?_
        exact g_ireturn rfl dX17_localType_104
def V.Mdl_localType (σ : HS) (x0 : Nat) (x1 : Int32) (x2 : Int32) (x3 : Int64) : Option (Int32 × HS) :=
  ck (tg σ x0 = 18) <|
  ck (tg σ (gR σ x0 10) = 21) <|
  ck (tg σ (gR σ (gR σ x0 10) 5) = 100 ∧ inb x2 (ln σ (gR σ (gR σ x0 10) 5))) <|
  bn (gI σ (gR σ (gR σ x0 10) 5) (ix x2)) fun y1 =>
  if y1.toInt64 ≤ x3 then (
    ck (tg σ x0 = 18) <|
    ck (tg σ (gR σ x0 10) = 21) <|
    ck (tg σ (gR σ (gR σ x0 10) 51) = 100 ∧ inb x1 (ln σ (gR σ (gR σ x0 10) 51))) <|
    ck (tg σ x0 = 18) <| bn (sI σ x0 19 (gI σ (gR σ (gR σ x0 10) 51) (ix x1))) fun σ2 =>
    ck (tg σ2 x0 = 18) <| cl (Mdl_word σ2 x0 ) fun r4 σ3 =>
    Mdl_localType_p55 FU σ3 x0 x3 r4 y1.toInt64 (0 : Int64))
  else (
    ck (tg σ x0 = 18) <| cl (Mdl_parameterAt σ x0 x2.toInt64 x3.toInt32) fun r6 σ5 =>
    some (r6, σ5))
theorem V.ctX17_localType (x0 : Nat) (x1 : Int32) (x2 : Int32) (x3 : Int64) : Ct yX17_localType  cX17_localType 15 (some .int) 2 45 eI [av x0, iv x1, iv x2, jv x3] (fun σ => Mdl_localType σ x0 x1 x2 x3) := by
  refine Ct.of (own := RX17) (nm := "localType") (desc := "(IIJ)I") rfl (by decide) (Nat.le_of_ble_eq_true rfl) (by decide) (fun X σ => ?_)
  show G X RX17 "localType" cX17_localType 15 (some .int) 2 45 enI 0 [(0, av x0), (1, iv x1), (2, iv x2), (3, jv x3)] [] σ (Mdl_localType σ x0 x1 x2 x3)
  unfold Mdl_localType
  refine g_aload_n 0 0 dX17_localType_0 rfl rfl ?_
  refine g_getR fdX17_221 dX17_localType_1 ?_
  refine g_getR fdX17_387 dX17_localType_4 ?_
  refine g_iload_n 2 2 dX17_localType_7 rfl rfl ?_
  refine g_iaload dX17_localType_8 ?_
  refine g_nmI (fun y1 => ?_)
  refine g_istore dX17_localType_9 (by decide) rfl ?_
  refine g_lload_n 3 4 dX17_localType_11 rfl rfl ?_
  refine g_iload 0 dX17_localType_12 rfl ?_
  refine g_i2l dX17_localType_14 ?_
  refine g_lcmp_ge 28 dX17_localType_15 dX17_localType_16 (by decide) ?_ ?_
  · refine g_aload_n 0 1 dX17_localType_28 rfl rfl ?_
    refine g_aload_n 0 1 dX17_localType_29 rfl rfl ?_
    refine g_getR fdX17_221 dX17_localType_30 ?_
    refine g_getR fdX17_517 dX17_localType_33 ?_
    refine g_iload_n 1 2 dX17_localType_36 rfl rfl ?_
    refine g_iaload dX17_localType_37 ?_
    refine g_putI fpX17_594 dX17_localType_38 (fun σ2 => ?_)
    refine g_aload_n 0 1 dX17_localType_41 rfl rfl ?_
    refine g_callV (fc := fun sς => Mdl_word sς x0 ) (ci := 17) (as := []) rfl rfl rfl q3813 qs250 mdX17_603 (ctX17_word x0 ) rfl (Nat.le_of_ble_eq_true rfl) (Nat.le_of_ble_eq_true rfl) (Nat.le_of_ble_eq_true rfl) pu_J dX17_localType_42 (fun r4 σ3 => ?_)
    refine g_lstore dX17_localType_45 (by decide) rfl ?_
    refine g_iload 1 dX17_localType_47 rfl ?_
    refine g_i2l dX17_localType_49 ?_
    refine g_lstore dX17_localType_50 (by decide) rfl ?_
    refine g_lconst (v := 0) dX17_localType_52 (by decide) ?_
    refine g_lstore dX17_localType_53 (by decide) rfl ?_
    refine G.sub [4, 7, 2, 1, 0] rfl ?_
    exact gX17_localType_p55 FU _ _ _ _ _ _
  · refine g_aload_n 0 1 dX17_localType_19 rfl rfl ?_
    refine g_iload_n 2 3 dX17_localType_20 rfl rfl ?_
    refine g_i2l dX17_localType_21 ?_
    refine g_lload_n 3 4 dX17_localType_22 rfl rfl ?_
    refine g_l2i dX17_localType_23 ?_
    refine g_callV (fc := fun sς => Mdl_parameterAt sς x0 x2.toInt64 x3.toInt32) (ci := 17) (as := [jv x2.toInt64, iv x3.toInt32]) rfl rfl rfl q3927 qs272 mdX17_678 (ctX17_parameterAt x0 x2.toInt64 x3.toInt32) rfl (Nat.le_of_ble_eq_true rfl) (Nat.le_of_ble_eq_true rfl) (Nat.le_of_ble_eq_true rfl) pu_I dX17_localType_24 (fun r6 σ5 => ?_)
    exact g_ireturn rfl dX17_localType_27
theorem V.dX17_names_0 : decode cX17_names 0 = .ok (.aload_n 0, 1) := by decide +kernel
theorem V.dX17_names_1 : decode cX17_names 1 = .ok (.invokevirtual 603, 3) := by decide +kernel
theorem V.dX17_names_4 : decode cX17_names 4 = .ok (.lstore_n 2, 1) := by decide +kernel
theorem V.dX17_names_5 : decode cX17_names 5 = .ok (.iload_n 1, 1) := by decide +kernel
theorem V.dX17_names_6 : decode cX17_names 6 = .ok (.bipush 35, 2) := by decide +kernel
theorem V.dX17_names_8 : decode cX17_names 8 = .ok (.if_icmp .ge 19, 3) := by decide +kernel
theorem V.dX17_names_11 : decode cX17_names 11 = .ok (.aload_n 0, 1) := by decide +kernel
theorem V.dX17_names_12 : decode cX17_names 12 = .ok (.aload_n 0, 1) := by decide +kernel
theorem V.dX17_names_13 : decode cX17_names 13 = .ok (.getfield 710, 3) := by decide +kernel
theorem V.dX17_names_16 : decode cX17_names 16 = .ok (.aload_n 0, 1) := by decide +kernel
theorem V.dX17_names_17 : decode cX17_names 17 = .ok (.getfield 713, 3) := by decide +kernel
theorem V.dX17_names_20 : decode cX17_names 20 = .ok (.lload_n 2, 1) := by decide +kernel
theorem V.dX17_names_21 : decode cX17_names 21 = .ok (.invokevirtual 789, 3) := by decide +kernel
theorem V.dX17_names_24 : decode cX17_names 24 = .ok (.goto 30, 3) := by decide +kernel
theorem V.dX17_names_27 : decode cX17_names 27 = .ok (.iload_n 1, 1) := by decide +kernel
theorem V.dX17_names_28 : decode cX17_names 28 = .ok (.bipush 37, 2) := by decide +kernel
theorem V.dX17_names_30 : decode cX17_names 30 = .ok (.if_icmp .ge 15, 3) := by decide +kernel
theorem V.dX17_names_33 : decode cX17_names 33 = .ok (.aload_n 0, 1) := by decide +kernel
theorem V.dX17_names_34 : decode cX17_names 34 = .ok (.getfield 221, 3) := by decide +kernel
theorem V.dX17_names_37 : decode cX17_names 37 = .ok (.lload_n 2, 1) := by decide +kernel
theorem V.dX17_names_38 : decode cX17_names 38 = .ok (.l2i, 1) := by decide +kernel
theorem V.dX17_names_39 : decode cX17_names 39 = .ok (.invokevirtual 670, 3) := by decide +kernel
theorem V.dX17_names_42 : decode cX17_names 42 = .ok (.goto 12, 3) := by decide +kernel
theorem V.dX17_names_45 : decode cX17_names 45 = .ok (.aload_n 0, 1) := by decide +kernel
theorem V.dX17_names_46 : decode cX17_names 46 = .ok (.getfield 221, 3) := by decide +kernel
theorem V.dX17_names_49 : decode cX17_names 49 = .ok (.lload_n 2, 1) := by decide +kernel
theorem V.dX17_names_50 : decode cX17_names 50 = .ok (.l2i, 1) := by decide +kernel
theorem V.dX17_names_51 : decode cX17_names 51 = .ok (.invokevirtual 661, 3) := by decide +kernel
theorem V.dX17_names_54 : decode cX17_names 54 = .ok (.istore 4, 2) := by decide +kernel
theorem V.dX17_names_56 : decode cX17_names 56 = .ok (.iload_n 1, 1) := by decide +kernel
theorem V.dX17_names_57 : decode cX17_names 57 = .ok (.bipush 37, 2) := by decide +kernel
theorem V.dX17_names_59 : decode cX17_names 59 = .ok (.if_icmp .ne 10, 3) := by decide +kernel
theorem V.dX17_names_62 : decode cX17_names 62 = .ok (.aload_n 0, 1) := by decide +kernel
theorem V.dX17_names_63 : decode cX17_names 63 = .ok (.bipush 127, 2) := by decide +kernel
theorem V.dX17_names_65 : decode cX17_names 65 = .ok (.iconst 1, 1) := by decide +kernel
theorem V.dX17_names_66 : decode cX17_names 66 = .ok (.invokevirtual 750, 3) := by decide +kernel
theorem V.dX17_names_69 : decode cX17_names 69 = .ok (.iload_n 1, 1) := by decide +kernel
theorem V.dX17_names_70 : decode cX17_names 70 = .ok (.bipush 33, 2) := by decide +kernel
theorem V.dX17_names_72 : decode cX17_names 72 = .ok (.if_icmp .eq 21, 3) := by decide +kernel
theorem V.dX17_names_75 : decode cX17_names 75 = .ok (.iload_n 1, 1) := by decide +kernel
theorem V.dX17_names_76 : decode cX17_names 76 = .ok (.bipush 34, 2) := by decide +kernel
theorem V.dX17_names_78 : decode cX17_names 78 = .ok (.if_icmp .eq 15, 3) := by decide +kernel
theorem V.dX17_names_81 : decode cX17_names 81 = .ok (.iload_n 1, 1) := by decide +kernel
theorem V.dX17_names_82 : decode cX17_names 82 = .ok (.bipush 36, 2) := by decide +kernel
theorem V.dX17_names_84 : decode cX17_names 84 = .ok (.if_icmp .eq 9, 3) := by decide +kernel
theorem V.dX17_names_87 : decode cX17_names 87 = .ok (.iload_n 1, 1) := by decide +kernel
theorem V.dX17_names_88 : decode cX17_names 88 = .ok (.bipush 38, 2) := by decide +kernel
theorem V.dX17_names_90 : decode cX17_names 90 = .ok (.if_icmp .ne 10, 3) := by decide +kernel
theorem V.dX17_names_93 : decode cX17_names 93 = .ok (.aload_n 0, 1) := by decide +kernel
theorem V.dX17_names_94 : decode cX17_names 94 = .ok (.iload 4, 2) := by decide +kernel
theorem V.dX17_names_96 : decode cX17_names 96 = .ok (.iconst 1, 1) := by decide +kernel
theorem V.dX17_names_97 : decode cX17_names 97 = .ok (.invokevirtual 750, 3) := by decide +kernel
theorem V.dX17_names_100 : decode cX17_names 100 = .ok (.iload_n 1, 1) := by decide +kernel
theorem V.dX17_names_101 : decode cX17_names 101 = .ok (.bipush 38, 2) := by decide +kernel
theorem V.dX17_names_103 : decode cX17_names 103 = .ok (.if_icmp .ne 10, 3) := by decide +kernel
theorem V.dX17_names_106 : decode cX17_names 106 = .ok (.aload_n 0, 1) := by decide +kernel
theorem V.dX17_names_107 : decode cX17_names 107 = .ok (.bipush 127, 2) := by decide +kernel
theorem V.dX17_names_109 : decode cX17_names 109 = .ok (.iconst 1, 1) := by decide +kernel
theorem V.dX17_names_110 : decode cX17_names 110 = .ok (.invokevirtual 750, 3) := by decide +kernel
theorem V.dX17_names_113 : decode cX17_names 113 = .ok (.iload_n 1, 1) := by decide +kernel
theorem V.dX17_names_114 : decode cX17_names 114 = .ok (.bipush 32, 2) := by decide +kernel
theorem V.dX17_names_116 : decode cX17_names 116 = .ok (.if_icmp .eq 21, 3) := by decide +kernel
theorem V.dX17_names_119 : decode cX17_names 119 = .ok (.iload_n 1, 1) := by decide +kernel
theorem V.dX17_names_120 : decode cX17_names 120 = .ok (.bipush 34, 2) := by decide +kernel
theorem V.dX17_names_122 : decode cX17_names 122 = .ok (.if_icmp .eq 15, 3) := by decide +kernel
theorem V.dX17_names_125 : decode cX17_names 125 = .ok (.iload_n 1, 1) := by decide +kernel
theorem V.dX17_names_126 : decode cX17_names 126 = .ok (.bipush 35, 2) := by decide +kernel
theorem V.dX17_names_128 : decode cX17_names 128 = .ok (.if_icmp .eq 9, 3) := by decide +kernel
theorem V.dX17_names_131 : decode cX17_names 131 = .ok (.iload_n 1, 1) := by decide +kernel
theorem V.dX17_names_132 : decode cX17_names 132 = .ok (.bipush 37, 2) := by decide +kernel
theorem V.dX17_names_134 : decode cX17_names 134 = .ok (.if_icmp .ne 9, 3) := by decide +kernel
theorem V.dX17_names_137 : decode cX17_names 137 = .ok (.aload_n 0, 1) := by decide +kernel
theorem V.dX17_names_138 : decode cX17_names 138 = .ok (.iload 4, 2) := by decide +kernel
theorem V.dX17_names_140 : decode cX17_names 140 = .ok (.invokevirtual 695, 3) := by decide +kernel
theorem V.dX17_names_143 : decode cX17_names 143 = .ok (.return_, 1) := by decide +kernel
theorem V.mdX17_789 : MD RX17 789 yX17_localType cX17_localType 15 (some .int) 3 := ⟨Or.inl q3978, q377, q3981, by decide, by decide, by decide +kernel⟩
/-! ModuleEngineModel.names(I)V -/
def V.Mdl_names_p137  (σ : HS) (x0 : Nat) (x4 : Int32) : Option ((Nat ⊕ Unit) × HS) :=
  ck (tg σ x0 = 18) <| clT (Mdl_put σ x0 x4) fun _ σ1 =>
  some (.inr (), σ1)
theorem V.gX17_names_p137 {X : CX}  (σ : HS) (x0 : Nat) (x4 : Int32) : G X RX17 "names" cX17_names 5 none 3 79 (enX enV (cxz X)) 137 [(0, av x0), (4, iv x4)] [] σ (Mdl_names_p137 σ x0 x4) := by
  unfold Mdl_names_p137
  refine g_aload_n 0 0 dX17_names_137 rfl rfl ?_
  refine g_iload 1 dX17_names_138 rfl ?_
  refine g_callVT (fc := fun sς => Mdl_put sς x0 x4) (ci := 17) (as := [iv x4]) rfl rfl rfl q3907 qs267 q3905 mdX17_695 (ctX17_put x0 x4) rfl (Nat.le_of_ble_eq_true rfl) (Nat.le_of_ble_eq_true rfl) (Nat.le_of_ble_eq_true rfl) pu_V (by decide) dX17_names_140 (fun _ σ1 => ?_)
  exact g_return rfl dX17_names_143
def V.Mdl_names_p113  (σ : HS) (x0 : Nat) (x1 : Int32) (x4 : Int32) : Option ((Nat ⊕ Unit) × HS) :=
  if x1 = (32 : Int32) then (
    Mdl_names_p137 σ x0 x4)
  else (
    if x1 = (34 : Int32) then (
      Mdl_names_p137 σ x0 x4)
    else (
      if x1 = (35 : Int32) then (
        Mdl_names_p137 σ x0 x4)
      else (
        if x1 = (37 : Int32) then (
          Mdl_names_p137 σ x0 x4)
        else (
          some (.inr (), σ)))))
theorem V.gX17_names_p113 {X : CX}  (σ : HS) (x0 : Nat) (x1 : Int32) (x4 : Int32) : G X RX17 "names" cX17_names 5 none 3 79 (enX enV (cxz X)) 113 [(0, av x0), (1, iv x1), (4, iv x4)] [] σ (Mdl_names_p113 σ x0 x1 x4) := by
  unfold Mdl_names_p113
  refine g_iload_n 1 1 dX17_names_113 rfl rfl ?_
  refine g_bipush (v := 32) dX17_names_114 (by decide) ?_
  refine g_icmp_eq 137 dX17_names_116 (by decide) ?_ ?_
  · refine G.sub [0, 2] rfl ?_
    exact gX17_names_p137 _ _ _
  · refine g_iload_n 1 1 dX17_names_119 rfl rfl ?_
    refine g_bipush (v := 34) dX17_names_120 (by decide) ?_
    refine g_icmp_eq 137 dX17_names_122 (by decide) ?_ ?_
    · refine G.sub [0, 2] rfl ?_
      exact gX17_names_p137 _ _ _
    · refine g_iload_n 1 1 dX17_names_125 rfl rfl ?_
      refine g_bipush (v := 35) dX17_names_126 (by decide) ?_
      refine g_icmp_eq 137 dX17_names_128 (by decide) ?_ ?_
      · refine G.sub [0, 2] rfl ?_
        exact gX17_names_p137 _ _ _
      · refine g_iload_n 1 1 dX17_names_131 rfl rfl ?_
        refine g_bipush (v := 37) dX17_names_132 (by decide) ?_
        refine g_icmp_ne 143 dX17_names_134 (by decide) ?_ ?_
        · exact g_return rfl dX17_names_143
        · refine G.sub [0, 2] rfl ?_
          exact gX17_names_p137 _ _ _
def V.Mdl_names_p100  (σ : HS) (x0 : Nat) (x1 : Int32) (x4 : Int32) : Option ((Nat ⊕ Unit) × HS) :=
  if x1 = (38 : Int32) then (
    ck (tg σ x0 = 18) <| clT (Mdl_takes σ x0 (127 : Int32) (1 : Int32)) fun _ σ1 =>
    Mdl_names_p113 σ1 x0 x1 x4)
  else (
    Mdl_names_p113 σ x0 x1 x4)
theorem V.gX17_names_p100 {X : CX}  (σ : HS) (x0 : Nat) (x1 : Int32) (x4 : Int32) : G X RX17 "names" cX17_names 5 none 3 79 (enX enV (cxz X)) 100 [(0, av x0), (1, iv x1), (4, iv x4)] [] σ (Mdl_names_p100 σ x0 x1 x4) := by
  unfold Mdl_names_p100
  refine g_iload_n 1 1 dX17_names_100 rfl rfl ?_
  refine g_bipush (v := 38) dX17_names_101 (by decide) ?_
  refine g_icmp_ne 113 dX17_names_103 (by decide) ?_ ?_
  · exact gX17_names_p113 _ _ _ _
  · refine g_aload_n 0 0 dX17_names_106 rfl rfl ?_
    refine g_bipush (v := 127) dX17_names_107 (by decide) ?_
    refine g_iconst (v := 1) dX17_names_109 (by decide) ?_
    refine g_callVT (fc := fun sς => Mdl_takes sς x0 (127 : Int32) (1 : Int32)) (ci := 17) (as := [iv (127 : Int32), iv (1 : Int32)]) rfl rfl rfl q3896 qs265 q3894 mdX17_750 (ctX17_takes x0 (127 : Int32) (1 : Int32)) rfl (Nat.le_of_ble_eq_true rfl) (Nat.le_of_ble_eq_true rfl) (Nat.le_of_ble_eq_true rfl) pu_V (by decide) dX17_names_110 (fun _ σ1 => ?_)
    exact gX17_names_p113 _ _ _ _
def V.Mdl_names_p93  (σ : HS) (x0 : Nat) (x1 : Int32) (x4 : Int32) : Option ((Nat ⊕ Unit) × HS) :=
  ck (tg σ x0 = 18) <| clT (Mdl_takes σ x0 x4 (1 : Int32)) fun _ σ1 =>
  Mdl_names_p100 σ1 x0 x1 x4
theorem V.gX17_names_p93 {X : CX}  (σ : HS) (x0 : Nat) (x1 : Int32) (x4 : Int32) : G X RX17 "names" cX17_names 5 none 3 79 (enX enV (cxz X)) 93 [(0, av x0), (1, iv x1), (4, iv x4)] [] σ (Mdl_names_p93 σ x0 x1 x4) := by
  unfold Mdl_names_p93
  refine g_aload_n 0 0 dX17_names_93 rfl rfl ?_
  refine g_iload 2 dX17_names_94 rfl ?_
  refine g_iconst (v := 1) dX17_names_96 (by decide) ?_
  refine g_callVT (fc := fun sς => Mdl_takes sς x0 x4 (1 : Int32)) (ci := 17) (as := [iv x4, iv (1 : Int32)]) rfl rfl rfl q3896 qs265 q3894 mdX17_750 (ctX17_takes x0 x4 (1 : Int32)) rfl (Nat.le_of_ble_eq_true rfl) (Nat.le_of_ble_eq_true rfl) (Nat.le_of_ble_eq_true rfl) pu_V (by decide) dX17_names_97 (fun _ σ1 => ?_)
  exact gX17_names_p100 _ _ _ _
def V.Mdl_names_p69  (σ : HS) (x0 : Nat) (x1 : Int32) (x4 : Int32) : Option ((Nat ⊕ Unit) × HS) :=
  if x1 = (33 : Int32) then (
    Mdl_names_p93 σ x0 x1 x4)
  else (
    if x1 = (34 : Int32) then (
      Mdl_names_p93 σ x0 x1 x4)
    else (
      if x1 = (36 : Int32) then (
        Mdl_names_p93 σ x0 x1 x4)
      else (
        if x1 = (38 : Int32) then (
          Mdl_names_p93 σ x0 x1 x4)
        else (
          Mdl_names_p100 σ x0 x1 x4))))
theorem V.gX17_names_p69 {X : CX}  (σ : HS) (x0 : Nat) (x1 : Int32) (x4 : Int32) : G X RX17 "names" cX17_names 5 none 3 79 (enX enV (cxz X)) 69 [(0, av x0), (1, iv x1), (4, iv x4)] [] σ (Mdl_names_p69 σ x0 x1 x4) := by
  unfold Mdl_names_p69
  refine g_iload_n 1 1 dX17_names_69 rfl rfl ?_
  refine g_bipush (v := 33) dX17_names_70 (by decide) ?_
  refine g_icmp_eq 93 dX17_names_72 (by decide) ?_ ?_
  · exact gX17_names_p93 _ _ _ _
  · refine g_iload_n 1 1 dX17_names_75 rfl rfl ?_
    refine g_bipush (v := 34) dX17_names_76 (by decide) ?_
    refine g_icmp_eq 93 dX17_names_78 (by decide) ?_ ?_
    · exact gX17_names_p93 _ _ _ _
    · refine g_iload_n 1 1 dX17_names_81 rfl rfl ?_
      refine g_bipush (v := 36) dX17_names_82 (by decide) ?_
      refine g_icmp_eq 93 dX17_names_84 (by decide) ?_ ?_
      · exact gX17_names_p93 _ _ _ _
      · refine g_iload_n 1 1 dX17_names_87 rfl rfl ?_
        refine g_bipush (v := 38) dX17_names_88 (by decide) ?_
        refine g_icmp_ne 100 dX17_names_90 (by decide) ?_ ?_
        · exact gX17_names_p100 _ _ _ _
        · exact gX17_names_p93 _ _ _ _
def V.Mdl_names_p54  (σ : HS) (x0 : Nat) (x1 : Int32) (s0 : Int32) : Option ((Nat ⊕ Unit) × HS) :=
  if x1 = (37 : Int32) then (
    ck (tg σ x0 = 18) <| clT (Mdl_takes σ x0 (127 : Int32) (1 : Int32)) fun _ σ1 =>
    Mdl_names_p69 σ1 x0 x1 s0)
  else (
    Mdl_names_p69 σ x0 x1 s0)
theorem V.gX17_names_p54 {X : CX}  (σ : HS) (x0 : Nat) (x1 : Int32) (s0 : Int32) : G X RX17 "names" cX17_names 5 none 3 79 (enX enV (cxz X)) 54 [(0, av x0), (1, iv x1)] [iv s0] σ (Mdl_names_p54 σ x0 x1 s0) := by
  unfold Mdl_names_p54
  refine g_istore dX17_names_54 (by decide) rfl ?_
  refine g_iload_n 1 2 dX17_names_56 rfl rfl ?_
  refine g_bipush (v := 37) dX17_names_57 (by decide) ?_
  refine g_icmp_ne 69 dX17_names_59 (by decide) ?_ ?_
  · refine G.sub [1, 2, 0] rfl ?_
    exact gX17_names_p69 _ _ _ _
  · refine g_aload_n 0 1 dX17_names_62 rfl rfl ?_
    refine g_bipush (v := 127) dX17_names_63 (by decide) ?_
    refine g_iconst (v := 1) dX17_names_65 (by decide) ?_
    refine g_callVT (fc := fun sς => Mdl_takes sς x0 (127 : Int32) (1 : Int32)) (ci := 17) (as := [iv (127 : Int32), iv (1 : Int32)]) rfl rfl rfl q3896 qs265 q3894 mdX17_750 (ctX17_takes x0 (127 : Int32) (1 : Int32)) rfl (Nat.le_of_ble_eq_true rfl) (Nat.le_of_ble_eq_true rfl) (Nat.le_of_ble_eq_true rfl) pu_V (by decide) dX17_names_66 (fun _ σ1 => ?_)
    refine G.sub [1, 2, 0] rfl ?_
    exact gX17_names_p69 _ _ _ _
def V.Mdl_names (σ : HS) (x0 : Nat) (x1 : Int32) : Option ((Nat ⊕ Unit) × HS) :=
  ck (tg σ x0 = 18) <| cl (Mdl_word σ x0 ) fun r2 σ1 =>
  if (35 : Int32) ≤ x1 then (
    if (37 : Int32) ≤ x1 then (
      ck (tg σ1 x0 = 18) <|
      ck (tg σ1 (gR σ1 x0 10) = 21) <| cl (Pln_typeOfTable σ1 (gR σ1 x0 10) r2.toInt32) fun r4 σ3 =>
      Mdl_names_p54 σ3 x0 x1 r4)
    else (
      ck (tg σ1 x0 = 18) <|
      ck (tg σ1 (gR σ1 x0 10) = 21) <| cl (Pln_typeOfGlobal σ1 (gR σ1 x0 10) r2.toInt32) fun r6 σ5 =>
      Mdl_names_p54 σ5 x0 x1 r6))
  else (
    ck (tg σ1 x0 = 18) <|
    ck (tg σ1 x0 = 18) <|
    ck (tg σ1 x0 = 18) <| cl (Mdl_localType σ1 x0 (gI σ1 x0 29) (gI σ1 x0 30) r2) fun r8 σ7 =>
    Mdl_names_p54 σ7 x0 x1 r8)
theorem V.ctX17_names (x0 : Nat) (x1 : Int32) : Ct yX17_names  cX17_names 5 none 3 79 eXV [av x0, iv x1] (fun σ => Mdl_names σ x0 x1) := by
  refine Ct.of (own := RX17) (nm := "names") (desc := "(I)V") rfl (by decide) (Nat.le_of_ble_eq_true rfl) (by decide) (fun X σ => ?_)
  show G X RX17 "names" cX17_names 5 none 3 79 (enX enV (cxz X)) 0 [(0, av x0), (1, iv x1)] [] σ (Mdl_names σ x0 x1)
  unfold Mdl_names
  refine g_aload_n 0 0 dX17_names_0 rfl rfl ?_
  refine g_callV (fc := fun sς => Mdl_word sς x0 ) (ci := 17) (as := []) rfl rfl rfl q3813 qs250 mdX17_603 (ctX17_word x0 ) rfl (Nat.le_of_ble_eq_true rfl) (Nat.le_of_ble_eq_true rfl) (Nat.le_of_ble_eq_true rfl) pu_J dX17_names_1 (fun r2 σ1 => ?_)
  refine g_lstore_n 2 dX17_names_4 rfl (by decide) rfl ?_
  refine g_iload_n 1 2 dX17_names_5 rfl rfl ?_
  refine g_bipush (v := 35) dX17_names_6 (by decide) ?_
  refine g_icmp_ge 27 dX17_names_8 (by decide) ?_ ?_
  · refine g_iload_n 1 2 dX17_names_27 rfl rfl ?_
    refine g_bipush (v := 37) dX17_names_28 (by decide) ?_
    refine g_icmp_ge 45 dX17_names_30 (by decide) ?_ ?_
    · refine g_aload_n 0 1 dX17_names_45 rfl rfl ?_
      refine g_getR fdX17_221 dX17_names_46 ?_
      refine g_lload_n 2 0 dX17_names_49 rfl rfl ?_
      refine g_l2i dX17_names_50 ?_
      refine g_callV (fc := fun sς => Pln_typeOfTable sς (gR σ1 x0 10) r2.toInt32) (ci := 20) (as := [iv r2.toInt32]) rfl rfl rfl q3858 q3859 mdX17_661 (ctX20_typeOfTable (gR σ1 x0 10) r2.toInt32) rfl (Nat.le_of_ble_eq_true rfl) (Nat.le_of_ble_eq_true rfl) (Nat.le_of_ble_eq_true rfl) pu_I dX17_names_51 (fun r4 σ3 => ?_)
      refine G.sub [1, 2] rfl ?_
      exact gX17_names_p54 _ _ _ _
    · refine g_aload_n 0 1 dX17_names_33 rfl rfl ?_
      refine g_getR fdX17_221 dX17_names_34 ?_
      refine g_lload_n 2 0 dX17_names_37 rfl rfl ?_
      refine g_l2i dX17_names_38 ?_
      refine g_callV (fc := fun sς => Pln_typeOfGlobal sς (gR σ1 x0 10) r2.toInt32) (ci := 20) (as := [iv r2.toInt32]) rfl rfl rfl q3850 q3851 mdX17_670 (ctX20_typeOfGlobal (gR σ1 x0 10) r2.toInt32) rfl (Nat.le_of_ble_eq_true rfl) (Nat.le_of_ble_eq_true rfl) (Nat.le_of_ble_eq_true rfl) pu_I dX17_names_39 (fun r6 σ5 => ?_)
      refine g_goto 54 dX17_names_42 (by decide) ?_
      refine G.sub [1, 2] rfl ?_
      exact gX17_names_p54 _ _ _ _
  · refine g_aload_n 0 1 dX17_names_11 rfl rfl ?_
    refine g_aload_n 0 1 dX17_names_12 rfl rfl ?_
    refine g_getI fdX17_710 dX17_names_13 ?_
    refine g_aload_n 0 1 dX17_names_16 rfl rfl ?_
    refine g_getI fdX17_713 dX17_names_17 ?_
    refine g_lload_n 2 0 dX17_names_20 rfl rfl ?_
    refine g_callV (fc := fun sς => Mdl_localType sς x0 (gI σ1 x0 29) (gI σ1 x0 30) r2) (ci := 17) (as := [iv (gI σ1 x0 29), iv (gI σ1 x0 30), jv r2]) rfl rfl rfl q3980 qs285 mdX17_789 (ctX17_localType x0 (gI σ1 x0 29) (gI σ1 x0 30) r2) rfl (Nat.le_of_ble_eq_true rfl) (Nat.le_of_ble_eq_true rfl) (Nat.le_of_ble_eq_true rfl) pu_I dX17_names_21 (fun r8 σ7 => ?_)
    refine g_goto 54 dX17_names_24 (by decide) ?_
    refine G.sub [1, 2] rfl ?_
    exact gX17_names_p54 _ _ _ _
theorem V.dX17_accessType_0 : decode cX17_accessType 0 = .ok (.iload_n 0, 1) := by decide +kernel
theorem V.dX17_accessType_1 : decode cX17_accessType 1 = .ok (.bipush 42, 2) := by decide +kernel
theorem V.dX17_accessType_3 : decode cX17_accessType 3 = .ok (.if_icmp .eq 9, 3) := by decide +kernel
theorem V.dX17_accessType_6 : decode cX17_accessType 6 = .ok (.iload_n 0, 1) := by decide +kernel
theorem V.dX17_accessType_7 : decode cX17_accessType 7 = .ok (.bipush 56, 2) := by decide +kernel
theorem V.dX17_accessType_9 : decode cX17_accessType 9 = .ok (.if_icmp .ne 6, 3) := by decide +kernel
theorem V.dX17_accessType_12 : decode cX17_accessType 12 = .ok (.bipush 125, 2) := by decide +kernel
theorem V.dX17_accessType_14 : decode cX17_accessType 14 = .ok (.ireturn, 1) := by decide +kernel
theorem V.dX17_accessType_15 : decode cX17_accessType 15 = .ok (.iload_n 0, 1) := by decide +kernel
theorem V.dX17_accessType_16 : decode cX17_accessType 16 = .ok (.bipush 43, 2) := by decide +kernel
theorem V.dX17_accessType_18 : decode cX17_accessType 18 = .ok (.if_icmp .eq 9, 3) := by decide +kernel
theorem V.dX17_accessType_21 : decode cX17_accessType 21 = .ok (.iload_n 0, 1) := by decide +kernel
theorem V.dX17_accessType_22 : decode cX17_accessType 22 = .ok (.bipush 57, 2) := by decide +kernel
theorem V.dX17_accessType_24 : decode cX17_accessType 24 = .ok (.if_icmp .ne 6, 3) := by decide +kernel
theorem V.dX17_accessType_27 : decode cX17_accessType 27 = .ok (.bipush 124, 2) := by decide +kernel
theorem V.dX17_accessType_29 : decode cX17_accessType 29 = .ok (.ireturn, 1) := by decide +kernel
theorem V.dX17_accessType_30 : decode cX17_accessType 30 = .ok (.iload_n 0, 1) := by decide +kernel
theorem V.dX17_accessType_31 : decode cX17_accessType 31 = .ok (.bipush 40, 2) := by decide +kernel
theorem V.dX17_accessType_33 : decode cX17_accessType 33 = .ok (.if_icmp .eq 33, 3) := by decide +kernel
theorem V.dX17_accessType_36 : decode cX17_accessType 36 = .ok (.iload_n 0, 1) := by decide +kernel
theorem V.dX17_accessType_37 : decode cX17_accessType 37 = .ok (.bipush 44, 2) := by decide +kernel
theorem V.dX17_accessType_39 : decode cX17_accessType 39 = .ok (.if_icmp .lt 9, 3) := by decide +kernel
theorem V.dX17_accessType_42 : decode cX17_accessType 42 = .ok (.iload_n 0, 1) := by decide +kernel
theorem V.dX17_accessType_43 : decode cX17_accessType 43 = .ok (.bipush 47, 2) := by decide +kernel
theorem V.dX17_accessType_45 : decode cX17_accessType 45 = .ok (.if_icmp .le 21, 3) := by decide +kernel
theorem V.dX17_accessType_48 : decode cX17_accessType 48 = .ok (.iload_n 0, 1) := by decide +kernel
theorem V.dX17_accessType_49 : decode cX17_accessType 49 = .ok (.bipush 54, 2) := by decide +kernel
theorem V.dX17_accessType_51 : decode cX17_accessType 51 = .ok (.if_icmp .eq 15, 3) := by decide +kernel
theorem V.dX17_accessType_54 : decode cX17_accessType 54 = .ok (.iload_n 0, 1) := by decide +kernel
theorem V.dX17_accessType_55 : decode cX17_accessType 55 = .ok (.bipush 58, 2) := by decide +kernel
theorem V.dX17_accessType_57 : decode cX17_accessType 57 = .ok (.if_icmp .eq 9, 3) := by decide +kernel
theorem V.dX17_accessType_60 : decode cX17_accessType 60 = .ok (.iload_n 0, 1) := by decide +kernel
theorem V.dX17_accessType_61 : decode cX17_accessType 61 = .ok (.bipush 59, 2) := by decide +kernel
theorem V.dX17_accessType_63 : decode cX17_accessType 63 = .ok (.if_icmp .ne 8, 3) := by decide +kernel
theorem V.dX17_accessType_66 : decode cX17_accessType 66 = .ok (.bipush 127, 2) := by decide +kernel
theorem V.dX17_accessType_68 : decode cX17_accessType 68 = .ok (.goto 5, 3) := by decide +kernel
theorem V.dX17_accessType_71 : decode cX17_accessType 71 = .ok (.bipush 126, 2) := by decide +kernel
theorem V.dX17_accessType_73 : decode cX17_accessType 73 = .ok (.ireturn, 1) := by decide +kernel
/-! ModuleEngineModel.accessType(I)I -/
def V.Mdl_accessType_p66  (σ : HS)  : Option (Int32 × HS) :=
  some ((127 : Int32), σ)
theorem V.gX17_accessType_p66 {X : CX}  (σ : HS)  : G X RX17 "accessType" cX17_accessType 1 (some .int) 0 0 enI 66 [] [] σ (Mdl_accessType_p66 σ ) := by
  unfold Mdl_accessType_p66
  refine g_bipush (v := 127) dX17_accessType_66 (by decide) ?_
  refine g_goto 73 dX17_accessType_68 (by decide) ?_
  exact g_ireturn rfl dX17_accessType_73
def V.Mdl_accessType_p48  (σ : HS) (x0 : Int32) : Option (Int32 × HS) :=
  if x0 = (54 : Int32) then (
    Mdl_accessType_p66 σ)
  else (
    if x0 = (58 : Int32) then (
      Mdl_accessType_p66 σ)
    else (
      if x0 = (59 : Int32) then (
        Mdl_accessType_p66 σ)
      else (
        some ((126 : Int32), σ))))
theorem V.gX17_accessType_p48 {X : CX}  (σ : HS) (x0 : Int32) : G X RX17 "accessType" cX17_accessType 1 (some .int) 0 0 enI 48 [(0, iv x0)] [] σ (Mdl_accessType_p48 σ x0) := by
  unfold Mdl_accessType_p48
  refine g_iload_n 0 0 dX17_accessType_48 rfl rfl ?_
  refine g_bipush (v := 54) dX17_accessType_49 (by decide) ?_
  refine g_icmp_eq 66 dX17_accessType_51 (by decide) ?_ ?_
  · refine G.sub [] rfl ?_
    exact gX17_accessType_p66 _
  · refine g_iload_n 0 0 dX17_accessType_54 rfl rfl ?_
    refine g_bipush (v := 58) dX17_accessType_55 (by decide) ?_
    refine g_icmp_eq 66 dX17_accessType_57 (by decide) ?_ ?_
    · refine G.sub [] rfl ?_
      exact gX17_accessType_p66 _
    · refine g_iload_n 0 0 dX17_accessType_60 rfl rfl ?_
      refine g_bipush (v := 59) dX17_accessType_61 (by decide) ?_
      refine g_icmp_ne 71 dX17_accessType_63 (by decide) ?_ ?_
      · refine g_bipush (v := 126) dX17_accessType_71 (by decide) ?_
        exact g_ireturn rfl dX17_accessType_73
      · refine G.sub [] rfl ?_
        exact gX17_accessType_p66 _
def V.Mdl_accessType (σ : HS) (x0 : Int32) : Option (Int32 × HS) :=
  if x0 = (42 : Int32) then (
    some ((125 : Int32), σ))
  else (
    if x0 = (56 : Int32) then (
      some ((125 : Int32), σ))
    else (
      if x0 = (43 : Int32) then (
        some ((124 : Int32), σ))
      else (
        if x0 = (57 : Int32) then (
          some ((124 : Int32), σ))
        else (
          if x0 = (40 : Int32) then (
            Mdl_accessType_p66 σ)
          else (
            if x0 < (44 : Int32) then (
              Mdl_accessType_p48 σ x0)
            else (
              if x0 ≤ (47 : Int32) then (
                Mdl_accessType_p66 σ)
              else (
                Mdl_accessType_p48 σ x0)))))))
theorem V.ctX17_accessType (x0 : Int32) : Ct yX17_accessType  cX17_accessType 1 (some .int) 0 0 eI [iv x0] (fun σ => Mdl_accessType σ x0) := by
  refine Ct.of (own := RX17) (nm := "accessType") (desc := "(I)I") rfl (by decide) (Nat.le_of_ble_eq_true rfl) (by decide) (fun X σ => ?_)
  show G X RX17 "accessType" cX17_accessType 1 (some .int) 0 0 enI 0 [(0, iv x0)] [] σ (Mdl_accessType σ x0)
  unfold Mdl_accessType
  refine g_iload_n 0 0 dX17_accessType_0 rfl rfl ?_
  refine g_bipush (v := 42) dX17_accessType_1 (by decide) ?_
  refine g_icmp_eq 12 dX17_accessType_3 (by decide) ?_ ?_
  · refine g_bipush (v := 125) dX17_accessType_12 (by decide) ?_
    exact g_ireturn rfl dX17_accessType_14
  · refine g_iload_n 0 0 dX17_accessType_6 rfl rfl ?_
    refine g_bipush (v := 56) dX17_accessType_7 (by decide) ?_
    refine g_icmp_ne 15 dX17_accessType_9 (by decide) ?_ ?_
    · refine g_iload_n 0 0 dX17_accessType_15 rfl rfl ?_
      refine g_bipush (v := 43) dX17_accessType_16 (by decide) ?_
      refine g_icmp_eq 27 dX17_accessType_18 (by decide) ?_ ?_
      · refine g_bipush (v := 124) dX17_accessType_27 (by decide) ?_
        exact g_ireturn rfl dX17_accessType_29
      · refine g_iload_n 0 0 dX17_accessType_21 rfl rfl ?_
        refine g_bipush (v := 57) dX17_accessType_22 (by decide) ?_
        refine g_icmp_ne 30 dX17_accessType_24 (by decide) ?_ ?_
        · refine g_iload_n 0 0 dX17_accessType_30 rfl rfl ?_
          refine g_bipush (v := 40) dX17_accessType_31 (by decide) ?_
          refine g_icmp_eq 66 dX17_accessType_33 (by decide) ?_ ?_
          · refine G.sub [] rfl ?_
            exact gX17_accessType_p66 _
          · refine g_iload_n 0 0 dX17_accessType_36 rfl rfl ?_
            refine g_bipush (v := 44) dX17_accessType_37 (by decide) ?_
            refine g_icmp_lt 48 dX17_accessType_39 (by decide) ?_ ?_
            · exact gX17_accessType_p48 _ _
            · refine g_iload_n 0 0 dX17_accessType_42 rfl rfl ?_
              refine g_bipush (v := 47) dX17_accessType_43 (by decide) ?_
              refine g_icmp_le 66 dX17_accessType_45 (by decide) ?_ ?_
              · refine G.sub [] rfl ?_
                exact gX17_accessType_p66 _
              · exact gX17_accessType_p48 _ _
        · refine g_bipush (v := 124) dX17_accessType_27 (by decide) ?_
          exact g_ireturn rfl dX17_accessType_29
    · refine g_bipush (v := 125) dX17_accessType_12 (by decide) ?_
      exact g_ireturn rfl dX17_accessType_14
theorem V.dX17_accesses_0 : decode cX17_accesses 0 = .ok (.iload_n 1, 1) := by decide +kernel
theorem V.dX17_accesses_1 : decode cX17_accesses 1 = .ok (.invokestatic 793, 3) := by decide +kernel
theorem V.dX17_accesses_4 : decode cX17_accesses 4 = .ok (.istore_n 2, 1) := by decide +kernel
theorem V.dX17_accesses_5 : decode cX17_accesses 5 = .ok (.iload_n 1, 1) := by decide +kernel
theorem V.dX17_accesses_6 : decode cX17_accesses 6 = .ok (.bipush 53, 2) := by decide +kernel
theorem V.dX17_accesses_8 : decode cX17_accesses 8 = .ok (.if_icmp .le 9, 3) := by decide +kernel
theorem V.dX17_accesses_11 : decode cX17_accesses 11 = .ok (.aload_n 0, 1) := by decide +kernel
theorem V.dX17_accesses_12 : decode cX17_accesses 12 = .ok (.iload_n 2, 1) := by decide +kernel
theorem V.dX17_accesses_13 : decode cX17_accesses 13 = .ok (.iconst 1, 1) := by decide +kernel
theorem V.dX17_accesses_14 : decode cX17_accesses 14 = .ok (.invokevirtual 750, 3) := by decide +kernel
theorem V.dX17_accesses_17 : decode cX17_accesses 17 = .ok (.aload_n 0, 1) := by decide +kernel
theorem V.dX17_accesses_18 : decode cX17_accesses 18 = .ok (.bipush 127, 2) := by decide +kernel
theorem V.dX17_accesses_20 : decode cX17_accesses 20 = .ok (.iconst 1, 1) := by decide +kernel
theorem V.dX17_accesses_21 : decode cX17_accesses 21 = .ok (.invokevirtual 750, 3) := by decide +kernel
theorem V.dX17_accesses_24 : decode cX17_accesses 24 = .ok (.iload_n 1, 1) := by decide +kernel
theorem V.dX17_accesses_25 : decode cX17_accesses 25 = .ok (.bipush 54, 2) := by decide +kernel
theorem V.dX17_accesses_27 : decode cX17_accesses 27 = .ok (.if_icmp .ge 8, 3) := by decide +kernel
theorem V.dX17_accesses_30 : decode cX17_accesses 30 = .ok (.aload_n 0, 1) := by decide +kernel
theorem V.dX17_accesses_31 : decode cX17_accesses 31 = .ok (.iload_n 2, 1) := by decide +kernel
theorem V.dX17_accesses_32 : decode cX17_accesses 32 = .ok (.invokevirtual 695, 3) := by decide +kernel
theorem V.dX17_accesses_35 : decode cX17_accesses 35 = .ok (.return_, 1) := by decide +kernel
theorem V.mdX17_793 : MD RX17 793 yX17_accessType cX17_accessType 1 (some .int) 1 := ⟨Or.inl q3986, q377, q3988, by decide, by decide, by decide +kernel⟩
/-! ModuleEngineModel.accesses(I)V -/
def V.Mdl_accesses_p17  (σ : HS) (x0 : Nat) (x1 : Int32) (x2 : Int32) : Option ((Nat ⊕ Unit) × HS) :=
  ck (tg σ x0 = 18) <| clT (Mdl_takes σ x0 (127 : Int32) (1 : Int32)) fun _ σ1 =>
  if (54 : Int32) ≤ x1 then (
    some (.inr (), σ1))
  else (
    ck (tg σ1 x0 = 18) <| clT (Mdl_put σ1 x0 x2) fun _ σ2 =>
    some (.inr (), σ2))
theorem V.gX17_accesses_p17 {X : CX}  (σ : HS) (x0 : Nat) (x1 : Int32) (x2 : Int32) : G X RX17 "accesses" cX17_accesses 3 none 3 69 (enX enV (cxz X)) 17 [(0, av x0), (1, iv x1), (2, iv x2)] [] σ (Mdl_accesses_p17 σ x0 x1 x2) := by
  unfold Mdl_accesses_p17
  refine g_aload_n 0 0 dX17_accesses_17 rfl rfl ?_
  refine g_bipush (v := 127) dX17_accesses_18 (by decide) ?_
  refine g_iconst (v := 1) dX17_accesses_20 (by decide) ?_
  refine g_callVT (fc := fun sς => Mdl_takes sς x0 (127 : Int32) (1 : Int32)) (ci := 17) (as := [iv (127 : Int32), iv (1 : Int32)]) rfl rfl rfl q3896 qs265 q3894 mdX17_750 (ctX17_takes x0 (127 : Int32) (1 : Int32)) rfl (Nat.le_of_ble_eq_true rfl) (Nat.le_of_ble_eq_true rfl) (Nat.le_of_ble_eq_true rfl) pu_V (by decide) dX17_accesses_21 (fun _ σ1 => ?_)
  refine g_iload_n 1 1 dX17_accesses_24 rfl rfl ?_
  refine g_bipush (v := 54) dX17_accesses_25 (by decide) ?_
  refine g_icmp_ge 35 dX17_accesses_27 (by decide) ?_ ?_
  · exact g_return rfl dX17_accesses_35
  · refine g_aload_n 0 0 dX17_accesses_30 rfl rfl ?_
    refine g_iload_n 2 2 dX17_accesses_31 rfl rfl ?_
    refine g_callVT (fc := fun sς => Mdl_put sς x0 x2) (ci := 17) (as := [iv x2]) rfl rfl rfl q3907 qs267 q3905 mdX17_695 (ctX17_put x0 x2) rfl (Nat.le_of_ble_eq_true rfl) (Nat.le_of_ble_eq_true rfl) (Nat.le_of_ble_eq_true rfl) pu_V (by decide) dX17_accesses_32 (fun _ σ2 => ?_)
    exact g_return rfl dX17_accesses_35
def V.Mdl_accesses (σ : HS) (x0 : Nat) (x1 : Int32) : Option ((Nat ⊕ Unit) × HS) :=
  cl (Mdl_accessType σ x1) fun r2 σ1 =>
  if x1 ≤ (53 : Int32) then (
    Mdl_accesses_p17 σ1 x0 x1 r2)
  else (
    ck (tg σ1 x0 = 18) <| clT (Mdl_takes σ1 x0 r2 (1 : Int32)) fun _ σ3 =>
    Mdl_accesses_p17 σ3 x0 x1 r2)
theorem V.ctX17_accesses (x0 : Nat) (x1 : Int32) : Ct yX17_accesses  cX17_accesses 3 none 3 69 eXV [av x0, iv x1] (fun σ => Mdl_accesses σ x0 x1) := by
  refine Ct.of (own := RX17) (nm := "accesses") (desc := "(I)V") rfl (by decide) (Nat.le_of_ble_eq_true rfl) (by decide) (fun X σ => ?_)
  show G X RX17 "accesses" cX17_accesses 3 none 3 69 (enX enV (cxz X)) 0 [(0, av x0), (1, iv x1)] [] σ (Mdl_accesses σ x0 x1)
  unfold Mdl_accesses
  refine g_iload_n 1 1 dX17_accesses_0 rfl rfl ?_
  refine g_callS (fc := fun sς => Mdl_accessType sς x1) (as := [iv x1]) q3987 mdX17_793 (ctX17_accessType x1) rfl (Nat.le_of_ble_eq_true rfl) (Nat.le_of_ble_eq_true rfl) (Nat.le_of_ble_eq_true rfl) pu_I dX17_accesses_1 (fun r2 σ1 => ?_)
  refine g_istore_n 2 dX17_accesses_4 rfl (by decide) rfl ?_
  refine g_iload_n 1 2 dX17_accesses_5 rfl rfl ?_
  refine g_bipush (v := 53) dX17_accesses_6 (by decide) ?_
  refine g_icmp_le 17 dX17_accesses_8 (by decide) ?_ ?_
  · refine G.sub [1, 2, 0] rfl ?_
    exact gX17_accesses_p17 _ _ _ _
  · refine g_aload_n 0 1 dX17_accesses_11 rfl rfl ?_
    refine g_iload_n 2 0 dX17_accesses_12 rfl rfl ?_
    refine g_iconst (v := 1) dX17_accesses_13 (by decide) ?_
    refine g_callVT (fc := fun sς => Mdl_takes sς x0 r2 (1 : Int32)) (ci := 17) (as := [iv r2, iv (1 : Int32)]) rfl rfl rfl q3896 qs265 q3894 mdX17_750 (ctX17_takes x0 r2 (1 : Int32)) rfl (Nat.le_of_ble_eq_true rfl) (Nat.le_of_ble_eq_true rfl) (Nat.le_of_ble_eq_true rfl) pu_V (by decide) dX17_accesses_14 (fun _ σ3 => ?_)
    refine G.sub [1, 2, 0] rfl ?_
    exact gX17_accesses_p17 _ _ _ _
theorem V.dX17_furthers_0 : decode cX17_furthers 0 = .ok (.aload_n 0, 1) := by decide +kernel
theorem V.dX17_furthers_1 : decode cX17_furthers 1 = .ok (.invokevirtual 603, 3) := by decide +kernel
theorem V.dX17_furthers_4 : decode cX17_furthers 4 = .ok (.l2i, 1) := by decide +kernel
theorem V.dX17_furthers_5 : decode cX17_furthers 5 = .ok (.istore_n 1, 1) := by decide +kernel
theorem V.dX17_furthers_6 : decode cX17_furthers 6 = .ok (.iload_n 1, 1) := by decide +kernel
theorem V.dX17_furthers_7 : decode cX17_furthers 7 = .ok (.bipush 8, 2) := by decide +kernel
theorem V.dX17_furthers_9 : decode cX17_furthers 9 = .ok (.if_icmp .ge 15, 3) := by decide +kernel
theorem V.dX17_furthers_12 : decode cX17_furthers 12 = .ok (.aload_n 0, 1) := by decide +kernel
theorem V.dX17_furthers_13 : decode cX17_furthers 13 = .ok (.sipush 200, 3) := by decide +kernel
theorem V.dX17_furthers_16 : decode cX17_furthers 16 = .ok (.iload_n 1, 1) := by decide +kernel
theorem V.dX17_furthers_17 : decode cX17_furthers 17 = .ok (.iadd, 1) := by decide +kernel
theorem V.dX17_furthers_18 : decode cX17_furthers 18 = .ok (.invokevirtual 735, 3) := by decide +kernel
theorem V.dX17_furthers_21 : decode cX17_furthers 21 = .ok (.goto 100, 3) := by decide +kernel
theorem V.dX17_furthers_24 : decode cX17_furthers 24 = .ok (.iload_n 1, 1) := by decide +kernel
theorem V.dX17_furthers_25 : decode cX17_furthers 25 = .ok (.bipush 15, 2) := by decide +kernel
theorem V.dX17_furthers_27 : decode cX17_furthers 27 = .ok (.if_icmp .eq 9, 3) := by decide +kernel
theorem V.dX17_furthers_30 : decode cX17_furthers 30 = .ok (.iload_n 1, 1) := by decide +kernel
theorem V.dX17_furthers_31 : decode cX17_furthers 31 = .ok (.bipush 17, 2) := by decide +kernel
theorem V.dX17_furthers_33 : decode cX17_furthers 33 = .ok (.if_icmp .ne 54, 3) := by decide +kernel
theorem V.dX17_furthers_36 : decode cX17_furthers 36 = .ok (.aload_n 0, 1) := by decide +kernel
theorem V.dX17_furthers_37 : decode cX17_furthers 37 = .ok (.getfield 221, 3) := by decide +kernel
theorem V.dX17_furthers_40 : decode cX17_furthers 40 = .ok (.aload_n 0, 1) := by decide +kernel
theorem V.dX17_furthers_41 : decode cX17_furthers 41 = .ok (.invokevirtual 603, 3) := by decide +kernel
theorem V.dX17_furthers_44 : decode cX17_furthers 44 = .ok (.l2i, 1) := by decide +kernel
theorem V.dX17_furthers_45 : decode cX17_furthers 45 = .ok (.invokevirtual 661, 3) := by decide +kernel
theorem V.dX17_furthers_48 : decode cX17_furthers 48 = .ok (.istore_n 2, 1) := by decide +kernel
theorem V.dX17_furthers_49 : decode cX17_furthers 49 = .ok (.aload_n 0, 1) := by decide +kernel
theorem V.dX17_furthers_50 : decode cX17_furthers 50 = .ok (.bipush 127, 2) := by decide +kernel
theorem V.dX17_furthers_52 : decode cX17_furthers 52 = .ok (.iconst 1, 1) := by decide +kernel
theorem V.dX17_furthers_53 : decode cX17_furthers 53 = .ok (.invokevirtual 750, 3) := by decide +kernel
theorem V.dX17_furthers_56 : decode cX17_furthers 56 = .ok (.aload_n 0, 1) := by decide +kernel
theorem V.dX17_furthers_57 : decode cX17_furthers 57 = .ok (.iload_n 2, 1) := by decide +kernel
theorem V.dX17_furthers_58 : decode cX17_furthers 58 = .ok (.iconst 1, 1) := by decide +kernel
theorem V.dX17_furthers_59 : decode cX17_furthers 59 = .ok (.invokevirtual 750, 3) := by decide +kernel
theorem V.dX17_furthers_62 : decode cX17_furthers 62 = .ok (.iload_n 1, 1) := by decide +kernel
theorem V.dX17_furthers_63 : decode cX17_furthers 63 = .ok (.bipush 17, 2) := by decide +kernel
theorem V.dX17_furthers_65 : decode cX17_furthers 65 = .ok (.if_icmp .ne 13, 3) := by decide +kernel
theorem V.dX17_furthers_68 : decode cX17_furthers 68 = .ok (.aload_n 0, 1) := by decide +kernel
theorem V.dX17_furthers_69 : decode cX17_furthers 69 = .ok (.bipush 127, 2) := by decide +kernel
theorem V.dX17_furthers_71 : decode cX17_furthers 71 = .ok (.iconst 1, 1) := by decide +kernel
theorem V.dX17_furthers_72 : decode cX17_furthers 72 = .ok (.invokevirtual 750, 3) := by decide +kernel
theorem V.dX17_furthers_75 : decode cX17_furthers 75 = .ok (.goto 9, 3) := by decide +kernel
theorem V.dX17_furthers_78 : decode cX17_furthers 78 = .ok (.aload_n 0, 1) := by decide +kernel
theorem V.dX17_furthers_79 : decode cX17_furthers 79 = .ok (.bipush 127, 2) := by decide +kernel
theorem V.dX17_furthers_81 : decode cX17_furthers 81 = .ok (.invokevirtual 695, 3) := by decide +kernel
theorem V.dX17_furthers_84 : decode cX17_furthers 84 = .ok (.goto 37, 3) := by decide +kernel
theorem V.dX17_furthers_87 : decode cX17_furthers 87 = .ok (.iload_n 1, 1) := by decide +kernel
theorem V.dX17_furthers_88 : decode cX17_furthers 88 = .ok (.bipush 16, 2) := by decide +kernel
theorem V.dX17_furthers_90 : decode cX17_furthers 90 = .ok (.if_icmp .ne 12, 3) := by decide +kernel
theorem V.dX17_furthers_93 : decode cX17_furthers 93 = .ok (.aload_n 0, 1) := by decide +kernel
theorem V.dX17_furthers_94 : decode cX17_furthers 94 = .ok (.bipush 127, 2) := by decide +kernel
theorem V.dX17_furthers_96 : decode cX17_furthers 96 = .ok (.invokevirtual 695, 3) := by decide +kernel
theorem V.dX17_furthers_99 : decode cX17_furthers 99 = .ok (.goto 22, 3) := by decide +kernel
theorem V.dX17_furthers_102 : decode cX17_furthers 102 = .ok (.iload_n 1, 1) := by decide +kernel
theorem V.dX17_furthers_103 : decode cX17_furthers 103 = .ok (.bipush 9, 2) := by decide +kernel
theorem V.dX17_furthers_105 : decode cX17_furthers 105 = .ok (.if_icmp .eq 16, 3) := by decide +kernel
theorem V.dX17_furthers_108 : decode cX17_furthers 108 = .ok (.iload_n 1, 1) := by decide +kernel
theorem V.dX17_furthers_109 : decode cX17_furthers 109 = .ok (.bipush 13, 2) := by decide +kernel
theorem V.dX17_furthers_111 : decode cX17_furthers 111 = .ok (.if_icmp .eq 10, 3) := by decide +kernel
theorem V.dX17_furthers_114 : decode cX17_furthers 114 = .ok (.aload_n 0, 1) := by decide +kernel
theorem V.dX17_furthers_115 : decode cX17_furthers 115 = .ok (.bipush 127, 2) := by decide +kernel
theorem V.dX17_furthers_117 : decode cX17_furthers 117 = .ok (.iconst 3, 1) := by decide +kernel
theorem V.dX17_furthers_118 : decode cX17_furthers 118 = .ok (.invokevirtual 750, 3) := by decide +kernel
theorem V.dX17_furthers_121 : decode cX17_furthers 121 = .ok (.return_, 1) := by decide +kernel
theorem V.mdX17_735 : MD RX17 735 yX17_operates cX17_operates 2 none 1 := ⟨Or.inl q3884, q377, q3887, by decide, by decide, by decide +kernel⟩
/-! ModuleEngineModel.furthers()V -/
def V.Mdl_furthers_p36  (σ : HS) (x0 : Nat) (x1 : Int32) : Option ((Nat ⊕ Unit) × HS) :=
  ck (tg σ x0 = 18) <|
  ck (tg σ x0 = 18) <| cl (Mdl_word σ x0 ) fun r2 σ1 =>
  ck (tg σ1 (gR σ x0 10) = 21) <| cl (Pln_typeOfTable σ1 (gR σ x0 10) r2.toInt32) fun r4 σ3 =>
  ck (tg σ3 x0 = 18) <| clT (Mdl_takes σ3 x0 (127 : Int32) (1 : Int32)) fun _ σ5 =>
  ck (tg σ5 x0 = 18) <| clT (Mdl_takes σ5 x0 r4 (1 : Int32)) fun _ σ6 =>
  if x1 = (17 : Int32) then (
    ck (tg σ6 x0 = 18) <| clT (Mdl_takes σ6 x0 (127 : Int32) (1 : Int32)) fun _ σ8 =>
    some (.inr (), σ8))
  else (
    ck (tg σ6 x0 = 18) <| clT (Mdl_put σ6 x0 (127 : Int32)) fun _ σ7 =>
    some (.inr (), σ7))
theorem V.gX17_furthers_p36 {X : CX}  (σ : HS) (x0 : Nat) (x1 : Int32) : G X RX17 "furthers" cX17_furthers 3 none 4 90 (enX enV (cxz X)) 36 [(0, av x0), (1, iv x1)] [] σ (Mdl_furthers_p36 σ x0 x1) := by
  unfold Mdl_furthers_p36
  refine g_aload_n 0 0 dX17_furthers_36 rfl rfl ?_
  refine g_getR fdX17_221 dX17_furthers_37 ?_
  refine g_aload_n 0 0 dX17_furthers_40 rfl rfl ?_
  refine g_callV (fc := fun sς => Mdl_word sς x0 ) (ci := 17) (as := []) rfl rfl rfl q3813 qs250 mdX17_603 (ctX17_word x0 ) rfl (Nat.le_of_ble_eq_true rfl) (Nat.le_of_ble_eq_true rfl) (Nat.le_of_ble_eq_true rfl) pu_J dX17_furthers_41 (fun r2 σ1 => ?_)
  refine g_l2i dX17_furthers_44 ?_
  refine g_callV (fc := fun sς => Pln_typeOfTable sς (gR σ x0 10) r2.toInt32) (ci := 20) (as := [iv r2.toInt32]) rfl rfl rfl q3858 q3859 mdX17_661 (ctX20_typeOfTable (gR σ x0 10) r2.toInt32) rfl (Nat.le_of_ble_eq_true rfl) (Nat.le_of_ble_eq_true rfl) (Nat.le_of_ble_eq_true rfl) pu_I dX17_furthers_45 (fun r4 σ3 => ?_)
  refine g_istore_n 2 dX17_furthers_48 rfl (by decide) rfl ?_
  refine g_aload_n 0 1 dX17_furthers_49 rfl rfl ?_
  refine g_bipush (v := 127) dX17_furthers_50 (by decide) ?_
  refine g_iconst (v := 1) dX17_furthers_52 (by decide) ?_
  refine g_callVT (fc := fun sς => Mdl_takes sς x0 (127 : Int32) (1 : Int32)) (ci := 17) (as := [iv (127 : Int32), iv (1 : Int32)]) rfl rfl rfl q3896 qs265 q3894 mdX17_750 (ctX17_takes x0 (127 : Int32) (1 : Int32)) rfl (Nat.le_of_ble_eq_true rfl) (Nat.le_of_ble_eq_true rfl) (Nat.le_of_ble_eq_true rfl) pu_V (by decide) dX17_furthers_53 (fun _ σ5 => ?_)
  refine g_aload_n 0 1 dX17_furthers_56 rfl rfl ?_
  refine g_iload_n 2 0 dX17_furthers_57 rfl rfl ?_
  refine g_iconst (v := 1) dX17_furthers_58 (by decide) ?_
  refine g_callVT (fc := fun sς => Mdl_takes sς x0 r4 (1 : Int32)) (ci := 17) (as := [iv r4, iv (1 : Int32)]) rfl rfl rfl q3896 qs265 q3894 mdX17_750 (ctX17_takes x0 r4 (1 : Int32)) rfl (Nat.le_of_ble_eq_true rfl) (Nat.le_of_ble_eq_true rfl) (Nat.le_of_ble_eq_true rfl) pu_V (by decide) dX17_furthers_59 (fun _ σ6 => ?_)
  refine g_iload_n 1 2 dX17_furthers_62 rfl rfl ?_
  refine g_bipush (v := 17) dX17_furthers_63 (by decide) ?_
  refine g_icmp_ne 78 dX17_furthers_65 (by decide) ?_ ?_
  · refine g_aload_n 0 1 dX17_furthers_78 rfl rfl ?_
    refine g_bipush (v := 127) dX17_furthers_79 (by decide) ?_
    refine g_callVT (fc := fun sς => Mdl_put sς x0 (127 : Int32)) (ci := 17) (as := [iv (127 : Int32)]) rfl rfl rfl q3907 qs267 q3905 mdX17_695 (ctX17_put x0 (127 : Int32)) rfl (Nat.le_of_ble_eq_true rfl) (Nat.le_of_ble_eq_true rfl) (Nat.le_of_ble_eq_true rfl) pu_V (by decide) dX17_furthers_81 (fun _ σ7 => ?_)
    refine g_goto 121 dX17_furthers_84 (by decide) ?_
    exact g_return rfl dX17_furthers_121
  · refine g_aload_n 0 1 dX17_furthers_68 rfl rfl ?_
    refine g_bipush (v := 127) dX17_furthers_69 (by decide) ?_
    refine g_iconst (v := 1) dX17_furthers_71 (by decide) ?_
    refine g_callVT (fc := fun sς => Mdl_takes sς x0 (127 : Int32) (1 : Int32)) (ci := 17) (as := [iv (127 : Int32), iv (1 : Int32)]) rfl rfl rfl q3896 qs265 q3894 mdX17_750 (ctX17_takes x0 (127 : Int32) (1 : Int32)) rfl (Nat.le_of_ble_eq_true rfl) (Nat.le_of_ble_eq_true rfl) (Nat.le_of_ble_eq_true rfl) pu_V (by decide) dX17_furthers_72 (fun _ σ8 => ?_)
    refine g_goto 84 dX17_furthers_75 (by decide) ?_
    refine g_goto 121 dX17_furthers_84 (by decide) ?_
    exact g_return rfl dX17_furthers_121
def V.Mdl_furthers (σ : HS) (x0 : Nat) : Option ((Nat ⊕ Unit) × HS) :=
  ck (tg σ x0 = 18) <| cl (Mdl_word σ x0 ) fun r2 σ1 =>
  if (8 : Int32) ≤ r2.toInt32 then (
    if r2.toInt32 = (15 : Int32) then (
      Mdl_furthers_p36 σ1 x0 r2.toInt32)
    else (
      if r2.toInt32 = (17 : Int32) then (
        Mdl_furthers_p36 σ1 x0 r2.toInt32)
      else (
        if r2.toInt32 = (16 : Int32) then (
          ck (tg σ1 x0 = 18) <| clT (Mdl_put σ1 x0 (127 : Int32)) fun _ σ4 =>
          some (.inr (), σ4))
        else (
          if r2.toInt32 = (9 : Int32) then (
            some (.inr (), σ1))
          else (
            if r2.toInt32 = (13 : Int32) then (
              some (.inr (), σ1))
            else (
              ck (tg σ1 x0 = 18) <| clT (Mdl_takes σ1 x0 (127 : Int32) (3 : Int32)) fun _ σ3 =>
              some (.inr (), σ3)))))))
  else (
    ck (tg σ1 x0 = 18) <| clT (Mdl_operates σ1 x0 ((200 : Int32) + r2.toInt32)) fun _ σ5 =>
    some (.inr (), σ5))
theorem V.ctX17_furthers (x0 : Nat) : Ct yX17_furthers  cX17_furthers 3 none 4 90 eXV [av x0] (fun σ => Mdl_furthers σ x0) := by
  refine Ct.of (own := RX17) (nm := "furthers") (desc := "()V") rfl (by decide) (Nat.le_of_ble_eq_true rfl) (by decide) (fun X σ => ?_)
  show G X RX17 "furthers" cX17_furthers 3 none 4 90 (enX enV (cxz X)) 0 [(0, av x0)] [] σ (Mdl_furthers σ x0)
  unfold Mdl_furthers
  refine g_aload_n 0 0 dX17_furthers_0 rfl rfl ?_
  refine g_callV (fc := fun sς => Mdl_word sς x0 ) (ci := 17) (as := []) rfl rfl rfl q3813 qs250 mdX17_603 (ctX17_word x0 ) rfl (Nat.le_of_ble_eq_true rfl) (Nat.le_of_ble_eq_true rfl) (Nat.le_of_ble_eq_true rfl) pu_J dX17_furthers_1 (fun r2 σ1 => ?_)
  refine g_l2i dX17_furthers_4 ?_
  refine g_istore_n 1 dX17_furthers_5 rfl (by decide) rfl ?_
  refine g_iload_n 1 0 dX17_furthers_6 rfl rfl ?_
  refine g_bipush (v := 8) dX17_furthers_7 (by decide) ?_
  refine g_icmp_ge 24 dX17_furthers_9 (by decide) ?_ ?_
  · refine g_iload_n 1 0 dX17_furthers_24 rfl rfl ?_
    refine g_bipush (v := 15) dX17_furthers_25 (by decide) ?_
    refine g_icmp_eq 36 dX17_furthers_27 (by decide) ?_ ?_
    · refine G.sub [1, 0] rfl ?_
      exact gX17_furthers_p36 _ _ _
    · refine g_iload_n 1 0 dX17_furthers_30 rfl rfl ?_
      refine g_bipush (v := 17) dX17_furthers_31 (by decide) ?_
      refine g_icmp_ne 87 dX17_furthers_33 (by decide) ?_ ?_
      · refine g_iload_n 1 0 dX17_furthers_87 rfl rfl ?_
        refine g_bipush (v := 16) dX17_furthers_88 (by decide) ?_
        refine g_icmp_ne 102 dX17_furthers_90 (by decide) ?_ ?_
        · refine g_iload_n 1 0 dX17_furthers_102 rfl rfl ?_
          refine g_bipush (v := 9) dX17_furthers_103 (by decide) ?_
          refine g_icmp_eq 121 dX17_furthers_105 (by decide) ?_ ?_
          · exact g_return rfl dX17_furthers_121
          · refine g_iload_n 1 0 dX17_furthers_108 rfl rfl ?_
            refine g_bipush (v := 13) dX17_furthers_109 (by decide) ?_
            refine g_icmp_eq 121 dX17_furthers_111 (by decide) ?_ ?_
            · exact g_return rfl dX17_furthers_121
            · refine g_aload_n 0 1 dX17_furthers_114 rfl rfl ?_
              refine g_bipush (v := 127) dX17_furthers_115 (by decide) ?_
              refine g_iconst (v := 3) dX17_furthers_117 (by decide) ?_
              refine g_callVT (fc := fun sς => Mdl_takes sς x0 (127 : Int32) (3 : Int32)) (ci := 17) (as := [iv (127 : Int32), iv (3 : Int32)]) rfl rfl rfl q3896 qs265 q3894 mdX17_750 (ctX17_takes x0 (127 : Int32) (3 : Int32)) rfl (Nat.le_of_ble_eq_true rfl) (Nat.le_of_ble_eq_true rfl) (Nat.le_of_ble_eq_true rfl) pu_V (by decide) dX17_furthers_118 (fun _ σ3 => ?_)
              exact g_return rfl dX17_furthers_121
        · refine g_aload_n 0 1 dX17_furthers_93 rfl rfl ?_
          refine g_bipush (v := 127) dX17_furthers_94 (by decide) ?_
          refine g_callVT (fc := fun sς => Mdl_put sς x0 (127 : Int32)) (ci := 17) (as := [iv (127 : Int32)]) rfl rfl rfl q3907 qs267 q3905 mdX17_695 (ctX17_put x0 (127 : Int32)) rfl (Nat.le_of_ble_eq_true rfl) (Nat.le_of_ble_eq_true rfl) (Nat.le_of_ble_eq_true rfl) pu_V (by decide) dX17_furthers_96 (fun _ σ4 => ?_)
          refine g_goto 121 dX17_furthers_99 (by decide) ?_
          exact g_return rfl dX17_furthers_121
      · refine G.sub [1, 0] rfl ?_
        exact gX17_furthers_p36 _ _ _
  · refine g_aload_n 0 1 dX17_furthers_12 rfl rfl ?_
    refine g_sipush (v := 200) dX17_furthers_13 (by decide) ?_
    refine g_iload_n 1 0 dX17_furthers_16 rfl rfl ?_
    refine g_iadd dX17_furthers_17 ?_
    refine g_callVT (fc := fun sς => Mdl_operates sς x0 ((200 : Int32) + r2.toInt32)) (ci := 17) (as := [iv ((200 : Int32) + r2.toInt32)]) rfl rfl rfl q3886 qs264 q3884 mdX17_735 (ctX17_operates x0 ((200 : Int32) + r2.toInt32)) rfl (Nat.le_of_ble_eq_true rfl) (Nat.le_of_ble_eq_true rfl) (Nat.le_of_ble_eq_true rfl) pu_V (by decide) dX17_furthers_18 (fun _ σ5 => ?_)
    refine g_goto 121 dX17_furthers_21 (by decide) ?_
    exact g_return rfl dX17_furthers_121
theorem V.dX17_goesTogether_0 : decode cX17_goesTogether 0 = .ok (.iload_n 1, 1) := by decide +kernel
theorem V.dX17_goesTogether_1 : decode cX17_goesTogether 1 = .ok (.bipush 69, 2) := by decide +kernel
theorem V.dX17_goesTogether_3 : decode cX17_goesTogether 3 = .ok (.if_icmp .lt 18, 3) := by decide +kernel
theorem V.dX17_goesTogether_6 : decode cX17_goesTogether 6 = .ok (.iload_n 1, 1) := by decide +kernel
theorem V.dX17_goesTogether_7 : decode cX17_goesTogether 7 = .ok (.sipush 196, 3) := by decide +kernel
theorem V.dX17_goesTogether_10 : decode cX17_goesTogether 10 = .ok (.if_icmp .gt 11, 3) := by decide +kernel
theorem V.dX17_goesTogether_13 : decode cX17_goesTogether 13 = .ok (.aload_n 0, 1) := by decide +kernel
theorem V.dX17_goesTogether_14 : decode cX17_goesTogether 14 = .ok (.iload_n 1, 1) := by decide +kernel
theorem V.dX17_goesTogether_15 : decode cX17_goesTogether 15 = .ok (.invokevirtual 735, 3) := by decide +kernel
theorem V.dX17_goesTogether_18 : decode cX17_goesTogether 18 = .ok (.goto 189, 3) := by decide +kernel
theorem V.dX17_goesTogether_21 : decode cX17_goesTogether 21 = .ok (.iload_n 1, 1) := by decide +kernel
theorem V.dX17_goesTogether_22 : decode cX17_goesTogether 22 = .ok (.bipush 32, 2) := by decide +kernel
theorem V.dX17_goesTogether_24 : decode cX17_goesTogether 24 = .ok (.if_icmp .ge 11, 3) := by decide +kernel
theorem V.dX17_goesTogether_27 : decode cX17_goesTogether 27 = .ok (.aload_n 0, 1) := by decide +kernel
theorem V.dX17_goesTogether_28 : decode cX17_goesTogether 28 = .ok (.iload_n 1, 1) := by decide +kernel
theorem V.dX17_goesTogether_29 : decode cX17_goesTogether 29 = .ok (.invokevirtual 738, 3) := by decide +kernel
theorem V.dX17_goesTogether_32 : decode cX17_goesTogether 32 = .ok (.goto 175, 3) := by decide +kernel
theorem V.dX17_goesTogether_35 : decode cX17_goesTogether 35 = .ok (.iload_n 1, 1) := by decide +kernel
theorem V.dX17_goesTogether_36 : decode cX17_goesTogether 36 = .ok (.bipush 40, 2) := by decide +kernel
theorem V.dX17_goesTogether_38 : decode cX17_goesTogether 38 = .ok (.if_icmp .ge 11, 3) := by decide +kernel
theorem V.dX17_goesTogether_41 : decode cX17_goesTogether 41 = .ok (.aload_n 0, 1) := by decide +kernel
theorem V.dX17_goesTogether_42 : decode cX17_goesTogether 42 = .ok (.iload_n 1, 1) := by decide +kernel
theorem V.dX17_goesTogether_43 : decode cX17_goesTogether 43 = .ok (.invokevirtual 741, 3) := by decide +kernel
theorem V.dX17_goesTogether_46 : decode cX17_goesTogether 46 = .ok (.goto 161, 3) := by decide +kernel
theorem V.dX17_goesTogether_49 : decode cX17_goesTogether 49 = .ok (.iload_n 1, 1) := by decide +kernel
theorem V.dX17_goesTogether_50 : decode cX17_goesTogether 50 = .ok (.bipush 63, 2) := by decide +kernel
theorem V.dX17_goesTogether_52 : decode cX17_goesTogether 52 = .ok (.if_icmp .ge 11, 3) := by decide +kernel
theorem V.dX17_goesTogether_55 : decode cX17_goesTogether 55 = .ok (.aload_n 0, 1) := by decide +kernel
theorem V.dX17_goesTogether_56 : decode cX17_goesTogether 56 = .ok (.iload_n 1, 1) := by decide +kernel
theorem V.dX17_goesTogether_57 : decode cX17_goesTogether 57 = .ok (.invokevirtual 744, 3) := by decide +kernel
theorem V.dX17_goesTogether_60 : decode cX17_goesTogether 60 = .ok (.goto 147, 3) := by decide +kernel
theorem V.dX17_goesTogether_63 : decode cX17_goesTogether 63 = .ok (.iload_n 1, 1) := by decide +kernel
theorem V.dX17_goesTogether_64 : decode cX17_goesTogether 64 = .ok (.sipush 252, 3) := by decide +kernel
theorem V.dX17_goesTogether_67 : decode cX17_goesTogether 67 = .ok (.if_icmp .ne 10, 3) := by decide +kernel
theorem V.dX17_goesTogether_70 : decode cX17_goesTogether 70 = .ok (.aload_n 0, 1) := by decide +kernel
theorem V.dX17_goesTogether_71 : decode cX17_goesTogether 71 = .ok (.invokevirtual 747, 3) := by decide +kernel
theorem V.dX17_goesTogether_74 : decode cX17_goesTogether 74 = .ok (.goto 133, 3) := by decide +kernel
theorem V.dX17_goesTogether_77 : decode cX17_goesTogether 77 = .ok (.iload_n 1, 1) := by decide +kernel
theorem V.dX17_goesTogether_78 : decode cX17_goesTogether 78 = .ok (.bipush 63, 2) := by decide +kernel
theorem V.dX17_goesTogether_80 : decode cX17_goesTogether 80 = .ok (.if_icmp .ne 12, 3) := by decide +kernel
theorem V.dX17_goesTogether_83 : decode cX17_goesTogether 83 = .ok (.aload_n 0, 1) := by decide +kernel
theorem V.dX17_goesTogether_84 : decode cX17_goesTogether 84 = .ok (.bipush 127, 2) := by decide +kernel
theorem V.dX17_goesTogether_86 : decode cX17_goesTogether 86 = .ok (.invokevirtual 695, 3) := by decide +kernel
theorem V.dX17_goesTogether_89 : decode cX17_goesTogether 89 = .ok (.goto 118, 3) := by decide +kernel
theorem V.dX17_goesTogether_92 : decode cX17_goesTogether 92 = .ok (.iload_n 1, 1) := by decide +kernel
theorem V.dX17_goesTogether_93 : decode cX17_goesTogether 93 = .ok (.bipush 64, 2) := by decide +kernel
theorem V.dX17_goesTogether_95 : decode cX17_goesTogether 95 = .ok (.if_icmp .ne 19, 3) := by decide +kernel
theorem V.dX17_goesTogether_98 : decode cX17_goesTogether 98 = .ok (.aload_n 0, 1) := by decide +kernel
theorem V.dX17_goesTogether_99 : decode cX17_goesTogether 99 = .ok (.bipush 127, 2) := by decide +kernel
theorem V.dX17_goesTogether_101 : decode cX17_goesTogether 101 = .ok (.iconst 1, 1) := by decide +kernel
theorem V.dX17_goesTogether_102 : decode cX17_goesTogether 102 = .ok (.invokevirtual 750, 3) := by decide +kernel
theorem V.dX17_goesTogether_105 : decode cX17_goesTogether 105 = .ok (.aload_n 0, 1) := by decide +kernel
theorem V.dX17_goesTogether_106 : decode cX17_goesTogether 106 = .ok (.bipush 127, 2) := by decide +kernel
theorem V.dX17_goesTogether_108 : decode cX17_goesTogether 108 = .ok (.invokevirtual 695, 3) := by decide +kernel
theorem V.dX17_goesTogether_111 : decode cX17_goesTogether 111 = .ok (.goto 96, 3) := by decide +kernel
theorem V.dX17_goesTogether_114 : decode cX17_goesTogether 114 = .ok (.iload_n 1, 1) := by decide +kernel
theorem V.dX17_goesTogether_115 : decode cX17_goesTogether 115 = .ok (.bipush 69, 2) := by decide +kernel
theorem V.dX17_goesTogether_117 : decode cX17_goesTogether 117 = .ok (.if_icmp .ge 15, 3) := by decide +kernel
theorem V.dX17_goesTogether_120 : decode cX17_goesTogether 120 = .ok (.aload_n 0, 1) := by decide +kernel
theorem V.dX17_goesTogether_121 : decode cX17_goesTogether 121 = .ok (.sipush 192, 3) := by decide +kernel
theorem V.dX17_goesTogether_124 : decode cX17_goesTogether 124 = .ok (.iload_n 1, 1) := by decide +kernel
theorem V.dX17_goesTogether_125 : decode cX17_goesTogether 125 = .ok (.isub, 1) := by decide +kernel
theorem V.dX17_goesTogether_126 : decode cX17_goesTogether 126 = .ok (.invokevirtual 695, 3) := by decide +kernel
theorem V.dX17_goesTogether_129 : decode cX17_goesTogether 129 = .ok (.goto 78, 3) := by decide +kernel
theorem V.dX17_goesTogether_132 : decode cX17_goesTogether 132 = .ok (.iload_n 1, 1) := by decide +kernel
theorem V.dX17_goesTogether_133 : decode cX17_goesTogether 133 = .ok (.sipush 208, 3) := by decide +kernel
theorem V.dX17_goesTogether_136 : decode cX17_goesTogether 136 = .ok (.if_icmp .ne 21, 3) := by decide +kernel
theorem V.dX17_goesTogether_139 : decode cX17_goesTogether 139 = .ok (.aload_n 0, 1) := by decide +kernel
theorem V.dX17_goesTogether_140 : decode cX17_goesTogether 140 = .ok (.aload_n 0, 1) := by decide +kernel
theorem V.dX17_goesTogether_141 : decode cX17_goesTogether 141 = .ok (.getfield 221, 3) := by decide +kernel
theorem V.dX17_goesTogether_144 : decode cX17_goesTogether 144 = .ok (.aload_n 0, 1) := by decide +kernel
theorem V.dX17_goesTogether_145 : decode cX17_goesTogether 145 = .ok (.getfield 594, 3) := by decide +kernel
theorem V.dX17_goesTogether_148 : decode cX17_goesTogether 148 = .ok (.invokevirtual 261, 3) := by decide +kernel
theorem V.dX17_goesTogether_151 : decode cX17_goesTogether 151 = .ok (.invokevirtual 695, 3) := by decide +kernel
theorem V.dX17_goesTogether_154 : decode cX17_goesTogether 154 = .ok (.goto 53, 3) := by decide +kernel
theorem V.dX17_goesTogether_157 : decode cX17_goesTogether 157 = .ok (.iload_n 1, 1) := by decide +kernel
theorem V.dX17_goesTogether_158 : decode cX17_goesTogether 158 = .ok (.sipush 209, 3) := by decide +kernel
theorem V.dX17_goesTogether_161 : decode cX17_goesTogether 161 = .ok (.if_icmp .ne 40, 3) := by decide +kernel
theorem V.dX17_goesTogether_164 : decode cX17_goesTogether 164 = .ok (.aload_n 0, 1) := by decide +kernel
theorem V.dX17_goesTogether_165 : decode cX17_goesTogether 165 = .ok (.iconst 0, 1) := by decide +kernel
theorem V.dX17_goesTogether_166 : decode cX17_goesTogether 166 = .ok (.invokevirtual 692, 3) := by decide +kernel
theorem V.dX17_goesTogether_169 : decode cX17_goesTogether 169 = .ok (.istore_n 2, 1) := by decide +kernel
theorem V.dX17_goesTogether_170 : decode cX17_goesTogether 170 = .ok (.iload_n 2, 1) := by decide +kernel
theorem V.dX17_goesTogether_171 : decode cX17_goesTogether 171 = .ok (.iconst (-1), 1) := by decide +kernel
theorem V.dX17_goesTogether_172 : decode cX17_goesTogether 172 = .ok (.if_icmp .eq 20, 3) := by decide +kernel
theorem V.dX17_goesTogether_175 : decode cX17_goesTogether 175 = .ok (.iload_n 2, 1) := by decide +kernel
theorem V.dX17_goesTogether_176 : decode cX17_goesTogether 176 = .ok (.invokestatic 270, 3) := by decide +kernel
theorem V.dX17_goesTogether_179 : decode cX17_goesTogether 179 = .ok (.ifCond .ne 13, 3) := by decide +kernel
theorem V.dX17_goesTogether_182 : decode cX17_goesTogether 182 = .ok (.aload_n 0, 1) := by decide +kernel
theorem V.dX17_goesTogether_183 : decode cX17_goesTogether 183 = .ok (.bipush 29, 2) := by decide +kernel
theorem V.dX17_goesTogether_185 : decode cX17_goesTogether 185 = .ok (.aload_n 0, 1) := by decide +kernel
theorem V.dX17_goesTogether_186 : decode cX17_goesTogether 186 = .ok (.getfield 686, 3) := by decide +kernel
theorem V.dX17_goesTogether_189 : decode cX17_goesTogether 189 = .ok (.invokevirtual 257, 3) := by decide +kernel
theorem V.dX17_goesTogether_192 : decode cX17_goesTogether 192 = .ok (.aload_n 0, 1) := by decide +kernel
theorem V.dX17_goesTogether_193 : decode cX17_goesTogether 193 = .ok (.bipush 127, 2) := by decide +kernel
theorem V.dX17_goesTogether_195 : decode cX17_goesTogether 195 = .ok (.invokevirtual 695, 3) := by decide +kernel
theorem V.dX17_goesTogether_198 : decode cX17_goesTogether 198 = .ok (.goto 9, 3) := by decide +kernel
theorem V.dX17_goesTogether_201 : decode cX17_goesTogether 201 = .ok (.aload_n 0, 1) := by decide +kernel
theorem V.dX17_goesTogether_202 : decode cX17_goesTogether 202 = .ok (.bipush 112, 2) := by decide +kernel
theorem V.dX17_goesTogether_204 : decode cX17_goesTogether 204 = .ok (.invokevirtual 695, 3) := by decide +kernel
theorem V.dX17_goesTogether_207 : decode cX17_goesTogether 207 = .ok (.return_, 1) := by decide +kernel
theorem V.mdX17_747 : MD RX17 747 yX17_furthers cX17_furthers 3 none 0 := ⟨Or.inl q3989, q377, q3992, by decide, by decide, by decide +kernel⟩
theorem V.mdX17_744 : MD RX17 744 yX17_accesses cX17_accesses 3 none 1 := ⟨Or.inl q3982, q377, q3985, by decide, by decide, by decide +kernel⟩
theorem V.mdX17_741 : MD RX17 741 yX17_names cX17_names 5 none 1 := ⟨Or.inl q3974, q377, q3977, by decide, by decide, by decide +kernel⟩
theorem V.mdX17_738 : MD RX17 738 yX17_controls cX17_controls 12 none 1 := ⟨Or.inl q3909, q377, q3912, by decide, by decide, by decide +kernel⟩
/-! ModuleEngineModel.goesTogether(I)V -/
def V.Mdl_goesTogether_p192  (σ : HS) (x0 : Nat) : Option ((Nat ⊕ Unit) × HS) :=
  ck (tg σ x0 = 18) <| clT (Mdl_put σ x0 (127 : Int32)) fun _ σ1 =>
  some (.inr (), σ1)
theorem V.gX17_goesTogether_p192 {X : CX}  (σ : HS) (x0 : Nat) : G X RX17 "goesTogether" cX17_goesTogether 3 none 5 127 (enX enV (cxz X)) 192 [(0, av x0)] [] σ (Mdl_goesTogether_p192 σ x0) := by
  unfold Mdl_goesTogether_p192
  refine g_aload_n 0 0 dX17_goesTogether_192 rfl rfl ?_
  refine g_bipush (v := 127) dX17_goesTogether_193 (by decide) ?_
  refine g_callVT (fc := fun sς => Mdl_put sς x0 (127 : Int32)) (ci := 17) (as := [iv (127 : Int32)]) rfl rfl rfl q3907 qs267 q3905 mdX17_695 (ctX17_put x0 (127 : Int32)) rfl (Nat.le_of_ble_eq_true rfl) (Nat.le_of_ble_eq_true rfl) (Nat.le_of_ble_eq_true rfl) pu_V (by decide) dX17_goesTogether_195 (fun _ σ1 => ?_)
  refine g_goto 207 dX17_goesTogether_198 (by decide) ?_
  exact g_return rfl dX17_goesTogether_207
def V.Mdl_goesTogether_p21  (σ : HS) (x0 : Nat) (x1 : Int32) : Option ((Nat ⊕ Unit) × HS) :=
  if (32 : Int32) ≤ x1 then (
    if (40 : Int32) ≤ x1 then (
      if (63 : Int32) ≤ x1 then (
        if x1 = (252 : Int32) then (
          ck (tg σ x0 = 18) <| clT (Mdl_furthers σ x0 ) fun _ σ14 =>
          some (.inr (), σ14))
        else (
          if x1 = (63 : Int32) then (
            ck (tg σ x0 = 18) <| clT (Mdl_put σ x0 (127 : Int32)) fun _ σ13 =>
            some (.inr (), σ13))
          else (
            if x1 = (64 : Int32) then (
              ck (tg σ x0 = 18) <| clT (Mdl_takes σ x0 (127 : Int32) (1 : Int32)) fun _ σ11 =>
              ck (tg σ11 x0 = 18) <| clT (Mdl_put σ11 x0 (127 : Int32)) fun _ σ12 =>
              some (.inr (), σ12))
            else (
              if (69 : Int32) ≤ x1 then (
                if x1 = (208 : Int32) then (
                  ck (tg σ x0 = 18) <|
                  ck (tg σ x0 = 18) <|
                  ck (tg σ (gR σ x0 10) = 21) <| cl (Pln_at σ (gR σ x0 10) (gI σ x0 19)) fun r8 σ7 =>
                  ck (tg σ7 x0 = 18) <| clT (Mdl_put σ7 x0 r8) fun _ σ9 =>
                  some (.inr (), σ9))
                else (
                  if x1 = (209 : Int32) then (
                    ck (tg σ x0 = 18) <| clT (Mdl_take σ x0 (0 : Int32)) fun r3 σ2 =>
                    if r3 = (-1 : Int32) then (
                      Mdl_goesTogether_p192 σ2 x0)
                    else (
                      cl (Mdl_isReference σ2 r3) fun r5 σ4 =>
                      if r5 = 0 then (
                        ck (tg σ4 x0 = 18) <|
                        ck (tg σ4 x0 = 18) <| clT (Mdl_stops σ4 x0 (29 : Int32) (gI σ4 x0 31)) fun _ σ6 =>
                        Mdl_goesTogether_p192 σ6 x0)
                      else (
                        Mdl_goesTogether_p192 σ4 x0)))
                  else (
                    ck (tg σ x0 = 18) <| clT (Mdl_put σ x0 (112 : Int32)) fun _ σ1 =>
                    some (.inr (), σ1))))
              else (
                ck (tg σ x0 = 18) <| clT (Mdl_put σ x0 ((192 : Int32) - x1)) fun _ σ10 =>
                some (.inr (), σ10))))))
      else (
        ck (tg σ x0 = 18) <| clT (Mdl_accesses σ x0 x1) fun _ σ15 =>
        some (.inr (), σ15)))
    else (
      ck (tg σ x0 = 18) <| clT (Mdl_names σ x0 x1) fun _ σ16 =>
      some (.inr (), σ16)))
  else (
    ck (tg σ x0 = 18) <| clT (Mdl_controls σ x0 x1) fun _ σ17 =>
    some (.inr (), σ17))
theorem V.gX17_goesTogether_p21 {X : CX}  (σ : HS) (x0 : Nat) (x1 : Int32) : G X RX17 "goesTogether" cX17_goesTogether 3 none 5 127 (enX enV (cxz X)) 21 [(0, av x0), (1, iv x1)] [] σ (Mdl_goesTogether_p21 σ x0 x1) := by
  unfold Mdl_goesTogether_p21
  refine g_iload_n 1 1 dX17_goesTogether_21 rfl rfl ?_
  refine g_bipush (v := 32) dX17_goesTogether_22 (by decide) ?_
  refine g_icmp_ge 35 dX17_goesTogether_24 (by decide) ?_ ?_
  · refine g_iload_n 1 1 dX17_goesTogether_35 rfl rfl ?_
    refine g_bipush (v := 40) dX17_goesTogether_36 (by decide) ?_
    refine g_icmp_ge 49 dX17_goesTogether_38 (by decide) ?_ ?_
    · refine g_iload_n 1 1 dX17_goesTogether_49 rfl rfl ?_
      refine g_bipush (v := 63) dX17_goesTogether_50 (by decide) ?_
      refine g_icmp_ge 63 dX17_goesTogether_52 (by decide) ?_ ?_
      · refine g_iload_n 1 1 dX17_goesTogether_63 rfl rfl ?_
        refine g_sipush (v := 252) dX17_goesTogether_64 (by decide) ?_
        refine g_icmp_ne 77 dX17_goesTogether_67 (by decide) ?_ ?_
        · refine g_iload_n 1 1 dX17_goesTogether_77 rfl rfl ?_
          refine g_bipush (v := 63) dX17_goesTogether_78 (by decide) ?_
          refine g_icmp_ne 92 dX17_goesTogether_80 (by decide) ?_ ?_
          · refine g_iload_n 1 1 dX17_goesTogether_92 rfl rfl ?_
            refine g_bipush (v := 64) dX17_goesTogether_93 (by decide) ?_
            refine g_icmp_ne 114 dX17_goesTogether_95 (by decide) ?_ ?_
            · refine g_iload_n 1 1 dX17_goesTogether_114 rfl rfl ?_
              refine g_bipush (v := 69) dX17_goesTogether_115 (by decide) ?_
              refine g_icmp_ge 132 dX17_goesTogether_117 (by decide) ?_ ?_
              · refine g_iload_n 1 1 dX17_goesTogether_132 rfl rfl ?_
                refine g_sipush (v := 208) dX17_goesTogether_133 (by decide) ?_
                refine g_icmp_ne 157 dX17_goesTogether_136 (by decide) ?_ ?_
                · refine g_iload_n 1 1 dX17_goesTogether_157 rfl rfl ?_
                  refine g_sipush (v := 209) dX17_goesTogether_158 (by decide) ?_
                  refine g_icmp_ne 201 dX17_goesTogether_161 (by decide) ?_ ?_
                  · refine g_aload_n 0 0 dX17_goesTogether_201 rfl rfl ?_
                    refine g_bipush (v := 112) dX17_goesTogether_202 (by decide) ?_
                    refine g_callVT (fc := fun sς => Mdl_put sς x0 (112 : Int32)) (ci := 17) (as := [iv (112 : Int32)]) rfl rfl rfl q3907 qs267 q3905 mdX17_695 (ctX17_put x0 (112 : Int32)) rfl (Nat.le_of_ble_eq_true rfl) (Nat.le_of_ble_eq_true rfl) (Nat.le_of_ble_eq_true rfl) pu_V (by decide) dX17_goesTogether_204 (fun _ σ1 => ?_)
                    exact g_return rfl dX17_goesTogether_207
                  · refine g_aload_n 0 0 dX17_goesTogether_164 rfl rfl ?_
                    refine g_iconst (v := 0) dX17_goesTogether_165 (by decide) ?_
                    refine g_callVT (fc := fun sς => Mdl_take sς x0 (0 : Int32)) (ci := 17) (as := [iv (0 : Int32)]) rfl rfl rfl q3900 qs266 q3898 mdX17_692 (ctX17_take x0 (0 : Int32)) rfl (Nat.le_of_ble_eq_true rfl) (Nat.le_of_ble_eq_true rfl) (Nat.le_of_ble_eq_true rfl) pu_I (by decide) dX17_goesTogether_166 (fun r3 σ2 => ?_)
                    refine g_istore_n 2 dX17_goesTogether_169 rfl (by decide) rfl ?_
                    refine g_iload_n 2 0 dX17_goesTogether_170 rfl rfl ?_
                    refine g_iconst (v := (-1)) dX17_goesTogether_171 (by decide) ?_
                    refine g_icmp_eq 192 dX17_goesTogether_172 (by decide) ?_ ?_
                    · refine G.sub [1] rfl ?_
                      exact gX17_goesTogether_p192 _ _
                    · refine g_iload_n 2 0 dX17_goesTogether_175 rfl rfl ?_
                      refine g_callS (fc := fun sς => Mdl_isReference sς r3) (as := [iv r3]) q3663 mdX17_270 (ctX17_isReference r3) rfl (Nat.le_of_ble_eq_true rfl) (Nat.le_of_ble_eq_true rfl) (Nat.le_of_ble_eq_true rfl) pu_I dX17_goesTogether_176 (fun r5 σ4 => ?_)
                      refine g_if_ne 192 dX17_goesTogether_179 (by decide) ?_ ?_
                      · refine G.sub [1] rfl ?_
                        exact gX17_goesTogether_p192 _ _
                      · refine g_aload_n 0 1 dX17_goesTogether_182 rfl rfl ?_
                        refine g_bipush (v := 29) dX17_goesTogether_183 (by decide) ?_
                        refine g_aload_n 0 1 dX17_goesTogether_185 rfl rfl ?_
                        refine g_getI fdX17_686 dX17_goesTogether_186 ?_
                        refine g_callVT (fc := fun sς => Mdl_stops sς x0 (29 : Int32) (gI σ4 x0 31)) (ci := 17) (as := [iv (29 : Int32), iv (gI σ4 x0 31)]) rfl rfl rfl q3606 qs214 q3604 mdX17_257 (ctX17_stops x0 (29 : Int32) (gI σ4 x0 31)) rfl (Nat.le_of_ble_eq_true rfl) (Nat.le_of_ble_eq_true rfl) (Nat.le_of_ble_eq_true rfl) pu_V (by decide) dX17_goesTogether_189 (fun _ σ6 => ?_)
                        refine G.sub [1] rfl ?_
                        exact gX17_goesTogether_p192 _ _
                · refine g_aload_n 0 0 dX17_goesTogether_139 rfl rfl ?_
                  refine g_aload_n 0 0 dX17_goesTogether_140 rfl rfl ?_
                  refine g_getR fdX17_221 dX17_goesTogether_141 ?_
                  refine g_aload_n 0 0 dX17_goesTogether_144 rfl rfl ?_
                  refine g_getI fdX17_594 dX17_goesTogether_145 ?_
                  refine g_callV (fc := fun sς => Pln_at sς (gR σ x0 10) (gI σ x0 19)) (ci := 20) (as := [iv (gI σ x0 19)]) rfl rfl rfl q3609 q3610 mdX17_261 (ctX20_at (gR σ x0 10) (gI σ x0 19)) rfl (Nat.le_of_ble_eq_true rfl) (Nat.le_of_ble_eq_true rfl) (Nat.le_of_ble_eq_true rfl) pu_I dX17_goesTogether_148 (fun r8 σ7 => ?_)
                  refine g_callVT (fc := fun sς => Mdl_put sς x0 r8) (ci := 17) (as := [iv r8]) rfl rfl rfl q3907 qs267 q3905 mdX17_695 (ctX17_put x0 r8) rfl (Nat.le_of_ble_eq_true rfl) (Nat.le_of_ble_eq_true rfl) (Nat.le_of_ble_eq_true rfl) pu_V (by decide) dX17_goesTogether_151 (fun _ σ9 => ?_)
                  refine g_goto 207 dX17_goesTogether_154 (by decide) ?_
                  exact g_return rfl dX17_goesTogether_207
              · refine g_aload_n 0 0 dX17_goesTogether_120 rfl rfl ?_
                refine g_sipush (v := 192) dX17_goesTogether_121 (by decide) ?_
                refine g_iload_n 1 1 dX17_goesTogether_124 rfl rfl ?_
                refine g_isub dX17_goesTogether_125 ?_
                refine g_callVT (fc := fun sς => Mdl_put sς x0 ((192 : Int32) - x1)) (ci := 17) (as := [iv ((192 : Int32) - x1)]) rfl rfl rfl q3907 qs267 q3905 mdX17_695 (ctX17_put x0 ((192 : Int32) - x1)) rfl (Nat.le_of_ble_eq_true rfl) (Nat.le_of_ble_eq_true rfl) (Nat.le_of_ble_eq_true rfl) pu_V (by decide) dX17_goesTogether_126 (fun _ σ10 => ?_)
                refine g_goto 207 dX17_goesTogether_129 (by decide) ?_
                exact g_return rfl dX17_goesTogether_207
            · refine g_aload_n 0 0 dX17_goesTogether_98 rfl rfl ?_
              refine g_bipush (v := 127) dX17_goesTogether_99 (by decide) ?_
              refine g_iconst (v := 1) dX17_goesTogether_101 (by decide) ?_
              refine g_callVT (fc := fun sς => Mdl_takes sς x0 (127 : Int32) (1 : Int32)) (ci := 17) (as := [iv (127 : Int32), iv (1 : Int32)]) rfl rfl rfl q3896 qs265 q3894 mdX17_750 (ctX17_takes x0 (127 : Int32) (1 : Int32)) rfl (Nat.le_of_ble_eq_true rfl) (Nat.le_of_ble_eq_true rfl) (Nat.le_of_ble_eq_true rfl) pu_V (by decide) dX17_goesTogether_102 (fun _ σ11 => ?_)
              refine g_aload_n 0 0 dX17_goesTogether_105 rfl rfl ?_
              refine g_bipush (v := 127) dX17_goesTogether_106 (by decide) ?_
              refine g_callVT (fc := fun sς => Mdl_put sς x0 (127 : Int32)) (ci := 17) (as := [iv (127 : Int32)]) rfl rfl rfl q3907 qs267 q3905 mdX17_695 (ctX17_put x0 (127 : Int32)) rfl (Nat.le_of_ble_eq_true rfl) (Nat.le_of_ble_eq_true rfl) (Nat.le_of_ble_eq_true rfl) pu_V (by decide) dX17_goesTogether_108 (fun _ σ12 => ?_)
              refine g_goto 207 dX17_goesTogether_111 (by decide) ?_
              exact g_return rfl dX17_goesTogether_207
          · refine g_aload_n 0 0 dX17_goesTogether_83 rfl rfl ?_
            refine g_bipush (v := 127) dX17_goesTogether_84 (by decide) ?_
            refine g_callVT (fc := fun sς => Mdl_put sς x0 (127 : Int32)) (ci := 17) (as := [iv (127 : Int32)]) rfl rfl rfl q3907 qs267 q3905 mdX17_695 (ctX17_put x0 (127 : Int32)) rfl (Nat.le_of_ble_eq_true rfl) (Nat.le_of_ble_eq_true rfl) (Nat.le_of_ble_eq_true rfl) pu_V (by decide) dX17_goesTogether_86 (fun _ σ13 => ?_)
            refine g_goto 207 dX17_goesTogether_89 (by decide) ?_
            exact g_return rfl dX17_goesTogether_207
        · refine g_aload_n 0 0 dX17_goesTogether_70 rfl rfl ?_
          refine g_callVT (fc := fun sς => Mdl_furthers sς x0 ) (ci := 17) (as := []) rfl rfl rfl q3991 qs287 q3989 mdX17_747 (ctX17_furthers x0 ) rfl (Nat.le_of_ble_eq_true rfl) (Nat.le_of_ble_eq_true rfl) (Nat.le_of_ble_eq_true rfl) pu_V (by decide) dX17_goesTogether_71 (fun _ σ14 => ?_)
          refine g_goto 207 dX17_goesTogether_74 (by decide) ?_
          exact g_return rfl dX17_goesTogether_207
      · refine g_aload_n 0 0 dX17_goesTogether_55 rfl rfl ?_
        refine g_iload_n 1 1 dX17_goesTogether_56 rfl rfl ?_
        refine g_callVT (fc := fun sς => Mdl_accesses sς x0 x1) (ci := 17) (as := [iv x1]) rfl rfl rfl q3984 qs286 q3982 mdX17_744 (ctX17_accesses x0 x1) rfl (Nat.le_of_ble_eq_true rfl) (Nat.le_of_ble_eq_true rfl) (Nat.le_of_ble_eq_true rfl) pu_V (by decide) dX17_goesTogether_57 (fun _ σ15 => ?_)
        refine g_goto 207 dX17_goesTogether_60 (by decide) ?_
        exact g_return rfl dX17_goesTogether_207
    · refine g_aload_n 0 0 dX17_goesTogether_41 rfl rfl ?_
      refine g_iload_n 1 1 dX17_goesTogether_42 rfl rfl ?_
      refine g_callVT (fc := fun sς => Mdl_names sς x0 x1) (ci := 17) (as := [iv x1]) rfl rfl rfl q3976 qs284 q3974 mdX17_741 (ctX17_names x0 x1) rfl (Nat.le_of_ble_eq_true rfl) (Nat.le_of_ble_eq_true rfl) (Nat.le_of_ble_eq_true rfl) pu_V (by decide) dX17_goesTogether_43 (fun _ σ16 => ?_)
      refine g_goto 207 dX17_goesTogether_46 (by decide) ?_
      exact g_return rfl dX17_goesTogether_207
  · refine g_aload_n 0 0 dX17_goesTogether_27 rfl rfl ?_
    refine g_iload_n 1 1 dX17_goesTogether_28 rfl rfl ?_
    refine g_callVT (fc := fun sς => Mdl_controls sς x0 x1) (ci := 17) (as := [iv x1]) rfl rfl rfl q3911 qs268 q3909 mdX17_738 (ctX17_controls x0 x1) rfl (Nat.le_of_ble_eq_true rfl) (Nat.le_of_ble_eq_true rfl) (Nat.le_of_ble_eq_true rfl) pu_V (by decide) dX17_goesTogether_29 (fun _ σ17 => ?_)
    refine g_goto 207 dX17_goesTogether_32 (by decide) ?_
    exact g_return rfl dX17_goesTogether_207
def V.Mdl_goesTogether (σ : HS) (x0 : Nat) (x1 : Int32) : Option ((Nat ⊕ Unit) × HS) :=
  if x1 < (69 : Int32) then (
    Mdl_goesTogether_p21 σ x0 x1)
  else (
    if (196 : Int32) < x1 then (
      Mdl_goesTogether_p21 σ x0 x1)
    else (
      ck (tg σ x0 = 18) <| clT (Mdl_operates σ x0 x1) fun _ σ1 =>
      some (.inr (), σ1)))
theorem V.ctX17_goesTogether (x0 : Nat) (x1 : Int32) : Ct yX17_goesTogether  cX17_goesTogether 3 none 5 127 eXV [av x0, iv x1] (fun σ => Mdl_goesTogether σ x0 x1) := by
  refine Ct.of (own := RX17) (nm := "goesTogether") (desc := "(I)V") rfl (by decide) (Nat.le_of_ble_eq_true rfl) (by decide) (fun X σ => ?_)
  show G X RX17 "goesTogether" cX17_goesTogether 3 none 5 127 (enX enV (cxz X)) 0 [(0, av x0), (1, iv x1)] [] σ (Mdl_goesTogether σ x0 x1)
  unfold Mdl_goesTogether
  refine g_iload_n 1 1 dX17_goesTogether_0 rfl rfl ?_
  refine g_bipush (v := 69) dX17_goesTogether_1 (by decide) ?_
  refine g_icmp_lt 21 dX17_goesTogether_3 (by decide) ?_ ?_
  · exact gX17_goesTogether_p21 _ _ _
  · refine g_iload_n 1 1 dX17_goesTogether_6 rfl rfl ?_
    refine g_sipush (v := 196) dX17_goesTogether_7 (by decide) ?_
    refine g_icmp_gt 21 dX17_goesTogether_10 (by decide) ?_ ?_
    · exact gX17_goesTogether_p21 _ _ _
    · refine g_aload_n 0 0 dX17_goesTogether_13 rfl rfl ?_
      refine g_iload_n 1 1 dX17_goesTogether_14 rfl rfl ?_
      refine g_callVT (fc := fun sς => Mdl_operates sς x0 x1) (ci := 17) (as := [iv x1]) rfl rfl rfl q3886 qs264 q3884 mdX17_735 (ctX17_operates x0 x1) rfl (Nat.le_of_ble_eq_true rfl) (Nat.le_of_ble_eq_true rfl) (Nat.le_of_ble_eq_true rfl) pu_V (by decide) dX17_goesTogether_15 (fun _ σ1 => ?_)
      refine g_goto 207 dX17_goesTogether_18 (by decide) ?_
      exact g_return rfl dX17_goesTogether_207
theorem V.dX17_checksBody_0 : decode cX17_checksBody 0 = .ok (.aload_n 0, 1) := by decide +kernel
theorem V.dX17_checksBody_1 : decode cX17_checksBody 1 = .ok (.iload_n 1, 1) := by decide +kernel
theorem V.dX17_checksBody_2 : decode cX17_checksBody 2 = .ok (.putfield 710, 3) := by decide +kernel
theorem V.dX17_checksBody_5 : decode cX17_checksBody 5 = .ok (.aload_n 0, 1) := by decide +kernel
theorem V.dX17_checksBody_6 : decode cX17_checksBody 6 = .ok (.aload_n 0, 1) := by decide +kernel
theorem V.dX17_checksBody_7 : decode cX17_checksBody 7 = .ok (.getfield 221, 3) := by decide +kernel
theorem V.dX17_checksBody_10 : decode cX17_checksBody 10 = .ok (.aload_n 0, 1) := by decide +kernel
theorem V.dX17_checksBody_11 : decode cX17_checksBody 11 = .ok (.getfield 221, 3) := by decide +kernel
theorem V.dX17_checksBody_14 : decode cX17_checksBody 14 = .ok (.iconst 0, 1) := by decide +kernel
theorem V.dX17_checksBody_15 : decode cX17_checksBody 15 = .ok (.invokevirtual 664, 3) := by decide +kernel
theorem V.dX17_checksBody_18 : decode cX17_checksBody 18 = .ok (.iload_n 1, 1) := by decide +kernel
theorem V.dX17_checksBody_19 : decode cX17_checksBody 19 = .ok (.iadd, 1) := by decide +kernel
theorem V.dX17_checksBody_20 : decode cX17_checksBody 20 = .ok (.invokevirtual 621, 3) := by decide +kernel
theorem V.dX17_checksBody_23 : decode cX17_checksBody 23 = .ok (.putfield 713, 3) := by decide +kernel
theorem V.dX17_checksBody_26 : decode cX17_checksBody 26 = .ok (.aload_n 0, 1) := by decide +kernel
theorem V.dX17_checksBody_27 : decode cX17_checksBody 27 = .ok (.iconst 0, 1) := by decide +kernel
theorem V.dX17_checksBody_28 : decode cX17_checksBody 28 = .ok (.putfield 685, 3) := by decide +kernel
theorem V.dX17_checksBody_31 : decode cX17_checksBody 31 = .ok (.aload_n 0, 1) := by decide +kernel
theorem V.dX17_checksBody_32 : decode cX17_checksBody 32 = .ok (.iconst 0, 1) := by decide +kernel
theorem V.dX17_checksBody_33 : decode cX17_checksBody 33 = .ok (.putfield 682, 3) := by decide +kernel
theorem V.dX17_checksBody_36 : decode cX17_checksBody 36 = .ok (.aload_n 0, 1) := by decide +kernel
theorem V.dX17_checksBody_37 : decode cX17_checksBody 37 = .ok (.iconst 0, 1) := by decide +kernel
theorem V.dX17_checksBody_38 : decode cX17_checksBody 38 = .ok (.aload_n 0, 1) := by decide +kernel
theorem V.dX17_checksBody_39 : decode cX17_checksBody 39 = .ok (.getfield 713, 3) := by decide +kernel
theorem V.dX17_checksBody_42 : decode cX17_checksBody 42 = .ok (.i2l, 1) := by decide +kernel
theorem V.dX17_checksBody_43 : decode cX17_checksBody 43 = .ok (.invokevirtual 716, 3) := by decide +kernel
theorem V.dX17_checksBody_46 : decode cX17_checksBody 46 = .ok (.iconst 0, 1) := by decide +kernel
theorem V.dX17_checksBody_47 : decode cX17_checksBody 47 = .ok (.istore_n 2, 1) := by decide +kernel
theorem V.dX17_checksBody_48 : decode cX17_checksBody 48 = .ok (.aload_n 0, 1) := by decide +kernel
theorem V.dX17_checksBody_49 : decode cX17_checksBody 49 = .ok (.getfield 221, 3) := by decide +kernel
theorem V.dX17_checksBody_52 : decode cX17_checksBody 52 = .ok (.getfield 523, 3) := by decide +kernel
theorem V.dX17_checksBody_55 : decode cX17_checksBody 55 = .ok (.iload_n 1, 1) := by decide +kernel
theorem V.dX17_checksBody_56 : decode cX17_checksBody 56 = .ok (.iaload, 1) := by decide +kernel
theorem V.dX17_checksBody_57 : decode cX17_checksBody 57 = .ok (.istore_n 3, 1) := by decide +kernel
theorem V.dX17_checksBody_58 : decode cX17_checksBody 58 = .ok (.aload_n 0, 1) := by decide +kernel
theorem V.dX17_checksBody_59 : decode cX17_checksBody 59 = .ok (.getfield 682, 3) := by decide +kernel
theorem V.dX17_checksBody_62 : decode cX17_checksBody 62 = .ok (.ifCond .le 81, 3) := by decide +kernel
theorem V.dX17_checksBody_65 : decode cX17_checksBody 65 = .ok (.aload_n 0, 1) := by decide +kernel
theorem V.dX17_checksBody_66 : decode cX17_checksBody 66 = .ok (.iload_n 3, 1) := by decide +kernel
theorem V.dX17_checksBody_67 : decode cX17_checksBody 67 = .ok (.putfield 686, 3) := by decide +kernel
theorem V.dX17_checksBody_70 : decode cX17_checksBody 70 = .ok (.aload_n 0, 1) := by decide +kernel
theorem V.dX17_checksBody_71 : decode cX17_checksBody 71 = .ok (.getfield 221, 3) := by decide +kernel
theorem V.dX17_checksBody_74 : decode cX17_checksBody 74 = .ok (.iload_n 3, 1) := by decide +kernel
theorem V.dX17_checksBody_75 : decode cX17_checksBody 75 = .ok (.invokevirtual 261, 3) := by decide +kernel
theorem V.dX17_checksBody_78 : decode cX17_checksBody 78 = .ok (.istore 4, 2) := by decide +kernel
theorem V.dX17_checksBody_80 : decode cX17_checksBody 80 = .ok (.aload_n 0, 1) := by decide +kernel
theorem V.dX17_checksBody_81 : decode cX17_checksBody 81 = .ok (.iload_n 3, 1) := by decide +kernel
theorem V.dX17_checksBody_82 : decode cX17_checksBody 82 = .ok (.iload 4, 2) := by decide +kernel
theorem V.dX17_checksBody_84 : decode cX17_checksBody 84 = .ok (.invokevirtual 720, 3) := by decide +kernel
theorem V.dX17_checksBody_87 : decode cX17_checksBody 87 = .ok (.ifCond .ne 10, 3) := by decide +kernel
theorem V.dX17_checksBody_90 : decode cX17_checksBody 90 = .ok (.aload_n 0, 1) := by decide +kernel
theorem V.dX17_checksBody_91 : decode cX17_checksBody 91 = .ok (.bipush 30, 2) := by decide +kernel
theorem V.dX17_checksBody_93 : decode cX17_checksBody 93 = .ok (.iload_n 3, 1) := by decide +kernel
theorem V.dX17_checksBody_94 : decode cX17_checksBody 94 = .ok (.invokevirtual 257, 3) := by decide +kernel
theorem V.dX17_checksBody_97 : decode cX17_checksBody 97 = .ok (.aload_n 0, 1) := by decide +kernel
theorem V.dX17_checksBody_98 : decode cX17_checksBody 98 = .ok (.iload_n 3, 1) := by decide +kernel
theorem V.dX17_checksBody_99 : decode cX17_checksBody 99 = .ok (.iconst 1, 1) := by decide +kernel
theorem V.dX17_checksBody_100 : decode cX17_checksBody 100 = .ok (.iadd, 1) := by decide +kernel
theorem V.dX17_checksBody_101 : decode cX17_checksBody 101 = .ok (.putfield 594, 3) := by decide +kernel
theorem V.dX17_checksBody_104 : decode cX17_checksBody 104 = .ok (.aload_n 0, 1) := by decide +kernel
theorem V.dX17_checksBody_105 : decode cX17_checksBody 105 = .ok (.iload 4, 2) := by decide +kernel
theorem V.dX17_checksBody_107 : decode cX17_checksBody 107 = .ok (.invokevirtual 723, 3) := by decide +kernel
theorem V.dX17_checksBody_110 : decode cX17_checksBody 110 = .ok (.aload_n 0, 1) := by decide +kernel
theorem V.dX17_checksBody_111 : decode cX17_checksBody 111 = .ok (.iload_n 3, 1) := by decide +kernel
theorem V.dX17_checksBody_112 : decode cX17_checksBody 112 = .ok (.invokevirtual 655, 3) := by decide +kernel
theorem V.dX17_checksBody_115 : decode cX17_checksBody 115 = .ok (.istore_n 3, 1) := by decide +kernel
theorem V.dX17_checksBody_116 : decode cX17_checksBody 116 = .ok (.aload_n 0, 1) := by decide +kernel
theorem V.dX17_checksBody_117 : decode cX17_checksBody 117 = .ok (.getfield 682, 3) := by decide +kernel
theorem V.dX17_checksBody_120 : decode cX17_checksBody 120 = .ok (.ifCond .le 18, 3) := by decide +kernel
theorem V.dX17_checksBody_123 : decode cX17_checksBody 123 = .ok (.aload_n 0, 1) := by decide +kernel
theorem V.dX17_checksBody_124 : decode cX17_checksBody 124 = .ok (.getfield 685, 3) := by decide +kernel
theorem V.dX17_checksBody_127 : decode cX17_checksBody 127 = .ok (.iload_n 2, 1) := by decide +kernel
theorem V.dX17_checksBody_128 : decode cX17_checksBody 128 = .ok (.if_icmp .le 10, 3) := by decide +kernel
theorem V.dX17_checksBody_131 : decode cX17_checksBody 131 = .ok (.aload_n 0, 1) := by decide +kernel
theorem V.dX17_checksBody_132 : decode cX17_checksBody 132 = .ok (.getfield 685, 3) := by decide +kernel
theorem V.dX17_checksBody_135 : decode cX17_checksBody 135 = .ok (.goto 4, 3) := by decide +kernel
theorem V.dX17_checksBody_138 : decode cX17_checksBody 138 = .ok (.iload_n 2, 1) := by decide +kernel
theorem V.dX17_checksBody_139 : decode cX17_checksBody 139 = .ok (.istore_n 2, 1) := by decide +kernel
theorem V.dX17_checksBody_140 : decode cX17_checksBody 140 = .ok (.goto (-82), 3) := by decide +kernel
theorem V.dX17_checksBody_143 : decode cX17_checksBody 143 = .ok (.aload_n 0, 1) := by decide +kernel
theorem V.dX17_checksBody_144 : decode cX17_checksBody 144 = .ok (.getfield 221, 3) := by decide +kernel
theorem V.dX17_checksBody_147 : decode cX17_checksBody 147 = .ok (.getfield 726, 3) := by decide +kernel
theorem V.dX17_checksBody_150 : decode cX17_checksBody 150 = .ok (.iload_n 1, 1) := by decide +kernel
theorem V.dX17_checksBody_151 : decode cX17_checksBody 151 = .ok (.iload_n 2, 1) := by decide +kernel
theorem V.dX17_checksBody_152 : decode cX17_checksBody 152 = .ok (.iastore, 1) := by decide +kernel
theorem V.dX17_checksBody_153 : decode cX17_checksBody 153 = .ok (.return_, 1) := by decide +kernel
theorem V.fpX17_710 {nm : String} : FP RX17 nm 710 17 29 (.int) := ⟨(RX17, TX17, 101), tyX17, rfl, rfl, in_X17, by decide, tyX17_ok, nmX17, rfl, Or.inl ⟨rfl, Or.inl q3065⟩⟩
theorem V.fpX17_713 {nm : String} : FP RX17 nm 713 17 30 (.int) := ⟨(RX17, TX17, 101), tyX17, rfl, rfl, in_X17, by decide, tyX17_ok, nmX17, rfl, Or.inl ⟨rfl, Or.inl q3066⟩⟩
theorem V.fdX17_726 : FD RX17 726 20 55 2 := ⟨(RX20, TX20, 58), tyX20, rfl, rfl, in_X20, by decide, Or.inr ⟨_, q3470⟩, rfl⟩
theorem V.fpX17_686 {nm : String} : FP RX17 nm 686 17 31 (.int) := ⟨(RX17, TX17, 101), tyX17, rfl, rfl, in_X17, by decide, tyX17_ok, nmX17, rfl, Or.inl ⟨rfl, Or.inl q3067⟩⟩
theorem V.mdX17_720 : MD RX17 720 yX17_isNamed cX17_isNamed 9 (some .boolean) 2 := ⟨Or.inl q3869, q377, q3872, by decide, by decide, by decide +kernel⟩
theorem V.mdX17_723 : MD RX17 723 yX17_goesTogether cX17_goesTogether 3 none 1 := ⟨Or.inl q3880, q377, q3883, by decide, by decide, by decide +kernel⟩
/-! ModuleEngineModel.checksBody(I)V -/
def V.Mdl_checksBody_p139 (rec58 : HS → Nat → Int32 → Int32 → Int32 → Option ((Nat ⊕ Unit) × HS)) (σ : HS) (x0 : Nat) (x1 : Int32) (x3 : Int32) (s0 : Int32) : Option ((Nat ⊕ Unit) × HS) :=
  rec58 σ x0 x1 s0 x3
theorem V.gX17_checksBody_p139 {X : CX} (rec58 : HS → Nat → Int32 → Int32 → Int32 → Option ((Nat ⊕ Unit) × HS)) (hrec58 : ∀ (σ : HS) (x0 : Nat) (x1 : Int32) (x2 : Int32) (x3 : Int32), G X RX17 "checksBody" cX17_checksBody 5 none 6 149 (enX enV (cxz X)) 58 [(0, av x0), (1, iv x1), (2, iv x2), (3, iv x3)] [] σ (rec58 σ x0 x1 x2 x3)) (σ : HS) (x0 : Nat) (x1 : Int32) (x3 : Int32) (s0 : Int32) : G X RX17 "checksBody" cX17_checksBody 5 none 6 149 (enX enV (cxz X)) 139 [(0, av x0), (1, iv x1), (3, iv x3)] [iv s0] σ (Mdl_checksBody_p139 rec58 σ x0 x1 x3 s0) := by
  unfold Mdl_checksBody_p139
  refine g_istore_n 2 dX17_checksBody_139 rfl (by decide) rfl ?_
  refine g_goto 58 dX17_checksBody_140 (by decide) ?_
  refine G.sub [1, 2, 0, 3] rfl ?_
  exact hrec58 _ _ _ _ _
def V.Mdl_checksBody_p138 (rec58 : HS → Nat → Int32 → Int32 → Int32 → Option ((Nat ⊕ Unit) × HS)) (σ : HS) (x0 : Nat) (x1 : Int32) (x2 : Int32) (x3 : Int32) : Option ((Nat ⊕ Unit) × HS) :=
  Mdl_checksBody_p139 rec58 σ x0 x1 x3 x2
theorem V.gX17_checksBody_p138 {X : CX} (rec58 : HS → Nat → Int32 → Int32 → Int32 → Option ((Nat ⊕ Unit) × HS)) (hrec58 : ∀ (σ : HS) (x0 : Nat) (x1 : Int32) (x2 : Int32) (x3 : Int32), G X RX17 "checksBody" cX17_checksBody 5 none 6 149 (enX enV (cxz X)) 58 [(0, av x0), (1, iv x1), (2, iv x2), (3, iv x3)] [] σ (rec58 σ x0 x1 x2 x3)) (σ : HS) (x0 : Nat) (x1 : Int32) (x2 : Int32) (x3 : Int32) : G X RX17 "checksBody" cX17_checksBody 5 none 6 149 (enX enV (cxz X)) 138 [(0, av x0), (1, iv x1), (2, iv x2), (3, iv x3)] [] σ (Mdl_checksBody_p138 rec58 σ x0 x1 x2 x3) := by
  unfold Mdl_checksBody_p138
  refine g_iload_n 2 2 dX17_checksBody_138 rfl rfl ?_
  refine G.sub [0, 1, 3] rfl ?_
  exact gX17_checksBody_p139 rec58 hrec58 _ _ _ _ _
def V.Mdl_checksBody_p97 (rec58 : HS → Nat → Int32 → Int32 → Int32 → Option ((Nat ⊕ Unit) × HS)) (σ : HS) (x0 : Nat) (x1 : Int32) (x2 : Int32) (x3 : Int32) (x4 : Int32) : Option ((Nat ⊕ Unit) × HS) :=
  ck (tg σ x0 = 18) <| bn (sI σ x0 19 (x3 + (1 : Int32))) fun σ1 =>
  ck (tg σ1 x0 = 18) <| clT (Mdl_goesTogether σ1 x0 x4) fun _ σ2 =>
  ck (tg σ2 x0 = 18) <| cl (Mdl_behind σ2 x0 x3) fun r4 σ3 =>
  ck (tg σ3 x0 = 18) <|
  if (gI σ3 x0 24) ≤ 0 then (
    Mdl_checksBody_p138 rec58 σ3 x0 x1 x2 r4)
  else (
    ck (tg σ3 x0 = 18) <|
    if (gI σ3 x0 23) ≤ x2 then (
      Mdl_checksBody_p138 rec58 σ3 x0 x1 x2 r4)
    else (
      ck (tg σ3 x0 = 18) <|
      Mdl_checksBody_p139 rec58 σ3 x0 x1 r4 (gI σ3 x0 23)))
theorem V.gX17_checksBody_p97 {X : CX} (rec58 : HS → Nat → Int32 → Int32 → Int32 → Option ((Nat ⊕ Unit) × HS)) (hrec58 : ∀ (σ : HS) (x0 : Nat) (x1 : Int32) (x2 : Int32) (x3 : Int32), G X RX17 "checksBody" cX17_checksBody 5 none 6 149 (enX enV (cxz X)) 58 [(0, av x0), (1, iv x1), (2, iv x2), (3, iv x3)] [] σ (rec58 σ x0 x1 x2 x3)) (σ : HS) (x0 : Nat) (x1 : Int32) (x2 : Int32) (x3 : Int32) (x4 : Int32) : G X RX17 "checksBody" cX17_checksBody 5 none 6 149 (enX enV (cxz X)) 97 [(0, av x0), (1, iv x1), (2, iv x2), (3, iv x3), (4, iv x4)] [] σ (Mdl_checksBody_p97 rec58 σ x0 x1 x2 x3 x4) := by
  unfold Mdl_checksBody_p97
  refine g_aload_n 0 0 dX17_checksBody_97 rfl rfl ?_
  refine g_iload_n 3 3 dX17_checksBody_98 rfl rfl ?_
  refine g_iconst (v := 1) dX17_checksBody_99 (by decide) ?_
  refine g_iadd dX17_checksBody_100 ?_
  refine g_putI fpX17_594 dX17_checksBody_101 (fun σ1 => ?_)
  refine g_aload_n 0 0 dX17_checksBody_104 rfl rfl ?_
  refine g_iload 4 dX17_checksBody_105 rfl ?_
  refine g_callVT (fc := fun sς => Mdl_goesTogether sς x0 x4) (ci := 17) (as := [iv x4]) rfl rfl rfl q3882 qs263 q3880 mdX17_723 (ctX17_goesTogether x0 x4) rfl (Nat.le_of_ble_eq_true rfl) (Nat.le_of_ble_eq_true rfl) (Nat.le_of_ble_eq_true rfl) pu_V (by decide) dX17_checksBody_107 (fun _ σ2 => ?_)
  refine g_aload_n 0 0 dX17_checksBody_110 rfl rfl ?_
  refine g_iload_n 3 3 dX17_checksBody_111 rfl rfl ?_
  refine g_callV (fc := fun sς => Mdl_behind sς x0 x3) (ci := 17) (as := [iv x3]) rfl rfl rfl q3822 qs252 mdX17_655 (ctX17_behind x0 x3) rfl (Nat.le_of_ble_eq_true rfl) (Nat.le_of_ble_eq_true rfl) (Nat.le_of_ble_eq_true rfl) pu_I dX17_checksBody_112 (fun r4 σ3 => ?_)
  refine g_istore_n 3 dX17_checksBody_115 rfl (by decide) rfl ?_
  refine g_aload_n 0 1 dX17_checksBody_116 rfl rfl ?_
  refine g_getI fdX17_682 dX17_checksBody_117 ?_
  refine g_if_le 138 dX17_checksBody_120 (by decide) ?_ ?_
  · refine G.sub [1, 2, 3, 0] rfl ?_
    exact gX17_checksBody_p138 rec58 hrec58 _ _ _ _ _
  · refine g_aload_n 0 1 dX17_checksBody_123 rfl rfl ?_
    refine g_getI fdX17_685 dX17_checksBody_124 ?_
    refine g_iload_n 2 3 dX17_checksBody_127 rfl rfl ?_
    refine g_icmp_le 138 dX17_checksBody_128 (by decide) ?_ ?_
    · refine G.sub [1, 2, 3, 0] rfl ?_
      exact gX17_checksBody_p138 rec58 hrec58 _ _ _ _ _
    · refine g_aload_n 0 1 dX17_checksBody_131 rfl rfl ?_
      refine g_getI fdX17_685 dX17_checksBody_132 ?_
      refine g_goto 139 dX17_checksBody_135 (by decide) ?_
      refine G.sub [1, 2, 0] rfl ?_
      exact gX17_checksBody_p139 rec58 hrec58 _ _ _ _ _
def V.Mdl_checksBody_p58  : Nat → HS → Nat → Int32 → Int32 → Int32 → Option ((Nat ⊕ Unit) × HS)
  | 0, _, _, _, _, _ => none
  | n + 1, σ, x0, x1, x2, x3 =>
    ck (tg σ x0 = 18) <|
    if (gI σ x0 24) ≤ 0 then (
      ck (tg σ x0 = 18) <|
      ck (tg σ (gR σ x0 10) = 21) <|
      ck (tg σ (gR σ (gR σ x0 10) 55) = 100 ∧ inb x1 (ln σ (gR σ (gR σ x0 10) 55))) <| bn (sI σ (gR σ (gR σ x0 10) 55) (ix x1) x2) fun σ1 =>
      some (.inr (), σ1))
    else (
      ck (tg σ x0 = 18) <| bn (sI σ x0 31 x3) fun σ2 =>
      ck (tg σ2 x0 = 18) <|
      ck (tg σ2 (gR σ2 x0 10) = 21) <| cl (Pln_at σ2 (gR σ2 x0 10) x3) fun r4 σ3 =>
      ck (tg σ3 x0 = 18) <| cl (Mdl_isNamed σ3 x0 x3 r4) fun r6 σ5 =>
      if r6 = 0 then (
        ck (tg σ5 x0 = 18) <| clT (Mdl_stops σ5 x0 (30 : Int32) x3) fun _ σ7 =>
        Mdl_checksBody_p97 (Mdl_checksBody_p58 n) σ7 x0 x1 x2 x3 r4)
      else (
        Mdl_checksBody_p97 (Mdl_checksBody_p58 n) σ5 x0 x1 x2 x3 r4))
theorem V.gX17_checksBody_p58 {X : CX}  : ∀ (n : Nat) (σ : HS) (x0 : Nat) (x1 : Int32) (x2 : Int32) (x3 : Int32), G X RX17 "checksBody" cX17_checksBody 5 none 6 149 (enX enV (cxz X)) 58 [(0, av x0), (1, iv x1), (2, iv x2), (3, iv x3)] [] σ (Mdl_checksBody_p58 n σ x0 x1 x2 x3)
  | 0, σ, x0, x1, x2, x3 => by rw [Mdl_checksBody_p58]; exact G.nul
  | n + 1, σ, x0, x1, x2, x3 => by
    rw [Mdl_checksBody_p58]
    refine g_aload_n 0 0 dX17_checksBody_58 rfl rfl ?_
    refine g_getI fdX17_682 dX17_checksBody_59 ?_
    refine g_if_le 143 dX17_checksBody_62 (by decide) ?_ ?_
    · refine g_aload_n 0 0 dX17_checksBody_143 rfl rfl ?_
      refine g_getR fdX17_221 dX17_checksBody_144 ?_
      refine g_getR fdX17_726 dX17_checksBody_147 ?_
      refine g_iload_n 1 1 dX17_checksBody_150 rfl rfl ?_
      refine g_iload_n 2 2 dX17_checksBody_151 rfl rfl ?_
      refine g_iastore dX17_checksBody_152 (fun σ1 => ?_)
      exact g_return rfl dX17_checksBody_153
    · refine g_aload_n 0 0 dX17_checksBody_65 rfl rfl ?_
      refine g_iload_n 3 3 dX17_checksBody_66 rfl rfl ?_
      refine g_putI fpX17_686 dX17_checksBody_67 (fun σ2 => ?_)
      refine g_aload_n 0 0 dX17_checksBody_70 rfl rfl ?_
      refine g_getR fdX17_221 dX17_checksBody_71 ?_
      refine g_iload_n 3 3 dX17_checksBody_74 rfl rfl ?_
      refine g_callV (fc := fun sς => Pln_at sς (gR σ2 x0 10) x3) (ci := 20) (as := [iv x3]) rfl rfl rfl q3609 q3610 mdX17_261 (ctX20_at (gR σ2 x0 10) x3) rfl (Nat.le_of_ble_eq_true rfl) (Nat.le_of_ble_eq_true rfl) (Nat.le_of_ble_eq_true rfl) pu_I dX17_checksBody_75 (fun r4 σ3 => ?_)
      refine g_istore dX17_checksBody_78 (by decide) rfl ?_
      refine g_aload_n 0 1 dX17_checksBody_80 rfl rfl ?_
      refine g_iload_n 3 4 dX17_checksBody_81 rfl rfl ?_
      refine g_iload 0 dX17_checksBody_82 rfl ?_
      refine g_callV (fc := fun sς => Mdl_isNamed sς x0 x3 r4) (ci := 17) (as := [iv x3, iv r4]) rfl rfl rfl q3871 qs261 mdX17_720 (ctX17_isNamed x0 x3 r4) rfl (Nat.le_of_ble_eq_true rfl) (Nat.le_of_ble_eq_true rfl) (Nat.le_of_ble_eq_true rfl) pu_I dX17_checksBody_84 (fun r6 σ5 => ?_)
      refine g_if_ne 97 dX17_checksBody_87 (by decide) ?_ ?_
      · refine G.sub [1, 2, 3, 4, 0] rfl ?_
        exact gX17_checksBody_p97 (Mdl_checksBody_p58 n) (gX17_checksBody_p58 n) _ _ _ _ _ _
      · refine g_aload_n 0 1 dX17_checksBody_90 rfl rfl ?_
        refine g_bipush (v := 30) dX17_checksBody_91 (by decide) ?_
        refine g_iload_n 3 4 dX17_checksBody_93 rfl rfl ?_
        refine g_callVT (fc := fun sς => Mdl_stops sς x0 (30 : Int32) x3) (ci := 17) (as := [iv (30 : Int32), iv x3]) rfl rfl rfl q3606 qs214 q3604 mdX17_257 (ctX17_stops x0 (30 : Int32) x3) rfl (Nat.le_of_ble_eq_true rfl) (Nat.le_of_ble_eq_true rfl) (Nat.le_of_ble_eq_true rfl) pu_V (by decide) dX17_checksBody_94 (fun _ σ7 => ?_)
        refine G.sub [1, 2, 3, 4, 0] rfl ?_
        exact gX17_checksBody_p97 (Mdl_checksBody_p58 n) (gX17_checksBody_p58 n) _ _ _ _ _ _
def V.Mdl_checksBody (σ : HS) (x0 : Nat) (x1 : Int32) : Option ((Nat ⊕ Unit) × HS) :=
  ck (tg σ x0 = 18) <| bn (sI σ x0 29 x1) fun σ1 =>
  ck (tg σ1 x0 = 18) <|
  ck (tg σ1 x0 = 18) <|
  ck (tg σ1 (gR σ1 x0 10) = 21) <| cl (Pln_imported σ1 (gR σ1 x0 10) (0 : Int32)) fun r3 σ2 =>
  ck (tg σ2 (gR σ1 x0 10) = 21) <| cl (Pln_typeOfFunction σ2 (gR σ1 x0 10) (r3 + x1)) fun r5 σ4 =>
  ck (tg σ4 x0 = 18) <| bn (sI σ4 x0 30 r5) fun σ6 =>
  ck (tg σ6 x0 = 18) <| bn (sI σ6 x0 23 (0 : Int32)) fun σ7 =>
  ck (tg σ7 x0 = 18) <| bn (sI σ7 x0 24 (0 : Int32)) fun σ8 =>
  ck (tg σ8 x0 = 18) <|
  ck (tg σ8 x0 = 18) <| clT (Mdl_begins σ8 x0 (0 : Int32) ((gI σ8 x0 30).toInt64)) fun _ σ9 =>
  ck (tg σ9 x0 = 18) <|
  ck (tg σ9 (gR σ9 x0 10) = 21) <|
  ck (tg σ9 (gR σ9 (gR σ9 x0 10) 53) = 100 ∧ inb x1 (ln σ9 (gR σ9 (gR σ9 x0 10) 53))) <|
  bn (gI σ9 (gR σ9 (gR σ9 x0 10) 53) (ix x1)) fun y10 =>
  Mdl_checksBody_p58 FU σ9 x0 x1 (0 : Int32) y10
theorem V.ctX17_checksBody (x0 : Nat) (x1 : Int32) : Ct yX17_checksBody  cX17_checksBody 5 none 6 149 eXV [av x0, iv x1] (fun σ => Mdl_checksBody σ x0 x1) := by
  refine Ct.of (own := RX17) (nm := "checksBody") (desc := "(I)V") rfl (by decide) (Nat.le_of_ble_eq_true rfl) (by decide) (fun X σ => ?_)
  show G X RX17 "checksBody" cX17_checksBody 5 none 6 149 (enX enV (cxz X)) 0 [(0, av x0), (1, iv x1)] [] σ (Mdl_checksBody σ x0 x1)
  unfold Mdl_checksBody
  refine g_aload_n 0 0 dX17_checksBody_0 rfl rfl ?_
  refine g_iload_n 1 1 dX17_checksBody_1 rfl rfl ?_
  refine g_putI fpX17_710 dX17_checksBody_2 (fun σ1 => ?_)
  refine g_aload_n 0 0 dX17_checksBody_5 rfl rfl ?_
  refine g_aload_n 0 0 dX17_checksBody_6 rfl rfl ?_
  refine g_getR fdX17_221 dX17_checksBody_7 ?_
  refine g_aload_n 0 0 dX17_checksBody_10 rfl rfl ?_
  refine g_getR fdX17_221 dX17_checksBody_11 ?_
  refine g_iconst (v := 0) dX17_checksBody_14 (by decide) ?_
  refine g_callV (fc := fun sς => Pln_imported sς (gR σ1 x0 10) (0 : Int32)) (ci := 20) (as := [iv (0 : Int32)]) rfl rfl rfl q3784 q3785 mdX17_664 (ctX20_imported (gR σ1 x0 10) (0 : Int32)) rfl (Nat.le_of_ble_eq_true rfl) (Nat.le_of_ble_eq_true rfl) (Nat.le_of_ble_eq_true rfl) pu_I dX17_checksBody_15 (fun r3 σ2 => ?_)
  refine g_iload_n 1 1 dX17_checksBody_18 rfl rfl ?_
  refine g_iadd dX17_checksBody_19 ?_
  refine g_callV (fc := fun sς => Pln_typeOfFunction sς (gR σ1 x0 10) (r3 + x1)) (ci := 20) (as := [iv (r3 + x1)]) rfl rfl rfl q3796 q3797 mdX17_621 (ctX20_typeOfFunction (gR σ1 x0 10) (r3 + x1)) rfl (Nat.le_of_ble_eq_true rfl) (Nat.le_of_ble_eq_true rfl) (Nat.le_of_ble_eq_true rfl) pu_I dX17_checksBody_20 (fun r5 σ4 => ?_)
  refine g_putI fpX17_713 dX17_checksBody_23 (fun σ6 => ?_)
  refine g_aload_n 0 0 dX17_checksBody_26 rfl rfl ?_
  refine g_iconst (v := 0) dX17_checksBody_27 (by decide) ?_
  refine g_putI fpX17_685 dX17_checksBody_28 (fun σ7 => ?_)
  refine g_aload_n 0 0 dX17_checksBody_31 rfl rfl ?_
  refine g_iconst (v := 0) dX17_checksBody_32 (by decide) ?_
  refine g_putI fpX17_682 dX17_checksBody_33 (fun σ8 => ?_)
  refine g_aload_n 0 0 dX17_checksBody_36 rfl rfl ?_
  refine g_iconst (v := 0) dX17_checksBody_37 (by decide) ?_
  refine g_aload_n 0 0 dX17_checksBody_38 rfl rfl ?_
  refine g_getI fdX17_713 dX17_checksBody_39 ?_
  refine g_i2l dX17_checksBody_42 ?_
  refine g_callVT (fc := fun sς => Mdl_begins sς x0 (0 : Int32) ((gI σ8 x0 30).toInt64)) (ci := 17) (as := [iv (0 : Int32), jv ((gI σ8 x0 30).toInt64)]) rfl rfl rfl q3867 qs260 q3865 mdX17_716 (ctX17_begins x0 (0 : Int32) ((gI σ8 x0 30).toInt64)) rfl (Nat.le_of_ble_eq_true rfl) (Nat.le_of_ble_eq_true rfl) (Nat.le_of_ble_eq_true rfl) pu_V (by decide) dX17_checksBody_43 (fun _ σ9 => ?_)
  refine g_iconst (v := 0) dX17_checksBody_46 (by decide) ?_
  refine g_istore_n 2 dX17_checksBody_47 rfl (by decide) rfl ?_
  refine g_aload_n 0 1 dX17_checksBody_48 rfl rfl ?_
  refine g_getR fdX17_221 dX17_checksBody_49 ?_
  refine g_getR fdX17_523 dX17_checksBody_52 ?_
  refine g_iload_n 1 2 dX17_checksBody_55 rfl rfl ?_
  refine g_iaload dX17_checksBody_56 ?_
  refine g_nmI (fun y10 => ?_)
  refine g_istore_n 3 dX17_checksBody_57 rfl (by decide) rfl ?_
  refine G.sub [2, 3, 1, 0] rfl ?_
  exact gX17_checksBody_p58 FU _ _ _ _ _
theorem V.dX17_checksAll_0 : decode cX17_checksAll 0 = .ok (.aload_n 0, 1) := by decide +kernel
theorem V.dX17_checksAll_1 : decode cX17_checksAll 1 = .ok (.getfield 221, 3) := by decide +kernel
theorem V.dX17_checksAll_4 : decode cX17_checksAll 4 = .ok (.getfield 360, 3) := by decide +kernel
theorem V.dX17_checksAll_7 : decode cX17_checksAll 7 = .ok (.ifCond .lt 16, 3) := by decide +kernel
theorem V.dX17_checksAll_10 : decode cX17_checksAll 10 = .ok (.aload_n 0, 1) := by decide +kernel
theorem V.dX17_checksAll_11 : decode cX17_checksAll 11 = .ok (.bipush 40, 2) := by decide +kernel
theorem V.dX17_checksAll_13 : decode cX17_checksAll 13 = .ok (.aload_n 0, 1) := by decide +kernel
theorem V.dX17_checksAll_14 : decode cX17_checksAll 14 = .ok (.getfield 221, 3) := by decide +kernel
theorem V.dX17_checksAll_17 : decode cX17_checksAll 17 = .ok (.getfield 360, 3) := by decide +kernel
theorem V.dX17_checksAll_20 : decode cX17_checksAll 20 = .ok (.invokevirtual 257, 3) := by decide +kernel
theorem V.dX17_checksAll_23 : decode cX17_checksAll 23 = .ok (.aload_n 0, 1) := by decide +kernel
theorem V.dX17_checksAll_24 : decode cX17_checksAll 24 = .ok (.invokevirtual 609, 3) := by decide +kernel
theorem V.dX17_checksAll_27 : decode cX17_checksAll 27 = .ok (.aload_n 0, 1) := by decide +kernel
theorem V.dX17_checksAll_28 : decode cX17_checksAll 28 = .ok (.invokevirtual 612, 3) := by decide +kernel
theorem V.dX17_checksAll_31 : decode cX17_checksAll 31 = .ok (.aload_n 0, 1) := by decide +kernel
theorem V.dX17_checksAll_32 : decode cX17_checksAll 32 = .ok (.getfield 221, 3) := by decide +kernel
theorem V.dX17_checksAll_35 : decode cX17_checksAll 35 = .ok (.iconst 2, 1) := by decide +kernel
theorem V.dX17_checksAll_36 : decode cX17_checksAll 36 = .ok (.invokevirtual 615, 3) := by decide +kernel
theorem V.dX17_checksAll_39 : decode cX17_checksAll 39 = .ok (.iconst 1, 1) := by decide +kernel
theorem V.dX17_checksAll_40 : decode cX17_checksAll 40 = .ok (.if_icmp .le 42, 3) := by decide +kernel
theorem V.dX17_checksAll_43 : decode cX17_checksAll 43 = .ok (.aload_n 0, 1) := by decide +kernel
theorem V.dX17_checksAll_44 : decode cX17_checksAll 44 = .ok (.bipush 22, 2) := by decide +kernel
theorem V.dX17_checksAll_46 : decode cX17_checksAll 46 = .ok (.aload_n 0, 1) := by decide +kernel
theorem V.dX17_checksAll_47 : decode cX17_checksAll 47 = .ok (.getfield 221, 3) := by decide +kernel
theorem V.dX17_checksAll_50 : decode cX17_checksAll 50 = .ok (.getfield 302, 3) := by decide +kernel
theorem V.dX17_checksAll_53 : decode cX17_checksAll 53 = .ok (.iconst 5, 1) := by decide +kernel
theorem V.dX17_checksAll_54 : decode cX17_checksAll 54 = .ok (.iaload, 1) := by decide +kernel
theorem V.dX17_checksAll_55 : decode cX17_checksAll 55 = .ok (.ifCond .lt 15, 3) := by decide +kernel
theorem V.dX17_checksAll_58 : decode cX17_checksAll 58 = .ok (.aload_n 0, 1) := by decide +kernel
theorem V.dX17_checksAll_59 : decode cX17_checksAll 59 = .ok (.getfield 221, 3) := by decide +kernel
theorem V.dX17_checksAll_62 : decode cX17_checksAll 62 = .ok (.getfield 302, 3) := by decide +kernel
theorem V.dX17_checksAll_65 : decode cX17_checksAll 65 = .ok (.iconst 5, 1) := by decide +kernel
theorem V.dX17_checksAll_66 : decode cX17_checksAll 66 = .ok (.iaload, 1) := by decide +kernel
theorem V.dX17_checksAll_67 : decode cX17_checksAll 67 = .ok (.goto 12, 3) := by decide +kernel
theorem V.dX17_checksAll_70 : decode cX17_checksAll 70 = .ok (.aload_n 0, 1) := by decide +kernel
theorem V.dX17_checksAll_71 : decode cX17_checksAll 71 = .ok (.getfield 221, 3) := by decide +kernel
theorem V.dX17_checksAll_74 : decode cX17_checksAll 74 = .ok (.getfield 302, 3) := by decide +kernel
theorem V.dX17_checksAll_77 : decode cX17_checksAll 77 = .ok (.iconst 2, 1) := by decide +kernel
theorem V.dX17_checksAll_78 : decode cX17_checksAll 78 = .ok (.iaload, 1) := by decide +kernel
theorem V.dX17_checksAll_79 : decode cX17_checksAll 79 = .ok (.invokevirtual 257, 3) := by decide +kernel
theorem V.dX17_checksAll_82 : decode cX17_checksAll 82 = .ok (.aload_n 0, 1) := by decide +kernel
theorem V.dX17_checksAll_83 : decode cX17_checksAll 83 = .ok (.invokevirtual 618, 3) := by decide +kernel
theorem V.dX17_checksAll_86 : decode cX17_checksAll 86 = .ok (.aload_n 0, 1) := by decide +kernel
theorem V.dX17_checksAll_87 : decode cX17_checksAll 87 = .ok (.getfield 221, 3) := by decide +kernel
theorem V.dX17_checksAll_90 : decode cX17_checksAll 90 = .ok (.getfield 348, 3) := by decide +kernel
theorem V.dX17_checksAll_93 : decode cX17_checksAll 93 = .ok (.lconst 0, 1) := by decide +kernel
theorem V.dX17_checksAll_94 : decode cX17_checksAll 94 = .ok (.lcmp, 1) := by decide +kernel
theorem V.dX17_checksAll_95 : decode cX17_checksAll 95 = .ok (.ifCond .lt 95, 3) := by decide +kernel
theorem V.dX17_checksAll_98 : decode cX17_checksAll 98 = .ok (.aload_n 0, 1) := by decide +kernel
theorem V.dX17_checksAll_99 : decode cX17_checksAll 99 = .ok (.getfield 221, 3) := by decide +kernel
theorem V.dX17_checksAll_102 : decode cX17_checksAll 102 = .ok (.getfield 348, 3) := by decide +kernel
theorem V.dX17_checksAll_105 : decode cX17_checksAll 105 = .ok (.aload_n 0, 1) := by decide +kernel
theorem V.dX17_checksAll_106 : decode cX17_checksAll 106 = .ok (.getfield 221, 3) := by decide +kernel
theorem V.dX17_checksAll_109 : decode cX17_checksAll 109 = .ok (.iconst 0, 1) := by decide +kernel
theorem V.dX17_checksAll_110 : decode cX17_checksAll 110 = .ok (.invokevirtual 615, 3) := by decide +kernel
theorem V.dX17_checksAll_113 : decode cX17_checksAll 113 = .ok (.i2l, 1) := by decide +kernel
theorem V.dX17_checksAll_114 : decode cX17_checksAll 114 = .ok (.lcmp, 1) := by decide +kernel
theorem V.dX17_checksAll_115 : decode cX17_checksAll 115 = .ok (.ifCond .ge 7, 3) := by decide +kernel
theorem V.dX17_checksAll_118 : decode cX17_checksAll 118 = .ok (.iconst 1, 1) := by decide +kernel
theorem V.dX17_checksAll_119 : decode cX17_checksAll 119 = .ok (.goto 4, 3) := by decide +kernel
theorem V.dX17_checksAll_122 : decode cX17_checksAll 122 = .ok (.iconst 0, 1) := by decide +kernel
theorem V.dX17_checksAll_123 : decode cX17_checksAll 123 = .ok (.istore_n 1, 1) := by decide +kernel
theorem V.dX17_checksAll_124 : decode cX17_checksAll 124 = .ok (.iload_n 1, 1) := by decide +kernel
theorem V.dX17_checksAll_125 : decode cX17_checksAll 125 = .ok (.ifCond .eq 21, 3) := by decide +kernel
theorem V.dX17_checksAll_128 : decode cX17_checksAll 128 = .ok (.aload_n 0, 1) := by decide +kernel
theorem V.dX17_checksAll_129 : decode cX17_checksAll 129 = .ok (.getfield 221, 3) := by decide +kernel
theorem V.dX17_checksAll_132 : decode cX17_checksAll 132 = .ok (.aload_n 0, 1) := by decide +kernel
theorem V.dX17_checksAll_133 : decode cX17_checksAll 133 = .ok (.getfield 221, 3) := by decide +kernel
theorem V.dX17_checksAll_136 : decode cX17_checksAll 136 = .ok (.getfield 348, 3) := by decide +kernel
theorem V.dX17_checksAll_139 : decode cX17_checksAll 139 = .ok (.l2i, 1) := by decide +kernel
theorem V.dX17_checksAll_140 : decode cX17_checksAll 140 = .ok (.invokevirtual 621, 3) := by decide +kernel
theorem V.dX17_checksAll_143 : decode cX17_checksAll 143 = .ok (.goto 4, 3) := by decide +kernel
theorem V.dX17_checksAll_146 : decode cX17_checksAll 146 = .ok (.iconst 0, 1) := by decide +kernel
theorem V.dX17_checksAll_147 : decode cX17_checksAll 147 = .ok (.istore_n 2, 1) := by decide +kernel
theorem V.dX17_checksAll_148 : decode cX17_checksAll 148 = .ok (.iload_n 1, 1) := by decide +kernel
theorem V.dX17_checksAll_149 : decode cX17_checksAll 149 = .ok (.ifCond .eq 25, 3) := by decide +kernel
theorem V.dX17_checksAll_152 : decode cX17_checksAll 152 = .ok (.aload_n 0, 1) := by decide +kernel
theorem V.dX17_checksAll_153 : decode cX17_checksAll 153 = .ok (.getfield 221, 3) := by decide +kernel
theorem V.dX17_checksAll_156 : decode cX17_checksAll 156 = .ok (.getfield 387, 3) := by decide +kernel
theorem V.dX17_checksAll_159 : decode cX17_checksAll 159 = .ok (.iload_n 2, 1) := by decide +kernel
theorem V.dX17_checksAll_160 : decode cX17_checksAll 160 = .ok (.iaload, 1) := by decide +kernel
theorem V.dX17_checksAll_161 : decode cX17_checksAll 161 = .ok (.aload_n 0, 1) := by decide +kernel
theorem V.dX17_checksAll_162 : decode cX17_checksAll 162 = .ok (.getfield 221, 3) := by decide +kernel
theorem V.dX17_checksAll_165 : decode cX17_checksAll 165 = .ok (.getfield 390, 3) := by decide +kernel
theorem V.dX17_checksAll_168 : decode cX17_checksAll 168 = .ok (.iload_n 2, 1) := by decide +kernel
theorem V.dX17_checksAll_169 : decode cX17_checksAll 169 = .ok (.iaload, 1) := by decide +kernel
theorem V.dX17_checksAll_170 : decode cX17_checksAll 170 = .ok (.iadd, 1) := by decide +kernel
theorem V.dX17_checksAll_171 : decode cX17_checksAll 171 = .ok (.ifCond .le 19, 3) := by decide +kernel
theorem V.dX17_checksAll_174 : decode cX17_checksAll 174 = .ok (.aload_n 0, 1) := by decide +kernel
theorem V.dX17_checksAll_175 : decode cX17_checksAll 175 = .ok (.bipush 25, 2) := by decide +kernel
theorem V.dX17_checksAll_177 : decode cX17_checksAll 177 = .ok (.aload_n 0, 1) := by decide +kernel
theorem V.dX17_checksAll_178 : decode cX17_checksAll 178 = .ok (.getfield 221, 3) := by decide +kernel
theorem V.dX17_checksAll_181 : decode cX17_checksAll 181 = .ok (.getfield 302, 3) := by decide +kernel
theorem V.dX17_checksAll_184 : decode cX17_checksAll 184 = .ok (.bipush 8, 2) := by decide +kernel
theorem V.dX17_checksAll_186 : decode cX17_checksAll 186 = .ok (.iaload, 1) := by decide +kernel
theorem V.dX17_checksAll_187 : decode cX17_checksAll 187 = .ok (.invokevirtual 257, 3) := by decide +kernel
theorem V.dX17_checksAll_190 : decode cX17_checksAll 190 = .ok (.aload_n 0, 1) := by decide +kernel
theorem V.dX17_checksAll_191 : decode cX17_checksAll 191 = .ok (.invokevirtual 624, 3) := by decide +kernel
theorem V.dX17_checksAll_194 : decode cX17_checksAll 194 = .ok (.iconst 0, 1) := by decide +kernel
theorem V.dX17_checksAll_195 : decode cX17_checksAll 195 = .ok (.istore_n 1, 1) := by decide +kernel
theorem V.dX17_checksAll_196 : decode cX17_checksAll 196 = .ok (.iload_n 1, 1) := by decide +kernel
theorem V.dX17_checksAll_197 : decode cX17_checksAll 197 = .ok (.aload_n 0, 1) := by decide +kernel
theorem V.dX17_checksAll_198 : decode cX17_checksAll 198 = .ok (.getfield 221, 3) := by decide +kernel
theorem V.dX17_checksAll_201 : decode cX17_checksAll 201 = .ok (.getfield 453, 3) := by decide +kernel
theorem V.dX17_checksAll_204 : decode cX17_checksAll 204 = .ok (.if_icmp .ge 31, 3) := by decide +kernel
theorem V.dX17_checksAll_207 : decode cX17_checksAll 207 = .ok (.aload_n 0, 1) := by decide +kernel
theorem V.dX17_checksAll_208 : decode cX17_checksAll 208 = .ok (.aload_n 0, 1) := by decide +kernel
theorem V.dX17_checksAll_209 : decode cX17_checksAll 209 = .ok (.getfield 221, 3) := by decide +kernel
theorem V.dX17_checksAll_212 : decode cX17_checksAll 212 = .ok (.getfield 463, 3) := by decide +kernel
theorem V.dX17_checksAll_215 : decode cX17_checksAll 215 = .ok (.iload_n 1, 1) := by decide +kernel
theorem V.dX17_checksAll_216 : decode cX17_checksAll 216 = .ok (.iaload, 1) := by decide +kernel
theorem V.dX17_checksAll_217 : decode cX17_checksAll 217 = .ok (.aload_n 0, 1) := by decide +kernel
theorem V.dX17_checksAll_218 : decode cX17_checksAll 218 = .ok (.getfield 221, 3) := by decide +kernel
theorem V.dX17_checksAll_221 : decode cX17_checksAll 221 = .ok (.getfield 459, 3) := by decide +kernel
theorem V.dX17_checksAll_224 : decode cX17_checksAll 224 = .ok (.iload_n 1, 1) := by decide +kernel
theorem V.dX17_checksAll_225 : decode cX17_checksAll 225 = .ok (.iaload, 1) := by decide +kernel
theorem V.dX17_checksAll_226 : decode cX17_checksAll 226 = .ok (.invokevirtual 627, 3) := by decide +kernel
theorem V.dX17_checksAll_229 : decode cX17_checksAll 229 = .ok (.iinc 1 1, 3) := by decide +kernel
theorem V.dX17_checksAll_232 : decode cX17_checksAll 232 = .ok (.goto (-36), 3) := by decide +kernel
theorem V.dX17_checksAll_235 : decode cX17_checksAll 235 = .ok (.iconst 0, 1) := by decide +kernel
theorem V.dX17_checksAll_236 : decode cX17_checksAll 236 = .ok (.istore_n 1, 1) := by decide +kernel
theorem V.dX17_checksAll_237 : decode cX17_checksAll 237 = .ok (.iload_n 1, 1) := by decide +kernel
theorem V.dX17_checksAll_238 : decode cX17_checksAll 238 = .ok (.aload_n 0, 1) := by decide +kernel
theorem V.dX17_checksAll_239 : decode cX17_checksAll 239 = .ok (.getfield 221, 3) := by decide +kernel
theorem V.dX17_checksAll_242 : decode cX17_checksAll 242 = .ok (.getfield 481, 3) := by decide +kernel
theorem V.dX17_checksAll_245 : decode cX17_checksAll 245 = .ok (.if_icmp .ge 14, 3) := by decide +kernel
theorem V.dX17_checksAll_248 : decode cX17_checksAll 248 = .ok (.aload_n 0, 1) := by decide +kernel
theorem V.dX17_checksAll_249 : decode cX17_checksAll 249 = .ok (.iload_n 1, 1) := by decide +kernel
theorem V.dX17_checksAll_250 : decode cX17_checksAll 250 = .ok (.invokevirtual 630, 3) := by decide +kernel
theorem V.dX17_checksAll_253 : decode cX17_checksAll 253 = .ok (.iinc 1 1, 3) := by decide +kernel
theorem V.dX17_checksAll_256 : decode cX17_checksAll 256 = .ok (.goto (-19), 3) := by decide +kernel
theorem V.dX17_checksAll_259 : decode cX17_checksAll 259 = .ok (.iconst 0, 1) := by decide +kernel
theorem V.dX17_checksAll_260 : decode cX17_checksAll 260 = .ok (.istore_n 1, 1) := by decide +kernel
theorem V.dX17_checksAll_261 : decode cX17_checksAll 261 = .ok (.iload_n 1, 1) := by decide +kernel
theorem V.dX17_checksAll_262 : decode cX17_checksAll 262 = .ok (.aload_n 0, 1) := by decide +kernel
theorem V.dX17_checksAll_263 : decode cX17_checksAll 263 = .ok (.getfield 221, 3) := by decide +kernel
theorem V.dX17_checksAll_266 : decode cX17_checksAll 266 = .ok (.getfield 529, 3) := by decide +kernel
theorem V.dX17_checksAll_269 : decode cX17_checksAll 269 = .ok (.if_icmp .ge 86, 3) := by decide +kernel
theorem V.dX17_checksAll_272 : decode cX17_checksAll 272 = .ok (.aload_n 0, 1) := by decide +kernel
theorem V.dX17_checksAll_273 : decode cX17_checksAll 273 = .ok (.getfield 221, 3) := by decide +kernel
theorem V.dX17_checksAll_276 : decode cX17_checksAll 276 = .ok (.getfield 534, 3) := by decide +kernel
theorem V.dX17_checksAll_279 : decode cX17_checksAll 279 = .ok (.iload_n 1, 1) := by decide +kernel
theorem V.dX17_checksAll_280 : decode cX17_checksAll 280 = .ok (.baload, 1) := by decide +kernel
theorem V.dX17_checksAll_281 : decode cX17_checksAll 281 = .ok (.ifCond .eq 41, 3) := by decide +kernel
theorem V.dX17_checksAll_284 : decode cX17_checksAll 284 = .ok (.aload_n 0, 1) := by decide +kernel
theorem V.dX17_checksAll_285 : decode cX17_checksAll 285 = .ok (.getfield 221, 3) := by decide +kernel
theorem V.dX17_checksAll_288 : decode cX17_checksAll 288 = .ok (.getfield 537, 3) := by decide +kernel
theorem V.dX17_checksAll_291 : decode cX17_checksAll 291 = .ok (.iload_n 1, 1) := by decide +kernel
theorem V.dX17_checksAll_292 : decode cX17_checksAll 292 = .ok (.laload, 1) := by decide +kernel
theorem V.dX17_checksAll_293 : decode cX17_checksAll 293 = .ok (.aload_n 0, 1) := by decide +kernel
theorem V.dX17_checksAll_294 : decode cX17_checksAll 294 = .ok (.getfield 221, 3) := by decide +kernel
theorem V.dX17_checksAll_297 : decode cX17_checksAll 297 = .ok (.iconst 2, 1) := by decide +kernel
theorem V.dX17_checksAll_298 : decode cX17_checksAll 298 = .ok (.invokevirtual 615, 3) := by decide +kernel
theorem V.dX17_checksAll_301 : decode cX17_checksAll 301 = .ok (.i2l, 1) := by decide +kernel
theorem V.dX17_checksAll_302 : decode cX17_checksAll 302 = .ok (.lcmp, 1) := by decide +kernel
theorem V.dX17_checksAll_303 : decode cX17_checksAll 303 = .ok (.ifCond .lt 19, 3) := by decide +kernel
theorem V.dX17_checksAll_306 : decode cX17_checksAll 306 = .ok (.aload_n 0, 1) := by decide +kernel
theorem V.dX17_checksAll_307 : decode cX17_checksAll 307 = .ok (.bipush 28, 2) := by decide +kernel
theorem V.dX17_checksAll_309 : decode cX17_checksAll 309 = .ok (.aload_n 0, 1) := by decide +kernel
theorem V.dX17_checksAll_310 : decode cX17_checksAll 310 = .ok (.getfield 221, 3) := by decide +kernel
theorem V.dX17_checksAll_313 : decode cX17_checksAll 313 = .ok (.getfield 302, 3) := by decide +kernel
theorem V.dX17_checksAll_316 : decode cX17_checksAll 316 = .ok (.bipush 11, 2) := by decide +kernel
theorem V.dX17_checksAll_318 : decode cX17_checksAll 318 = .ok (.iaload, 1) := by decide +kernel
theorem V.dX17_checksAll_319 : decode cX17_checksAll 319 = .ok (.invokevirtual 257, 3) := by decide +kernel
theorem V.dX17_checksAll_322 : decode cX17_checksAll 322 = .ok (.aload_n 0, 1) := by decide +kernel
theorem V.dX17_checksAll_323 : decode cX17_checksAll 323 = .ok (.getfield 221, 3) := by decide +kernel
theorem V.dX17_checksAll_326 : decode cX17_checksAll 326 = .ok (.getfield 534, 3) := by decide +kernel
theorem V.dX17_checksAll_329 : decode cX17_checksAll 329 = .ok (.iload_n 1, 1) := by decide +kernel
theorem V.dX17_checksAll_330 : decode cX17_checksAll 330 = .ok (.baload, 1) := by decide +kernel
theorem V.dX17_checksAll_331 : decode cX17_checksAll 331 = .ok (.ifCond .eq 18, 3) := by decide +kernel
theorem V.dX17_checksAll_334 : decode cX17_checksAll 334 = .ok (.aload_n 0, 1) := by decide +kernel
theorem V.dX17_checksAll_335 : decode cX17_checksAll 335 = .ok (.aload_n 0, 1) := by decide +kernel
theorem V.dX17_checksAll_336 : decode cX17_checksAll 336 = .ok (.getfield 221, 3) := by decide +kernel
theorem V.dX17_checksAll_339 : decode cX17_checksAll 339 = .ok (.getfield 540, 3) := by decide +kernel
theorem V.dX17_checksAll_342 : decode cX17_checksAll 342 = .ok (.iload_n 1, 1) := by decide +kernel
theorem V.dX17_checksAll_343 : decode cX17_checksAll 343 = .ok (.iaload, 1) := by decide +kernel
theorem V.dX17_checksAll_344 : decode cX17_checksAll 344 = .ok (.bipush 127, 2) := by decide +kernel
theorem V.dX17_checksAll_346 : decode cX17_checksAll 346 = .ok (.invokevirtual 627, 3) := by decide +kernel
theorem V.dX17_checksAll_349 : decode cX17_checksAll 349 = .ok (.iinc 1 1, 3) := by decide +kernel
theorem V.dX17_checksAll_352 : decode cX17_checksAll 352 = .ok (.goto (-91), 3) := by decide +kernel
theorem V.dX17_checksAll_355 : decode cX17_checksAll 355 = .ok (.iconst 0, 1) := by decide +kernel
theorem V.dX17_checksAll_356 : decode cX17_checksAll 356 = .ok (.istore_n 1, 1) := by decide +kernel
theorem V.dX17_checksAll_357 : decode cX17_checksAll 357 = .ok (.iload_n 1, 1) := by decide +kernel
theorem V.dX17_checksAll_358 : decode cX17_checksAll 358 = .ok (.aload_n 0, 1) := by decide +kernel
theorem V.dX17_checksAll_359 : decode cX17_checksAll 359 = .ok (.getfield 221, 3) := by decide +kernel
theorem V.dX17_checksAll_362 : decode cX17_checksAll 362 = .ok (.getfield 426, 3) := by decide +kernel
theorem V.dX17_checksAll_365 : decode cX17_checksAll 365 = .ok (.if_icmp .ge 14, 3) := by decide +kernel
theorem V.dX17_checksAll_368 : decode cX17_checksAll 368 = .ok (.aload_n 0, 1) := by decide +kernel
theorem V.dX17_checksAll_369 : decode cX17_checksAll 369 = .ok (.iload_n 1, 1) := by decide +kernel
theorem V.dX17_checksAll_370 : decode cX17_checksAll 370 = .ok (.invokevirtual 633, 3) := by decide +kernel
theorem V.dX17_checksAll_373 : decode cX17_checksAll 373 = .ok (.iinc 1 1, 3) := by decide +kernel
theorem V.dX17_checksAll_376 : decode cX17_checksAll 376 = .ok (.goto (-19), 3) := by decide +kernel
theorem V.dX17_checksAll_379 : decode cX17_checksAll 379 = .ok (.return_, 1) := by decide +kernel
theorem V.mdX17_609 : MD RX17 609 yX17_checksTypes cX17_checksTypes 2 none 0 := ⟨Or.inl q3767, q377, q3770, by decide, by decide, by decide +kernel⟩
theorem V.mdX17_612 : MD RX17 612 yX17_checksLimits cX17_checksLimits 3 none 0 := ⟨Or.inl q3771, q377, q3774, by decide, by decide, by decide +kernel⟩
theorem V.mdX17_618 : MD RX17 618 yX17_checksExports cX17_checksExports 3 none 0 := ⟨Or.inl q3787, q377, q3790, by decide, by decide, by decide +kernel⟩
theorem V.fdX17_348 : FD RX17 348 20 33 1 := ⟨(RX20, TX20, 58), tyX20, rfl, rfl, in_X20, by decide, Or.inr ⟨_, q3426⟩, rfl⟩
theorem V.mdX17_624 : MD RX17 624 yX17_declares cX17_declares 3 none 0 := ⟨Or.inl q3803, q377, q3806, by decide, by decide, by decide +kernel⟩
theorem V.mdX17_630 : MD RX17 630 yX17_checksElement cX17_checksElement 5 none 1 := ⟨Or.inl q3853, q377, q3856, by decide, by decide, by decide +kernel⟩
theorem V.mdX17_633 : MD RX17 633 yX17_checksBody cX17_checksBody 5 none 1 := ⟨Or.inl q3861, q377, q3864, by decide, by decide, by decide +kernel⟩
/-! ModuleEngineModel.checksAll()V -/
def V.Mdl_checksAll_p357  : Nat → HS → Nat → Int32 → Option ((Nat ⊕ Unit) × HS)
  | 0, _, _, _ => none
  | n + 1, σ, x0, x1 =>
    ck (tg σ x0 = 18) <|
    ck (tg σ (gR σ x0 10) = 21) <|
    if (gI σ (gR σ x0 10) 15) ≤ x1 then (
      some (.inr (), σ))
    else (
      ck (tg σ x0 = 18) <| clT (Mdl_checksBody σ x0 x1) fun _ σ1 =>
      bn (x1 + (1 : Int32)) fun y2 =>
      Mdl_checksAll_p357 n σ1 x0 y2)
theorem V.gX17_checksAll_p357 {X : CX}  : ∀ (n : Nat) (σ : HS) (x0 : Nat) (x1 : Int32), G X RX17 "checksAll" cX17_checksAll 3 none 7 173 (enX enV (cxz X)) 357 [(0, av x0), (1, iv x1)] [] σ (Mdl_checksAll_p357 n σ x0 x1)
  | 0, σ, x0, x1 => by rw [Mdl_checksAll_p357]; exact G.nul
  | n + 1, σ, x0, x1 => by
    rw [Mdl_checksAll_p357]
    refine g_iload_n 1 1 dX17_checksAll_357 rfl rfl ?_
    refine g_aload_n 0 0 dX17_checksAll_358 rfl rfl ?_
    refine g_getR fdX17_221 dX17_checksAll_359 ?_
    refine g_getI fdX17_426 dX17_checksAll_362 ?_
    refine g_icmp_ge 379 dX17_checksAll_365 (by decide) ?_ ?_
    · exact g_return rfl dX17_checksAll_379
    · refine g_aload_n 0 0 dX17_checksAll_368 rfl rfl ?_
      refine g_iload_n 1 1 dX17_checksAll_369 rfl rfl ?_
      refine g_callVT (fc := fun sς => Mdl_checksBody sς x0 x1) (ci := 17) (as := [iv x1]) rfl rfl rfl q3863 qs259 q3861 mdX17_633 (ctX17_checksBody x0 x1) rfl (Nat.le_of_ble_eq_true rfl) (Nat.le_of_ble_eq_true rfl) (Nat.le_of_ble_eq_true rfl) pu_V (by decide) dX17_checksAll_370 (fun _ σ1 => ?_)
      refine g_iincB (w := 1) 1 dX17_checksAll_373 rfl (by decide) (by decide) (fun _ => rfl) (fun y2 => ?_)
      refine g_goto 357 dX17_checksAll_376 (by decide) ?_
      refine G.sub [1, 0] rfl ?_
      exact gX17_checksAll_p357 n _ _ _
def V.Mdl_checksAll_p349 (rec261 : HS → Nat → Int32 → Option ((Nat ⊕ Unit) × HS)) (σ : HS) (x0 : Nat) (x1 : Int32) : Option ((Nat ⊕ Unit) × HS) :=
  bn (x1 + (1 : Int32)) fun y1 =>
  rec261 σ x0 y1
theorem V.gX17_checksAll_p349 {X : CX} (rec261 : HS → Nat → Int32 → Option ((Nat ⊕ Unit) × HS)) (hrec261 : ∀ (σ : HS) (x0 : Nat) (x1 : Int32), G X RX17 "checksAll" cX17_checksAll 3 none 7 173 (enX enV (cxz X)) 261 [(0, av x0), (1, iv x1)] [] σ (rec261 σ x0 x1)) (σ : HS) (x0 : Nat) (x1 : Int32) : G X RX17 "checksAll" cX17_checksAll 3 none 7 173 (enX enV (cxz X)) 349 [(0, av x0), (1, iv x1)] [] σ (Mdl_checksAll_p349 rec261 σ x0 x1) := by
  unfold Mdl_checksAll_p349
  refine g_iincB (w := 1) 1 dX17_checksAll_349 rfl (by decide) (by decide) (fun _ => rfl) (fun y1 => ?_)
  refine g_goto 261 dX17_checksAll_352 (by decide) ?_
  refine G.sub [1, 0] rfl ?_
  exact hrec261 _ _ _
def V.Mdl_checksAll_p322 (rec261 : HS → Nat → Int32 → Option ((Nat ⊕ Unit) × HS)) (σ : HS) (x0 : Nat) (x1 : Int32) : Option ((Nat ⊕ Unit) × HS) :=
  ck (tg σ x0 = 18) <|
  ck (tg σ (gR σ x0 10) = 21) <|
  ck (tg σ (gR σ (gR σ x0 10) 45) = 103 ∧ inb x1 (ln σ (gR σ (gR σ x0 10) 45))) <|
  if (gI σ (gR σ (gR σ x0 10) 45) (ix x1)) = 0 then (
    Mdl_checksAll_p349 rec261 σ x0 x1)
  else (
    ck (tg σ x0 = 18) <|
    ck (tg σ (gR σ x0 10) = 21) <|
    ck (tg σ (gR σ (gR σ x0 10) 47) = 100 ∧ inb x1 (ln σ (gR σ (gR σ x0 10) 47))) <|
    ck (tg σ x0 = 18) <| clT (Mdl_constantly σ x0 (gI σ (gR σ (gR σ x0 10) 47) (ix x1)) (127 : Int32)) fun _ σ1 =>
    Mdl_checksAll_p349 rec261 σ1 x0 x1)
theorem V.gX17_checksAll_p322 {X : CX} (rec261 : HS → Nat → Int32 → Option ((Nat ⊕ Unit) × HS)) (hrec261 : ∀ (σ : HS) (x0 : Nat) (x1 : Int32), G X RX17 "checksAll" cX17_checksAll 3 none 7 173 (enX enV (cxz X)) 261 [(0, av x0), (1, iv x1)] [] σ (rec261 σ x0 x1)) (σ : HS) (x0 : Nat) (x1 : Int32) : G X RX17 "checksAll" cX17_checksAll 3 none 7 173 (enX enV (cxz X)) 322 [(0, av x0), (1, iv x1)] [] σ (Mdl_checksAll_p322 rec261 σ x0 x1) := by
  unfold Mdl_checksAll_p322
  refine g_aload_n 0 0 dX17_checksAll_322 rfl rfl ?_
  refine g_getR fdX17_221 dX17_checksAll_323 ?_
  refine g_getR fdX17_534 dX17_checksAll_326 ?_
  refine g_iload_n 1 1 dX17_checksAll_329 rfl rfl ?_
  refine g_zaload dX17_checksAll_330 ?_
  refine g_if_eq 349 dX17_checksAll_331 (by decide) ?_ ?_
  · exact gX17_checksAll_p349 rec261 hrec261 _ _ _
  · refine g_aload_n 0 0 dX17_checksAll_334 rfl rfl ?_
    refine g_aload_n 0 0 dX17_checksAll_335 rfl rfl ?_
    refine g_getR fdX17_221 dX17_checksAll_336 ?_
    refine g_getR fdX17_540 dX17_checksAll_339 ?_
    refine g_iload_n 1 1 dX17_checksAll_342 rfl rfl ?_
    refine g_iaload dX17_checksAll_343 ?_
    refine g_bipush (v := 127) dX17_checksAll_344 (by decide) ?_
    refine g_callVT (fc := fun sς => Mdl_constantly sς x0 (gI σ (gR σ (gR σ x0 10) 47) (ix x1)) (127 : Int32)) (ci := 17) (as := [iv (gI σ (gR σ (gR σ x0 10) 47) (ix x1)), iv (127 : Int32)]) rfl rfl rfl q3838 qs256 q3836 mdX17_627 (ctX17_constantly x0 (gI σ (gR σ (gR σ x0 10) 47) (ix x1)) (127 : Int32)) rfl (Nat.le_of_ble_eq_true rfl) (Nat.le_of_ble_eq_true rfl) (Nat.le_of_ble_eq_true rfl) pu_V (by decide) dX17_checksAll_346 (fun _ σ1 => ?_)
    exact gX17_checksAll_p349 rec261 hrec261 _ _ _
def V.Mdl_checksAll_p261  : Nat → HS → Nat → Int32 → Option ((Nat ⊕ Unit) × HS)
  | 0, _, _, _ => none
  | n + 1, σ, x0, x1 =>
    ck (tg σ x0 = 18) <|
    ck (tg σ (gR σ x0 10) = 21) <|
    if (gI σ (gR σ x0 10) 44) ≤ x1 then (
      Mdl_checksAll_p357 FU σ x0 (0 : Int32))
    else (
      ck (tg σ x0 = 18) <|
      ck (tg σ (gR σ x0 10) = 21) <|
      ck (tg σ (gR σ (gR σ x0 10) 45) = 103 ∧ inb x1 (ln σ (gR σ (gR σ x0 10) 45))) <|
      if (gI σ (gR σ (gR σ x0 10) 45) (ix x1)) = 0 then (
        Mdl_checksAll_p322 (Mdl_checksAll_p261 n) σ x0 x1)
      else (
        ck (tg σ x0 = 18) <|
        ck (tg σ (gR σ x0 10) = 21) <|
        ck (tg σ (gR σ (gR σ x0 10) 46) = 101 ∧ inb x1 (ln σ (gR σ (gR σ x0 10) 46))) <|
        ck (tg σ x0 = 18) <|
        ck (tg σ (gR σ x0 10) = 21) <| cl (Pln_all σ (gR σ x0 10) (2 : Int32)) fun r2 σ1 =>
        if (gJ σ (gR σ (gR σ x0 10) 46) (ix x1)) < r2.toInt64 then (
          Mdl_checksAll_p322 (Mdl_checksAll_p261 n) σ1 x0 x1)
        else (
          ck (tg σ1 x0 = 18) <|
          ck (tg σ1 (gR σ1 x0 10) = 21) <|
          ck (tg σ1 (gR σ1 (gR σ1 x0 10) 2) = 100 ∧ inb (11 : Int32) (ln σ1 (gR σ1 (gR σ1 x0 10) 2))) <|
          ck (tg σ1 x0 = 18) <| clT (Mdl_stops σ1 x0 (28 : Int32) (gI σ1 (gR σ1 (gR σ1 x0 10) 2) (ix (11 : Int32)))) fun _ σ3 =>
          Mdl_checksAll_p322 (Mdl_checksAll_p261 n) σ3 x0 x1)))
theorem V.gX17_checksAll_p261 {X : CX}  : ∀ (n : Nat) (σ : HS) (x0 : Nat) (x1 : Int32), G X RX17 "checksAll" cX17_checksAll 3 none 7 173 (enX enV (cxz X)) 261 [(0, av x0), (1, iv x1)] [] σ (Mdl_checksAll_p261 n σ x0 x1)
  | 0, σ, x0, x1 => by rw [Mdl_checksAll_p261]; exact G.nul
  | n + 1, σ, x0, x1 => by
    rw [Mdl_checksAll_p261]
    refine g_iload_n 1 1 dX17_checksAll_261 rfl rfl ?_
    refine g_aload_n 0 0 dX17_checksAll_262 rfl rfl ?_
    refine g_getR fdX17_221 dX17_checksAll_263 ?_
    refine g_getI fdX17_529 dX17_checksAll_266 ?_
    refine g_icmp_ge 355 dX17_checksAll_269 (by decide) ?_ ?_
    · refine g_iconst (v := 0) dX17_checksAll_355 (by decide) ?_
      refine g_istore_n 1 dX17_checksAll_356 rfl (by decide) rfl ?_
      refine G.sub [1, 0] rfl ?_
      exact gX17_checksAll_p357 FU _ _ _
    · refine g_aload_n 0 0 dX17_checksAll_272 rfl rfl ?_
      refine g_getR fdX17_221 dX17_checksAll_273 ?_
      refine g_getR fdX17_534 dX17_checksAll_276 ?_
      refine g_iload_n 1 1 dX17_checksAll_279 rfl rfl ?_
      refine g_zaload dX17_checksAll_280 ?_
      refine g_if_eq 322 dX17_checksAll_281 (by decide) ?_ ?_
      · exact gX17_checksAll_p322 (Mdl_checksAll_p261 n) (gX17_checksAll_p261 n) _ _ _
      · refine g_aload_n 0 0 dX17_checksAll_284 rfl rfl ?_
        refine g_getR fdX17_221 dX17_checksAll_285 ?_
        refine g_getR fdX17_537 dX17_checksAll_288 ?_
        refine g_iload_n 1 1 dX17_checksAll_291 rfl rfl ?_
        refine g_laload dX17_checksAll_292 ?_
        refine g_aload_n 0 0 dX17_checksAll_293 rfl rfl ?_
        refine g_getR fdX17_221 dX17_checksAll_294 ?_
        refine g_iconst (v := 2) dX17_checksAll_297 (by decide) ?_
        refine g_callV (fc := fun sς => Pln_all sς (gR σ x0 10) (2 : Int32)) (ci := 20) (as := [iv (2 : Int32)]) rfl rfl rfl q3780 q3781 mdX17_615 (ctX20_all (gR σ x0 10) (2 : Int32)) rfl (Nat.le_of_ble_eq_true rfl) (Nat.le_of_ble_eq_true rfl) (Nat.le_of_ble_eq_true rfl) pu_I dX17_checksAll_298 (fun r2 σ1 => ?_)
        refine g_i2l dX17_checksAll_301 ?_
        refine g_lcmp_lt 322 dX17_checksAll_302 dX17_checksAll_303 (by decide) ?_ ?_
        · exact gX17_checksAll_p322 (Mdl_checksAll_p261 n) (gX17_checksAll_p261 n) _ _ _
        · refine g_aload_n 0 0 dX17_checksAll_306 rfl rfl ?_
          refine g_bipush (v := 28) dX17_checksAll_307 (by decide) ?_
          refine g_aload_n 0 0 dX17_checksAll_309 rfl rfl ?_
          refine g_getR fdX17_221 dX17_checksAll_310 ?_
          refine g_getR fdX17_302 dX17_checksAll_313 ?_
          refine g_bipush (v := 11) dX17_checksAll_316 (by decide) ?_
          refine g_iaload dX17_checksAll_318 ?_
          refine g_callVT (fc := fun sς => Mdl_stops sς x0 (28 : Int32) (gI σ1 (gR σ1 (gR σ1 x0 10) 2) (ix (11 : Int32)))) (ci := 17) (as := [iv (28 : Int32), iv (gI σ1 (gR σ1 (gR σ1 x0 10) 2) (ix (11 : Int32)))]) rfl rfl rfl q3606 qs214 q3604 mdX17_257 (ctX17_stops x0 (28 : Int32) (gI σ1 (gR σ1 (gR σ1 x0 10) 2) (ix (11 : Int32)))) rfl (Nat.le_of_ble_eq_true rfl) (Nat.le_of_ble_eq_true rfl) (Nat.le_of_ble_eq_true rfl) pu_V (by decide) dX17_checksAll_319 (fun _ σ3 => ?_)
          exact gX17_checksAll_p322 (Mdl_checksAll_p261 n) (gX17_checksAll_p261 n) _ _ _
def V.Mdl_checksAll_p237  : Nat → HS → Nat → Int32 → Option ((Nat ⊕ Unit) × HS)
  | 0, _, _, _ => none
  | n + 1, σ, x0, x1 =>
    ck (tg σ x0 = 18) <|
    ck (tg σ (gR σ x0 10) = 21) <|
    if (gI σ (gR σ x0 10) 34) ≤ x1 then (
      Mdl_checksAll_p261 FU σ x0 (0 : Int32))
    else (
      ck (tg σ x0 = 18) <| clT (Mdl_checksElement σ x0 x1) fun _ σ1 =>
      bn (x1 + (1 : Int32)) fun y2 =>
      Mdl_checksAll_p237 n σ1 x0 y2)
theorem V.gX17_checksAll_p237 {X : CX}  : ∀ (n : Nat) (σ : HS) (x0 : Nat) (x1 : Int32), G X RX17 "checksAll" cX17_checksAll 3 none 7 173 (enX enV (cxz X)) 237 [(0, av x0), (1, iv x1)] [] σ (Mdl_checksAll_p237 n σ x0 x1)
  | 0, σ, x0, x1 => by rw [Mdl_checksAll_p237]; exact G.nul
  | n + 1, σ, x0, x1 => by
    rw [Mdl_checksAll_p237]
    refine g_iload_n 1 1 dX17_checksAll_237 rfl rfl ?_
    refine g_aload_n 0 0 dX17_checksAll_238 rfl rfl ?_
    refine g_getR fdX17_221 dX17_checksAll_239 ?_
    refine g_getI fdX17_481 dX17_checksAll_242 ?_
    refine g_icmp_ge 259 dX17_checksAll_245 (by decide) ?_ ?_
    · refine g_iconst (v := 0) dX17_checksAll_259 (by decide) ?_
      refine g_istore_n 1 dX17_checksAll_260 rfl (by decide) rfl ?_
      refine G.sub [1, 0] rfl ?_
      exact gX17_checksAll_p261 FU _ _ _
    · refine g_aload_n 0 0 dX17_checksAll_248 rfl rfl ?_
      refine g_iload_n 1 1 dX17_checksAll_249 rfl rfl ?_
      refine g_callVT (fc := fun sς => Mdl_checksElement sς x0 x1) (ci := 17) (as := [iv x1]) rfl rfl rfl q3855 qs258 q3853 mdX17_630 (ctX17_checksElement x0 x1) rfl (Nat.le_of_ble_eq_true rfl) (Nat.le_of_ble_eq_true rfl) (Nat.le_of_ble_eq_true rfl) pu_V (by decide) dX17_checksAll_250 (fun _ σ1 => ?_)
      refine g_iincB (w := 1) 1 dX17_checksAll_253 rfl (by decide) (by decide) (fun _ => rfl) (fun y2 => ?_)
      refine g_goto 237 dX17_checksAll_256 (by decide) ?_
      refine G.sub [1, 0] rfl ?_
      exact gX17_checksAll_p237 n _ _ _
def V.Mdl_checksAll_p196  : Nat → HS → Nat → Int32 → Option ((Nat ⊕ Unit) × HS)
  | 0, _, _, _ => none
  | n + 1, σ, x0, x1 =>
    ck (tg σ x0 = 18) <|
    ck (tg σ (gR σ x0 10) = 21) <|
    if (gI σ (gR σ x0 10) 24) ≤ x1 then (
      Mdl_checksAll_p237 FU σ x0 (0 : Int32))
    else (
      ck (tg σ x0 = 18) <|
      ck (tg σ (gR σ x0 10) = 21) <|
      ck (tg σ (gR σ (gR σ x0 10) 27) = 100 ∧ inb x1 (ln σ (gR σ (gR σ x0 10) 27))) <|
      ck (tg σ x0 = 18) <|
      ck (tg σ (gR σ x0 10) = 21) <|
      ck (tg σ (gR σ (gR σ x0 10) 25) = 100 ∧ inb x1 (ln σ (gR σ (gR σ x0 10) 25))) <|
      ck (tg σ x0 = 18) <| clT (Mdl_constantly σ x0 (gI σ (gR σ (gR σ x0 10) 27) (ix x1)) (gI σ (gR σ (gR σ x0 10) 25) (ix x1))) fun _ σ1 =>
      bn (x1 + (1 : Int32)) fun y2 =>
      Mdl_checksAll_p196 n σ1 x0 y2)
theorem V.gX17_checksAll_p196 {X : CX}  : ∀ (n : Nat) (σ : HS) (x0 : Nat) (x1 : Int32), G X RX17 "checksAll" cX17_checksAll 3 none 7 173 (enX enV (cxz X)) 196 [(0, av x0), (1, iv x1)] [] σ (Mdl_checksAll_p196 n σ x0 x1)
  | 0, σ, x0, x1 => by rw [Mdl_checksAll_p196]; exact G.nul
  | n + 1, σ, x0, x1 => by
    rw [Mdl_checksAll_p196]
    refine g_iload_n 1 1 dX17_checksAll_196 rfl rfl ?_
    refine g_aload_n 0 0 dX17_checksAll_197 rfl rfl ?_
    refine g_getR fdX17_221 dX17_checksAll_198 ?_
    refine g_getI fdX17_453 dX17_checksAll_201 ?_
    refine g_icmp_ge 235 dX17_checksAll_204 (by decide) ?_ ?_
    · refine g_iconst (v := 0) dX17_checksAll_235 (by decide) ?_
      refine g_istore_n 1 dX17_checksAll_236 rfl (by decide) rfl ?_
      refine G.sub [1, 0] rfl ?_
      exact gX17_checksAll_p237 FU _ _ _
    · refine g_aload_n 0 0 dX17_checksAll_207 rfl rfl ?_
      refine g_aload_n 0 0 dX17_checksAll_208 rfl rfl ?_
      refine g_getR fdX17_221 dX17_checksAll_209 ?_
      refine g_getR fdX17_463 dX17_checksAll_212 ?_
      refine g_iload_n 1 1 dX17_checksAll_215 rfl rfl ?_
      refine g_iaload dX17_checksAll_216 ?_
      refine g_aload_n 0 0 dX17_checksAll_217 rfl rfl ?_
      refine g_getR fdX17_221 dX17_checksAll_218 ?_
      refine g_getR fdX17_459 dX17_checksAll_221 ?_
      refine g_iload_n 1 1 dX17_checksAll_224 rfl rfl ?_
      refine g_iaload dX17_checksAll_225 ?_
      refine g_callVT (fc := fun sς => Mdl_constantly sς x0 (gI σ (gR σ (gR σ x0 10) 27) (ix x1)) (gI σ (gR σ (gR σ x0 10) 25) (ix x1))) (ci := 17) (as := [iv (gI σ (gR σ (gR σ x0 10) 27) (ix x1)), iv (gI σ (gR σ (gR σ x0 10) 25) (ix x1))]) rfl rfl rfl q3838 qs256 q3836 mdX17_627 (ctX17_constantly x0 (gI σ (gR σ (gR σ x0 10) 27) (ix x1)) (gI σ (gR σ (gR σ x0 10) 25) (ix x1))) rfl (Nat.le_of_ble_eq_true rfl) (Nat.le_of_ble_eq_true rfl) (Nat.le_of_ble_eq_true rfl) pu_V (by decide) dX17_checksAll_226 (fun _ σ1 => ?_)
      refine g_iincB (w := 1) 1 dX17_checksAll_229 rfl (by decide) (by decide) (fun _ => rfl) (fun y2 => ?_)
      refine g_goto 196 dX17_checksAll_232 (by decide) ?_
      refine G.sub [1, 0] rfl ?_
      exact gX17_checksAll_p196 n _ _ _
def V.Mdl_checksAll_p190  (σ : HS) (x0 : Nat) : Option ((Nat ⊕ Unit) × HS) :=
  ck (tg σ x0 = 18) <| cl (Mdl_declares σ x0 ) fun _ σ1 =>
  Mdl_checksAll_p196 FU σ1 x0 (0 : Int32)
theorem V.gX17_checksAll_p190 {X : CX}  (σ : HS) (x0 : Nat) : G X RX17 "checksAll" cX17_checksAll 3 none 7 173 (enX enV (cxz X)) 190 [(0, av x0)] [] σ (Mdl_checksAll_p190 σ x0) := by
  unfold Mdl_checksAll_p190
  refine g_aload_n 0 0 dX17_checksAll_190 rfl rfl ?_
  refine g_callV (fc := fun sς => Mdl_declares sς x0 ) (ci := 17) (as := []) rfl rfl rfl q3805 qs248 mdX17_624 (ctX17_declares x0 ) rfl (Nat.le_of_ble_eq_true rfl) (Nat.le_of_ble_eq_true rfl) (Nat.le_of_ble_eq_true rfl) pu_V dX17_checksAll_191 (fun _ σ1 => ?_)
  refine g_iconst (v := 0) dX17_checksAll_194 (by decide) ?_
  refine g_istore_n 1 dX17_checksAll_195 rfl (by decide) rfl ?_
  refine G.sub [1, 0] rfl ?_
  exact gX17_checksAll_p196 FU _ _ _
def V.Mdl_checksAll_p174  (σ : HS) (x0 : Nat) : Option ((Nat ⊕ Unit) × HS) :=
  ck (tg σ x0 = 18) <|
  ck (tg σ (gR σ x0 10) = 21) <|
  ck (tg σ (gR σ (gR σ x0 10) 2) = 100 ∧ inb (8 : Int32) (ln σ (gR σ (gR σ x0 10) 2))) <|
  ck (tg σ x0 = 18) <| clT (Mdl_stops σ x0 (25 : Int32) (gI σ (gR σ (gR σ x0 10) 2) (ix (8 : Int32)))) fun _ σ1 =>
  Mdl_checksAll_p190 σ1 x0
theorem V.gX17_checksAll_p174 {X : CX}  (σ : HS) (x0 : Nat) : G X RX17 "checksAll" cX17_checksAll 3 none 7 173 (enX enV (cxz X)) 174 [(0, av x0)] [] σ (Mdl_checksAll_p174 σ x0) := by
  unfold Mdl_checksAll_p174
  refine g_aload_n 0 0 dX17_checksAll_174 rfl rfl ?_
  refine g_bipush (v := 25) dX17_checksAll_175 (by decide) ?_
  refine g_aload_n 0 0 dX17_checksAll_177 rfl rfl ?_
  refine g_getR fdX17_221 dX17_checksAll_178 ?_
  refine g_getR fdX17_302 dX17_checksAll_181 ?_
  refine g_bipush (v := 8) dX17_checksAll_184 (by decide) ?_
  refine g_iaload dX17_checksAll_186 ?_
  refine g_callVT (fc := fun sς => Mdl_stops sς x0 (25 : Int32) (gI σ (gR σ (gR σ x0 10) 2) (ix (8 : Int32)))) (ci := 17) (as := [iv (25 : Int32), iv (gI σ (gR σ (gR σ x0 10) 2) (ix (8 : Int32)))]) rfl rfl rfl q3606 qs214 q3604 mdX17_257 (ctX17_stops x0 (25 : Int32) (gI σ (gR σ (gR σ x0 10) 2) (ix (8 : Int32)))) rfl (Nat.le_of_ble_eq_true rfl) (Nat.le_of_ble_eq_true rfl) (Nat.le_of_ble_eq_true rfl) pu_V (by decide) dX17_checksAll_187 (fun _ σ1 => ?_)
  exact gX17_checksAll_p190 _ _
def V.Mdl_checksAll_p147  (σ : HS) (x0 : Nat) (x1 : Int32) (s0 : Int32) : Option ((Nat ⊕ Unit) × HS) :=
  if x1 = 0 then (
    Mdl_checksAll_p174 σ x0)
  else (
    ck (tg σ x0 = 18) <|
    ck (tg σ (gR σ x0 10) = 21) <|
    ck (tg σ (gR σ (gR σ x0 10) 5) = 100 ∧ inb s0 (ln σ (gR σ (gR σ x0 10) 5))) <|
    ck (tg σ x0 = 18) <|
    ck (tg σ (gR σ x0 10) = 21) <|
    ck (tg σ (gR σ (gR σ x0 10) 6) = 100 ∧ inb s0 (ln σ (gR σ (gR σ x0 10) 6))) <|
    if ((gI σ (gR σ (gR σ x0 10) 5) (ix s0)) + (gI σ (gR σ (gR σ x0 10) 6) (ix s0))) ≤ 0 then (
      Mdl_checksAll_p190 σ x0)
    else (
      Mdl_checksAll_p174 σ x0))
theorem V.gX17_checksAll_p147 {X : CX}  (σ : HS) (x0 : Nat) (x1 : Int32) (s0 : Int32) : G X RX17 "checksAll" cX17_checksAll 3 none 7 173 (enX enV (cxz X)) 147 [(0, av x0), (1, iv x1)] [iv s0] σ (Mdl_checksAll_p147 σ x0 x1 s0) := by
  unfold Mdl_checksAll_p147
  refine g_istore_n 2 dX17_checksAll_147 rfl (by decide) rfl ?_
  refine g_iload_n 1 2 dX17_checksAll_148 rfl rfl ?_
  refine g_if_eq 174 dX17_checksAll_149 (by decide) ?_ ?_
  · refine G.sub [1] rfl ?_
    exact gX17_checksAll_p174 _ _
  · refine g_aload_n 0 1 dX17_checksAll_152 rfl rfl ?_
    refine g_getR fdX17_221 dX17_checksAll_153 ?_
    refine g_getR fdX17_387 dX17_checksAll_156 ?_
    refine g_iload_n 2 0 dX17_checksAll_159 rfl rfl ?_
    refine g_iaload dX17_checksAll_160 ?_
    refine g_aload_n 0 1 dX17_checksAll_161 rfl rfl ?_
    refine g_getR fdX17_221 dX17_checksAll_162 ?_
    refine g_getR fdX17_390 dX17_checksAll_165 ?_
    refine g_iload_n 2 0 dX17_checksAll_168 rfl rfl ?_
    refine g_iaload dX17_checksAll_169 ?_
    refine g_iadd dX17_checksAll_170 ?_
    refine g_if_le 190 dX17_checksAll_171 (by decide) ?_ ?_
    · refine G.sub [1] rfl ?_
      exact gX17_checksAll_p190 _ _
    · refine G.sub [1] rfl ?_
      exact gX17_checksAll_p174 _ _
def V.Mdl_checksAll_p123  (σ : HS) (x0 : Nat) (s0 : Int32) : Option ((Nat ⊕ Unit) × HS) :=
  if s0 = 0 then (
    Mdl_checksAll_p147 σ x0 s0 (0 : Int32))
  else (
    ck (tg σ x0 = 18) <|
    ck (tg σ x0 = 18) <|
    ck (tg σ (gR σ x0 10) = 21) <|
    ck (tg σ (gR σ x0 10) = 21) <| cl (Pln_typeOfFunction σ (gR σ x0 10) ((gJ σ (gR σ x0 10) 33).toInt32)) fun r2 σ1 =>
    Mdl_checksAll_p147 σ1 x0 s0 r2)
theorem V.gX17_checksAll_p123 {X : CX}  (σ : HS) (x0 : Nat) (s0 : Int32) : G X RX17 "checksAll" cX17_checksAll 3 none 7 173 (enX enV (cxz X)) 123 [(0, av x0)] [iv s0] σ (Mdl_checksAll_p123 σ x0 s0) := by
  unfold Mdl_checksAll_p123
  refine g_istore_n 1 dX17_checksAll_123 rfl (by decide) rfl ?_
  refine g_iload_n 1 0 dX17_checksAll_124 rfl rfl ?_
  refine g_if_eq 146 dX17_checksAll_125 (by decide) ?_ ?_
  · refine g_iconst (v := 0) dX17_checksAll_146 (by decide) ?_
    refine G.sub [1, 0] rfl ?_
    exact gX17_checksAll_p147 _ _ _ _
  · refine g_aload_n 0 1 dX17_checksAll_128 rfl rfl ?_
    refine g_getR fdX17_221 dX17_checksAll_129 ?_
    refine g_aload_n 0 1 dX17_checksAll_132 rfl rfl ?_
    refine g_getR fdX17_221 dX17_checksAll_133 ?_
    refine g_getJ fdX17_348 dX17_checksAll_136 ?_
    refine g_l2i dX17_checksAll_139 ?_
    refine g_callV (fc := fun sς => Pln_typeOfFunction sς (gR σ x0 10) ((gJ σ (gR σ x0 10) 33).toInt32)) (ci := 20) (as := [iv ((gJ σ (gR σ x0 10) 33).toInt32)]) rfl rfl rfl q3796 q3797 mdX17_621 (ctX20_typeOfFunction (gR σ x0 10) ((gJ σ (gR σ x0 10) 33).toInt32)) rfl (Nat.le_of_ble_eq_true rfl) (Nat.le_of_ble_eq_true rfl) (Nat.le_of_ble_eq_true rfl) pu_I dX17_checksAll_140 (fun r2 σ1 => ?_)
    refine g_goto 147 dX17_checksAll_143 (by decide) ?_
    refine G.sub [1, 0] rfl ?_
    exact gX17_checksAll_p147 _ _ _ _
def V.Mdl_checksAll_p82  (σ : HS) (x0 : Nat) : Option ((Nat ⊕ Unit) × HS) :=
  ck (tg σ x0 = 18) <| clT (Mdl_checksExports σ x0 ) fun _ σ1 =>
  ck (tg σ1 x0 = 18) <|
  ck (tg σ1 (gR σ1 x0 10) = 21) <|
  if (gJ σ1 (gR σ1 x0 10) 33) < (0 : Int64) then (
    Mdl_checksAll_p190 σ1 x0)
  else (
    ck (tg σ1 x0 = 18) <|
    ck (tg σ1 (gR σ1 x0 10) = 21) <|
    ck (tg σ1 x0 = 18) <|
    ck (tg σ1 (gR σ1 x0 10) = 21) <| cl (Pln_all σ1 (gR σ1 x0 10) (0 : Int32)) fun r3 σ2 =>
    if r3.toInt64 ≤ (gJ σ1 (gR σ1 x0 10) 33) then (
      Mdl_checksAll_p123 σ2 x0 (0 : Int32))
    else (
      Mdl_checksAll_p123 σ2 x0 (1 : Int32)))
theorem V.gX17_checksAll_p82 {X : CX}  (σ : HS) (x0 : Nat) : G X RX17 "checksAll" cX17_checksAll 3 none 7 173 (enX enV (cxz X)) 82 [(0, av x0)] [] σ (Mdl_checksAll_p82 σ x0) := by
  unfold Mdl_checksAll_p82
  refine g_aload_n 0 0 dX17_checksAll_82 rfl rfl ?_
  refine g_callVT (fc := fun sς => Mdl_checksExports sς x0 ) (ci := 17) (as := []) rfl rfl rfl q3789 qs246 q3787 mdX17_618 (ctX17_checksExports x0 ) rfl (Nat.le_of_ble_eq_true rfl) (Nat.le_of_ble_eq_true rfl) (Nat.le_of_ble_eq_true rfl) pu_V (by decide) dX17_checksAll_83 (fun _ σ1 => ?_)
  refine g_aload_n 0 0 dX17_checksAll_86 rfl rfl ?_
  refine g_getR fdX17_221 dX17_checksAll_87 ?_
  refine g_getJ fdX17_348 dX17_checksAll_90 ?_
  refine g_lconst (v := 0) dX17_checksAll_93 (by decide) ?_
  refine g_lcmp_lt 190 dX17_checksAll_94 dX17_checksAll_95 (by decide) ?_ ?_
  · exact gX17_checksAll_p190 _ _
  · refine g_aload_n 0 0 dX17_checksAll_98 rfl rfl ?_
    refine g_getR fdX17_221 dX17_checksAll_99 ?_
    refine g_getJ fdX17_348 dX17_checksAll_102 ?_
    refine g_aload_n 0 0 dX17_checksAll_105 rfl rfl ?_
    refine g_getR fdX17_221 dX17_checksAll_106 ?_
    refine g_iconst (v := 0) dX17_checksAll_109 (by decide) ?_
    refine g_callV (fc := fun sς => Pln_all sς (gR σ1 x0 10) (0 : Int32)) (ci := 20) (as := [iv (0 : Int32)]) rfl rfl rfl q3780 q3781 mdX17_615 (ctX20_all (gR σ1 x0 10) (0 : Int32)) rfl (Nat.le_of_ble_eq_true rfl) (Nat.le_of_ble_eq_true rfl) (Nat.le_of_ble_eq_true rfl) pu_I dX17_checksAll_110 (fun r3 σ2 => ?_)
    refine g_i2l dX17_checksAll_113 ?_
    refine g_lcmp_ge 122 dX17_checksAll_114 dX17_checksAll_115 (by decide) ?_ ?_
    · refine g_iconst (v := 0) dX17_checksAll_122 (by decide) ?_
      exact gX17_checksAll_p123 _ _ _
    · refine g_iconst (v := 1) dX17_checksAll_118 (by decide) ?_
      refine g_goto 123 dX17_checksAll_119 (by decide) ?_
      exact gX17_checksAll_p123 _ _ _
def V.Mdl_checksAll_p79  (σ : HS) (x0 : Nat) (s0 : Int32) (s1 : Int32) (s2 : Nat) : Option ((Nat ⊕ Unit) × HS) :=
  ck (tg σ s2 = 18) <| clT (Mdl_stops σ s2 s1 s0) fun _ σ1 =>
  Mdl_checksAll_p82 σ1 x0
theorem V.gX17_checksAll_p79 {X : CX}  (σ : HS) (x0 : Nat) (s0 : Int32) (s1 : Int32) (s2 : Nat) : G X RX17 "checksAll" cX17_checksAll 3 none 7 173 (enX enV (cxz X)) 79 [(0, av x0)] [iv s0, iv s1, av s2] σ (Mdl_checksAll_p79 σ x0 s0 s1 s2) := by
  unfold Mdl_checksAll_p79
  refine g_callVT (fc := fun sς => Mdl_stops sς s2 s1 s0) (ci := 17) (as := [iv s1, iv s0]) rfl rfl rfl q3606 qs214 q3604 mdX17_257 (ctX17_stops s2 s1 s0) rfl (Nat.le_of_ble_eq_true rfl) (Nat.le_of_ble_eq_true rfl) (Nat.le_of_ble_eq_true rfl) pu_V (by decide) dX17_checksAll_79 (fun _ σ1 => ?_)
  exact gX17_checksAll_p82 _ _
def V.Mdl_checksAll_p23  (σ : HS) (x0 : Nat) : Option ((Nat ⊕ Unit) × HS) :=
  ck (tg σ x0 = 18) <| clT (Mdl_checksTypes σ x0 ) fun _ σ1 =>
  ck (tg σ1 x0 = 18) <| clT (Mdl_checksLimits σ1 x0 ) fun _ σ2 =>
  ck (tg σ2 x0 = 18) <|
  ck (tg σ2 (gR σ2 x0 10) = 21) <| cl (Pln_all σ2 (gR σ2 x0 10) (2 : Int32)) fun r4 σ3 =>
  if r4 ≤ (1 : Int32) then (
    Mdl_checksAll_p82 σ3 x0)
  else (
    ck (tg σ3 x0 = 18) <|
    ck (tg σ3 (gR σ3 x0 10) = 21) <|
    ck (tg σ3 (gR σ3 (gR σ3 x0 10) 2) = 100 ∧ inb (5 : Int32) (ln σ3 (gR σ3 (gR σ3 x0 10) 2))) <|
    if (gI σ3 (gR σ3 (gR σ3 x0 10) 2) (ix (5 : Int32))) < 0 then (
      ck (tg σ3 x0 = 18) <|
      ck (tg σ3 (gR σ3 x0 10) = 21) <|
      ck (tg σ3 (gR σ3 (gR σ3 x0 10) 2) = 100 ∧ inb (2 : Int32) (ln σ3 (gR σ3 (gR σ3 x0 10) 2))) <|
      Mdl_checksAll_p79 σ3 x0 (gI σ3 (gR σ3 (gR σ3 x0 10) 2) (ix (2 : Int32))) (22 : Int32) x0)
    else (
      ck (tg σ3 x0 = 18) <|
      ck (tg σ3 (gR σ3 x0 10) = 21) <|
      ck (tg σ3 (gR σ3 (gR σ3 x0 10) 2) = 100 ∧ inb (5 : Int32) (ln σ3 (gR σ3 (gR σ3 x0 10) 2))) <|
      Mdl_checksAll_p79 σ3 x0 (gI σ3 (gR σ3 (gR σ3 x0 10) 2) (ix (5 : Int32))) (22 : Int32) x0))
theorem V.gX17_checksAll_p23 {X : CX}  (σ : HS) (x0 : Nat) : G X RX17 "checksAll" cX17_checksAll 3 none 7 173 (enX enV (cxz X)) 23 [(0, av x0)] [] σ (Mdl_checksAll_p23 σ x0) := by
  unfold Mdl_checksAll_p23
  refine g_aload_n 0 0 dX17_checksAll_23 rfl rfl ?_
  refine g_callVT (fc := fun sς => Mdl_checksTypes sς x0 ) (ci := 17) (as := []) rfl rfl rfl q3769 qs244 q3767 mdX17_609 (ctX17_checksTypes x0 ) rfl (Nat.le_of_ble_eq_true rfl) (Nat.le_of_ble_eq_true rfl) (Nat.le_of_ble_eq_true rfl) pu_V (by decide) dX17_checksAll_24 (fun _ σ1 => ?_)
  refine g_aload_n 0 0 dX17_checksAll_27 rfl rfl ?_
  refine g_callVT (fc := fun sς => Mdl_checksLimits sς x0 ) (ci := 17) (as := []) rfl rfl rfl q3773 qs245 q3771 mdX17_612 (ctX17_checksLimits x0 ) rfl (Nat.le_of_ble_eq_true rfl) (Nat.le_of_ble_eq_true rfl) (Nat.le_of_ble_eq_true rfl) pu_V (by decide) dX17_checksAll_28 (fun _ σ2 => ?_)
  refine g_aload_n 0 0 dX17_checksAll_31 rfl rfl ?_
  refine g_getR fdX17_221 dX17_checksAll_32 ?_
  refine g_iconst (v := 2) dX17_checksAll_35 (by decide) ?_
  refine g_callV (fc := fun sς => Pln_all sς (gR σ2 x0 10) (2 : Int32)) (ci := 20) (as := [iv (2 : Int32)]) rfl rfl rfl q3780 q3781 mdX17_615 (ctX20_all (gR σ2 x0 10) (2 : Int32)) rfl (Nat.le_of_ble_eq_true rfl) (Nat.le_of_ble_eq_true rfl) (Nat.le_of_ble_eq_true rfl) pu_I dX17_checksAll_36 (fun r4 σ3 => ?_)
  refine g_iconst (v := 1) dX17_checksAll_39 (by decide) ?_
  refine g_icmp_le 82 dX17_checksAll_40 (by decide) ?_ ?_
  · exact gX17_checksAll_p82 _ _
  · refine g_aload_n 0 0 dX17_checksAll_43 rfl rfl ?_
    refine g_bipush (v := 22) dX17_checksAll_44 (by decide) ?_
    refine g_aload_n 0 0 dX17_checksAll_46 rfl rfl ?_
    refine g_getR fdX17_221 dX17_checksAll_47 ?_
    refine g_getR fdX17_302 dX17_checksAll_50 ?_
    refine g_iconst (v := 5) dX17_checksAll_53 (by decide) ?_
    refine g_iaload dX17_checksAll_54 ?_
    refine g_if_lt 70 dX17_checksAll_55 (by decide) ?_ ?_
    · refine g_aload_n 0 0 dX17_checksAll_70 rfl rfl ?_
      refine g_getR fdX17_221 dX17_checksAll_71 ?_
      refine g_getR fdX17_302 dX17_checksAll_74 ?_
      refine g_iconst (v := 2) dX17_checksAll_77 (by decide) ?_
      refine g_iaload dX17_checksAll_78 ?_
      exact gX17_checksAll_p79 _ _ _ _ _
    · refine g_aload_n 0 0 dX17_checksAll_58 rfl rfl ?_
      refine g_getR fdX17_221 dX17_checksAll_59 ?_
      refine g_getR fdX17_302 dX17_checksAll_62 ?_
      refine g_iconst (v := 5) dX17_checksAll_65 (by decide) ?_
      refine g_iaload dX17_checksAll_66 ?_
      refine g_goto 79 dX17_checksAll_67 (by decide) ?_
      exact gX17_checksAll_p79 _ _ _ _ _
def V.Mdl_checksAll (σ : HS) (x0 : Nat) : Option ((Nat ⊕ Unit) × HS) :=
  ck (tg σ x0 = 18) <|
  ck (tg σ (gR σ x0 10) = 21) <|
  if (gI σ (gR σ x0 10) 3) < 0 then (
    Mdl_checksAll_p23 σ x0)
  else (
    ck (tg σ x0 = 18) <|
    ck (tg σ (gR σ x0 10) = 21) <|
    ck (tg σ x0 = 18) <| clT (Mdl_stops σ x0 (40 : Int32) (gI σ (gR σ x0 10) 3)) fun _ σ1 =>
    Mdl_checksAll_p23 σ1 x0)
theorem V.ctX17_checksAll (x0 : Nat) : Ct yX17_checksAll  cX17_checksAll 3 none 7 173 eXV [av x0] (fun σ => Mdl_checksAll σ x0) := by
  refine Ct.of (own := RX17) (nm := "checksAll") (desc := "()V") rfl (by decide) (Nat.le_of_ble_eq_true rfl) (by decide) (fun X σ => ?_)
  show G X RX17 "checksAll" cX17_checksAll 3 none 7 173 (enX enV (cxz X)) 0 [(0, av x0)] [] σ (Mdl_checksAll σ x0)
  unfold Mdl_checksAll
  refine g_aload_n 0 0 dX17_checksAll_0 rfl rfl ?_
  refine g_getR fdX17_221 dX17_checksAll_1 ?_
  refine g_getI fdX17_360 dX17_checksAll_4 ?_
  refine g_if_lt 23 dX17_checksAll_7 (by decide) ?_ ?_
  · exact gX17_checksAll_p23 _ _
  · refine g_aload_n 0 0 dX17_checksAll_10 rfl rfl ?_
    refine g_bipush (v := 40) dX17_checksAll_11 (by decide) ?_
    refine g_aload_n 0 0 dX17_checksAll_13 rfl rfl ?_
    refine g_getR fdX17_221 dX17_checksAll_14 ?_
    refine g_getI fdX17_360 dX17_checksAll_17 ?_
    refine g_callVT (fc := fun sς => Mdl_stops sς x0 (40 : Int32) (gI σ (gR σ x0 10) 3)) (ci := 17) (as := [iv (40 : Int32), iv (gI σ (gR σ x0 10) 3)]) rfl rfl rfl q3606 qs214 q3604 mdX17_257 (ctX17_stops x0 (40 : Int32) (gI σ (gR σ x0 10) 3)) rfl (Nat.le_of_ble_eq_true rfl) (Nat.le_of_ble_eq_true rfl) (Nat.le_of_ble_eq_true rfl) pu_V (by decide) dX17_checksAll_20 (fun _ σ1 => ?_)
    exact gX17_checksAll_p23 _ _
theorem V.dX17_module_0 : decode cX17_module 0 = .ok (.iload_n 1, 1) := by decide +kernel
theorem V.dX17_module_1 : decode cX17_module 1 = .ok (.ifCond .lt 20, 3) := by decide +kernel
theorem V.dX17_module_4 : decode cX17_module 4 = .ok (.iload_n 1, 1) := by decide +kernel
theorem V.dX17_module_5 : decode cX17_module 5 = .ok (.aload_n 0, 1) := by decide +kernel
theorem V.dX17_module_6 : decode cX17_module 6 = .ok (.getfield 215, 3) := by decide +kernel
theorem V.dX17_module_9 : decode cX17_module 9 = .ok (.if_icmp .gt 12, 3) := by decide +kernel
theorem V.dX17_module_12 : decode cX17_module 12 = .ok (.aload_n 0, 1) := by decide +kernel
theorem V.dX17_module_13 : decode cX17_module 13 = .ok (.getfield 218, 3) := by decide +kernel
theorem V.dX17_module_16 : decode cX17_module 16 = .ok (.bipush 16, 2) := by decide +kernel
theorem V.dX17_module_18 : decode cX17_module 18 = .ok (.if_icmp .ne 6, 3) := by decide +kernel
theorem V.dX17_module_21 : decode cX17_module 21 = .ok (.bipush (-2), 2) := by decide +kernel
theorem V.dX17_module_23 : decode cX17_module 23 = .ok (.ireturn, 1) := by decide +kernel
theorem V.dX17_module_24 : decode cX17_module 24 = .ok (.aload_n 0, 1) := by decide +kernel
theorem V.dX17_module_25 : decode cX17_module 25 = .ok (.getfield 221, 3) := by decide +kernel
theorem V.dX17_module_28 : decode cX17_module 28 = .ok (.astore_n 2, 1) := by decide +kernel
theorem V.dX17_module_29 : decode cX17_module 29 = .ok (.aload_n 0, 1) := by decide +kernel
theorem V.dX17_module_30 : decode cX17_module 30 = .ok (.getfield 225, 3) := by decide +kernel
theorem V.dX17_module_33 : decode cX17_module 33 = .ok (.ifnonnull 14, 3) := by decide +kernel
theorem V.dX17_module_36 : decode cX17_module 36 = .ok (.aload_n 0, 1) := by decide +kernel
theorem V.dX17_module_37 : decode cX17_module 37 = .ok (.new 14, 3) := by decide +kernel
theorem V.dX17_module_40 : decode cX17_module 40 = .ok (.dup, 1) := by decide +kernel
theorem V.dX17_module_41 : decode cX17_module 41 = .ok (.invokespecial 228, 3) := by decide +kernel
theorem V.dX17_module_44 : decode cX17_module 44 = .ok (.putfield 225, 3) := by decide +kernel
theorem V.dX17_module_47 : decode cX17_module 47 = .ok (.aload_n 0, 1) := by decide +kernel
theorem V.dX17_module_48 : decode cX17_module 48 = .ok (.aload_n 0, 1) := by decide +kernel
theorem V.dX17_module_49 : decode cX17_module 49 = .ok (.getfield 225, 3) := by decide +kernel
theorem V.dX17_module_52 : decode cX17_module 52 = .ok (.putfield 221, 3) := by decide +kernel
theorem V.dX17_module_55 : decode cX17_module 55 = .ok (.aload_n 0, 1) := by decide +kernel
theorem V.dX17_module_56 : decode cX17_module 56 = .ok (.getfield 221, 3) := by decide +kernel
theorem V.dX17_module_59 : decode cX17_module 59 = .ok (.iload_n 1, 1) := by decide +kernel
theorem V.dX17_module_60 : decode cX17_module 60 = .ok (.invokevirtual 229, 3) := by decide +kernel
theorem V.dX17_module_63 : decode cX17_module 63 = .ok (.iconst 0, 1) := by decide +kernel
theorem V.dX17_module_64 : decode cX17_module 64 = .ok (.istore_n 3, 1) := by decide +kernel
theorem V.dX17_module_65 : decode cX17_module 65 = .ok (.iload_n 3, 1) := by decide +kernel
theorem V.dX17_module_66 : decode cX17_module 66 = .ok (.iload_n 1, 1) := by decide +kernel
theorem V.dX17_module_67 : decode cX17_module 67 = .ok (.if_icmp .ge 24, 3) := by decide +kernel
theorem V.dX17_module_70 : decode cX17_module 70 = .ok (.aload_n 0, 1) := by decide +kernel
theorem V.dX17_module_71 : decode cX17_module 71 = .ok (.getfield 221, 3) := by decide +kernel
theorem V.dX17_module_74 : decode cX17_module 74 = .ok (.getfield 232, 3) := by decide +kernel
theorem V.dX17_module_77 : decode cX17_module 77 = .ok (.iload_n 3, 1) := by decide +kernel
theorem V.dX17_module_78 : decode cX17_module 78 = .ok (.aload_n 0, 1) := by decide +kernel
theorem V.dX17_module_79 : decode cX17_module 79 = .ok (.getfield 10, 3) := by decide +kernel
theorem V.dX17_module_82 : decode cX17_module 82 = .ok (.iload_n 3, 1) := by decide +kernel
theorem V.dX17_module_83 : decode cX17_module 83 = .ok (.baload, 1) := by decide +kernel
theorem V.dX17_module_84 : decode cX17_module 84 = .ok (.bastore, 1) := by decide +kernel
theorem V.dX17_module_85 : decode cX17_module 85 = .ok (.iinc 3 1, 3) := by decide +kernel
theorem V.dX17_module_88 : decode cX17_module 88 = .ok (.goto (-23), 3) := by decide +kernel
theorem V.dX17_module_91 : decode cX17_module 91 = .ok (.aload_n 0, 1) := by decide +kernel
theorem V.dX17_module_92 : decode cX17_module 92 = .ok (.iconst 0, 1) := by decide +kernel
theorem V.dX17_module_93 : decode cX17_module 93 = .ok (.putfield 215, 3) := by decide +kernel
theorem V.dX17_module_96 : decode cX17_module 96 = .ok (.aload_n 0, 1) := by decide +kernel
theorem V.dX17_module_97 : decode cX17_module 97 = .ok (.iconst 1, 1) := by decide +kernel
theorem V.dX17_module_98 : decode cX17_module 98 = .ok (.putfield 235, 3) := by decide +kernel
theorem V.dX17_module_101 : decode cX17_module 101 = .ok (.aload_n 0, 1) := by decide +kernel
theorem V.dX17_module_102 : decode cX17_module 102 = .ok (.iconst 0, 1) := by decide +kernel
theorem V.dX17_module_103 : decode cX17_module 103 = .ok (.putfield 239, 3) := by decide +kernel
theorem V.dX17_module_106 : decode cX17_module 106 = .ok (.aload_n 0, 1) := by decide +kernel
theorem V.dX17_module_107 : decode cX17_module 107 = .ok (.iconst (-1), 1) := by decide +kernel
theorem V.dX17_module_108 : decode cX17_module 108 = .ok (.putfield 242, 3) := by decide +kernel
theorem V.dX17_module_111 : decode cX17_module 111 = .ok (.aload_n 0, 1) := by decide +kernel
theorem V.dX17_module_112 : decode cX17_module 112 = .ok (.invokevirtual 245, 3) := by decide +kernel
theorem V.dX17_module_115 : decode cX17_module 115 = .ok (.aload_n 0, 1) := by decide +kernel
theorem V.dX17_module_116 : decode cX17_module 116 = .ok (.invokevirtual 248, 3) := by decide +kernel
theorem V.dX17_module_119 : decode cX17_module 119 = .ok (.aload_n 0, 1) := by decide +kernel
theorem V.dX17_module_120 : decode cX17_module 120 = .ok (.getfield 16, 3) := by decide +kernel
theorem V.dX17_module_123 : decode cX17_module 123 = .ok (.aload_n 0, 1) := by decide +kernel
theorem V.dX17_module_124 : decode cX17_module 124 = .ok (.getfield 218, 3) := by decide +kernel
theorem V.dX17_module_127 : decode cX17_module 127 = .ok (.aload_n 0, 1) := by decide +kernel
theorem V.dX17_module_128 : decode cX17_module 128 = .ok (.getfield 221, 3) := by decide +kernel
theorem V.dX17_module_131 : decode cX17_module 131 = .ok (.aastore, 1) := by decide +kernel
theorem V.dX17_module_132 : decode cX17_module 132 = .ok (.aload_n 0, 1) := by decide +kernel
theorem V.dX17_module_133 : decode cX17_module 133 = .ok (.aconst_null, 1) := by decide +kernel
theorem V.dX17_module_134 : decode cX17_module 134 = .ok (.putfield 225, 3) := by decide +kernel
theorem V.dX17_module_137 : decode cX17_module 137 = .ok (.aload_n 0, 1) := by decide +kernel
theorem V.dX17_module_138 : decode cX17_module 138 = .ok (.dup, 1) := by decide +kernel
theorem V.dX17_module_139 : decode cX17_module 139 = .ok (.getfield 218, 3) := by decide +kernel
theorem V.dX17_module_142 : decode cX17_module 142 = .ok (.iconst 1, 1) := by decide +kernel
theorem V.dX17_module_143 : decode cX17_module 143 = .ok (.iadd, 1) := by decide +kernel
theorem V.dX17_module_144 : decode cX17_module 144 = .ok (.putfield 218, 3) := by decide +kernel
theorem V.dX17_module_147 : decode cX17_module 147 = .ok (.goto 11, 3) := by decide +kernel
theorem V.dX17_module_150 : decode cX17_module 150 = .ok (.astore_n 3, 1) := by decide +kernel
theorem V.dX17_module_151 : decode cX17_module 151 = .ok (.aload_n 0, 1) := by decide +kernel
theorem V.dX17_module_152 : decode cX17_module 152 = .ok (.aload_n 2, 1) := by decide +kernel
theorem V.dX17_module_153 : decode cX17_module 153 = .ok (.putfield 221, 3) := by decide +kernel
theorem V.dX17_module_156 : decode cX17_module 156 = .ok (.iconst (-1), 1) := by decide +kernel
theorem V.dX17_module_157 : decode cX17_module 157 = .ok (.ireturn, 1) := by decide +kernel
theorem V.dX17_module_158 : decode cX17_module 158 = .ok (.aload_n 0, 1) := by decide +kernel
theorem V.dX17_module_159 : decode cX17_module 159 = .ok (.aload_n 2, 1) := by decide +kernel
theorem V.dX17_module_160 : decode cX17_module 160 = .ok (.putfield 221, 3) := by decide +kernel
theorem V.dX17_module_163 : decode cX17_module 163 = .ok (.aload_n 0, 1) := by decide +kernel
theorem V.dX17_module_164 : decode cX17_module 164 = .ok (.getfield 218, 3) := by decide +kernel
theorem V.dX17_module_167 : decode cX17_module 167 = .ok (.iconst 1, 1) := by decide +kernel
theorem V.dX17_module_168 : decode cX17_module 168 = .ok (.isub, 1) := by decide +kernel
theorem V.dX17_module_169 : decode cX17_module 169 = .ok (.ireturn, 1) := by decide +kernel
theorem V.fdX17_218 : FD RX17 218 17 3 0 := ⟨(RX17, TX17, 101), tyX17, rfl, rfl, in_X17, by decide, Or.inl q3039, rfl⟩
theorem V.fdX17_225 : FD RX17 225 17 5 2 := ⟨(RX17, TX17, 101), tyX17, rfl, rfl, in_X17, by decide, Or.inl q3041, rfl⟩
theorem V.ndX17_14 : ND RX17 14 20 58 := ⟨(RX20, TX20, 58), tyX20, rfl, rfl, in_X20, tyX20_ok, by decide, q2992, q3353, q385⟩
theorem V.mdX17_228 : MD RX17 228 yX20_init cX20_init 1 none 0 := ⟨Or.inr ⟨_, q3354⟩, q385, q3356, by decide, by decide, by decide +kernel⟩
theorem V.fpX17_225 {nm : String} : FP RX17 nm 225 17 5 (.object "ModuleEngineModel$Plan") := ⟨(RX17, TX17, 101), tyX17, rfl, rfl, in_X17, by decide, tyX17_ok, nmX17, rfl, Or.inl ⟨rfl, Or.inl q3041⟩⟩
theorem V.fpX17_221 {nm : String} : FP RX17 nm 221 17 10 (.object "ModuleEngineModel$Plan") := ⟨(RX17, TX17, 101), tyX17, rfl, rfl, in_X17, by decide, tyX17_ok, nmX17, rfl, Or.inl ⟨rfl, Or.inl q3046⟩⟩
theorem V.mdX17_229 : MD RX17 229 yX20_begin cX20_begin 3 none 1 := ⟨Or.inl q3592, q385, q3595, by decide, by decide, by decide +kernel⟩
theorem V.fpX17_235 {nm : String} : FP RX17 nm 235 17 6 (.boolean) := ⟨(RX17, TX17, 101), tyX17, rfl, rfl, in_X17, by decide, tyX17_ok, nmX17, rfl, Or.inl ⟨rfl, Or.inl q3042⟩⟩
theorem V.mdX17_245 : MD RX17 245 yX17_readsAll cX17_readsAll 7 none 0 := ⟨Or.inl q3596, q377, q3599, by decide, by decide, by decide +kernel⟩
theorem V.mdX17_248 : MD RX17 248 yX17_checksAll cX17_checksAll 3 none 0 := ⟨Or.inl q3763, q377, q3766, by decide, by decide, by decide +kernel⟩
theorem V.fdX17_16 : FD RX17 16 17 4 2 := ⟨(RX17, TX17, 101), tyX17, rfl, rfl, in_X17, by decide, Or.inl q3040, rfl⟩
theorem V.fpX17_218 {nm : String} : FP RX17 nm 218 17 3 (.int) := ⟨(RX17, TX17, 101), tyX17, rfl, rfl, in_X17, by decide, tyX17_ok, nmX17, rfl, Or.inl ⟨rfl, Or.inl q3039⟩⟩
theorem V.fdX17_232 : FD RX17 232 20 0 2 := ⟨(RX20, TX20, 58), tyX20, rfl, rfl, in_X20, by decide, Or.inr ⟨_, q3360⟩, rfl⟩
/-! ModuleEngineModel.module(I)I -/
def V.Mdl_module_p150  (σ : HS) (x0 : Nat) (x2 : Nat) (s0 : Nat) : Option (Int32 × HS) :=
  ck (tg σ x0 = 18) <| bn (sR σ x0 10 x2) fun σ1 =>
  some ((-1 : Int32), σ1)
theorem V.gX17_module_p150 {X : CX}  (σ : HS) (x0 : Nat) (x2 : Nat) (s0 : Nat) : G X RX17 "module" cX17_module 4 (some .int) 10 248 enI 150 [(0, av x0), (2, av x2)] [av s0] σ (Mdl_module_p150 σ x0 x2 s0) := by
  unfold Mdl_module_p150
  refine g_astore_n 3 dX17_module_150 rfl (by decide) rfl ?_
  refine g_aload_n 0 1 dX17_module_151 rfl rfl ?_
  refine g_aload_n 2 2 dX17_module_152 rfl rfl ?_
  refine g_putR fpX17_221 rfl dX17_module_153 (fun σ1 => ?_)
  refine g_iconst (v := (-1)) dX17_module_156 (by decide) ?_
  exact g_ireturn rfl dX17_module_157
def V.Mdl_module_p65  : Nat → HS → Nat → Int32 → Nat → Int32 → Option (Int32 × HS)
  | 0, _, _, _, _, _ => none
  | n + 1, σ, x0, x1, x2, x3 =>
    if x1 ≤ x3 then (
      ck (tg σ x0 = 18) <| bn (sI σ x0 1 (0 : Int32)) fun σ1 =>
      ck (tg σ1 x0 = 18) <| bn (sI σ1 x0 6 (1 : Int32)) fun σ2 =>
      ck (tg σ2 x0 = 18) <| bn (sI σ2 x0 7 (0 : Int32)) fun σ3 =>
      ck (tg σ3 x0 = 18) <| bn (sI σ3 x0 8 (-1 : Int32)) fun σ4 =>
      ck (tg σ4 x0 = 18) <| clH (Mdl_readsAll σ4 x0 ) (fun w6 σ7 => ck (tg σ7 w6 = 19) <| (
          Mdl_module_p150 σ7 x0 x2 w6)) fun _ σ5 =>
      ck (tg σ5 x0 = 18) <| clH (Mdl_checksAll σ5 x0 ) (fun w9 σ10 => ck (tg σ10 w9 = 19) <| (
          Mdl_module_p150 σ10 x0 x2 w9)) fun _ σ8 =>
      ck (tg σ8 x0 = 18) <|
      ck (tg σ8 x0 = 18) <|
      ck (tg σ8 x0 = 18) <|
      ck (tg σ8 (gR σ8 x0 4) = 107 ∧ inb (gI σ8 x0 3) (ln σ8 (gR σ8 x0 4)) ∧ tg σ8 (gR σ8 x0 10) = 21) <| bn (sR σ8 (gR σ8 x0 4) (ix (gI σ8 x0 3)) (gR σ8 x0 10)) fun σ11 =>
      ck (tg σ11 x0 = 18) <| bn (sR σ11 x0 5 0) fun σ12 =>
      ck (tg σ12 x0 = 18) <|
      ck (tg σ12 x0 = 18) <| bn (sI σ12 x0 3 ((gI σ12 x0 3) + (1 : Int32))) fun σ13 =>
      ck (tg σ13 x0 = 18) <| bn (sR σ13 x0 10 x2) fun σ14 =>
      ck (tg σ14 x0 = 18) <|
      some ((gI σ14 x0 3) - (1 : Int32), σ14))
    else (
      ck (tg σ x0 = 18) <|
      ck (tg σ (gR σ x0 10) = 21) <|
      ck (tg σ x0 = 18) <|
      ck (tg σ (gR σ x0 0) = 102 ∧ inb x3 (ln σ (gR σ x0 0))) <|
      ck (tg σ (gR σ (gR σ x0 10) 0) = 102 ∧ inb x3 (ln σ (gR σ (gR σ x0 10) 0))) <| bn (sI σ (gR σ (gR σ x0 10) 0) (ix x3) (i2b (gI σ (gR σ x0 0) (ix x3)))) fun σ15 =>
      bn (x3 + (1 : Int32)) fun y16 =>
      Mdl_module_p65 n σ15 x0 x1 x2 y16)
theorem V.gX17_module_p65 {X : CX}  : ∀ (n : Nat) (σ : HS) (x0 : Nat) (x1 : Int32) (x2 : Nat) (x3 : Int32), G X RX17 "module" cX17_module 4 (some .int) 10 248 enI 65 [(0, av x0), (1, iv x1), (2, av x2), (3, iv x3)] [] σ (Mdl_module_p65 n σ x0 x1 x2 x3)
  | 0, σ, x0, x1, x2, x3 => by rw [Mdl_module_p65]; exact G.nul
  | n + 1, σ, x0, x1, x2, x3 => by
    rw [Mdl_module_p65]
    refine g_iload_n 3 3 dX17_module_65 rfl rfl ?_
    refine g_iload_n 1 1 dX17_module_66 rfl rfl ?_
    refine g_icmp_ge 91 dX17_module_67 (by decide) ?_ ?_
    · refine g_aload_n 0 0 dX17_module_91 rfl rfl ?_
      refine g_iconst (v := 0) dX17_module_92 (by decide) ?_
      refine g_putI fpX17_215 dX17_module_93 (fun σ1 => ?_)
      refine g_aload_n 0 0 dX17_module_96 rfl rfl ?_
      refine g_iconst (v := 1) dX17_module_97 (by decide) ?_
      refine g_putZ fpX17_235 ⟨by decide +kernel, by decide +kernel⟩ dX17_module_98 (fun σ2 => ?_)
      refine g_aload_n 0 0 dX17_module_101 rfl rfl ?_
      refine g_iconst (v := 0) dX17_module_102 (by decide) ?_
      refine g_putI fpX17_239 dX17_module_103 (fun σ3 => ?_)
      refine g_aload_n 0 0 dX17_module_106 rfl rfl ?_
      refine g_iconst (v := (-1)) dX17_module_107 (by decide) ?_
      refine g_putI fpX17_242 dX17_module_108 (fun σ4 => ?_)
      refine g_aload_n 0 0 dX17_module_111 rfl rfl ?_
      refine g_callVH (fc := fun sς => Mdl_readsAll sς x0 ) (ci := 17) (as := []) 111 147 150 20 18 rfl rfl rfl rfl rfl q3598 qs212 q3596 mdX17_245 (ctX17_readsAll x0 ) rfl (Nat.le_of_ble_eq_true rfl) (Nat.le_of_ble_eq_true rfl) (Nat.le_of_ble_eq_true rfl) pu_V (by decide) (by decide) (by decide) q2994 dX17_module_112 (fun _ σ5 => ?_) (fun w6 σ7 => ?_)
      · refine g_aload_n 0 0 dX17_module_115 rfl rfl ?_
        refine g_callVH (fc := fun sς => Mdl_checksAll sς x0 ) (ci := 17) (as := []) 111 147 150 20 18 rfl rfl rfl rfl rfl q3765 qs243 q3763 mdX17_248 (ctX17_checksAll x0 ) rfl (Nat.le_of_ble_eq_true rfl) (Nat.le_of_ble_eq_true rfl) (Nat.le_of_ble_eq_true rfl) pu_V (by decide) (by decide) (by decide) q2994 dX17_module_116 (fun _ σ8 => ?_) (fun w9 σ10 => ?_)
        · refine g_aload_n 0 0 dX17_module_119 rfl rfl ?_
          refine g_getR fdX17_16 dX17_module_120 ?_
          refine g_aload_n 0 0 dX17_module_123 rfl rfl ?_
          refine g_getI fdX17_218 dX17_module_124 ?_
          refine g_aload_n 0 0 dX17_module_127 rfl rfl ?_
          refine g_getR fdX17_221 dX17_module_128 ?_
          refine g_aastore 7 20 rfl rfl rfl dX17_module_131 (fun σ11 => ?_)
          refine g_aload_n 0 0 dX17_module_132 rfl rfl ?_
          refine g_null dX17_module_133 ?_
          refine g_putR fpX17_225 rfl dX17_module_134 (fun σ12 => ?_)
          refine g_aload_n 0 0 dX17_module_137 rfl rfl ?_
          refine g_dup dX17_module_138 rfl ?_
          refine g_getI fdX17_218 dX17_module_139 ?_
          refine g_iconst (v := 1) dX17_module_142 (by decide) ?_
          refine g_iadd dX17_module_143 ?_
          refine g_putI fpX17_218 dX17_module_144 (fun σ13 => ?_)
          refine g_goto 158 dX17_module_147 (by decide) ?_
          refine g_aload_n 0 0 dX17_module_158 rfl rfl ?_
          refine g_aload_n 2 2 dX17_module_159 rfl rfl ?_
          refine g_putR fpX17_221 rfl dX17_module_160 (fun σ14 => ?_)
          refine g_aload_n 0 0 dX17_module_163 rfl rfl ?_
          refine g_getI fdX17_218 dX17_module_164 ?_
          refine g_iconst (v := 1) dX17_module_167 (by decide) ?_
          refine g_isub dX17_module_168 ?_
          exact g_ireturn rfl dX17_module_169
        · refine G.sub [0, 2] rfl ?_
          exact gX17_module_p150 _ _ _ _
      · refine G.sub [0, 2] rfl ?_
        exact gX17_module_p150 _ _ _ _
    · refine g_aload_n 0 0 dX17_module_70 rfl rfl ?_
      refine g_getR fdX17_221 dX17_module_71 ?_
      refine g_getR fdX17_232 dX17_module_74 ?_
      refine g_iload_n 3 3 dX17_module_77 rfl rfl ?_
      refine g_aload_n 0 0 dX17_module_78 rfl rfl ?_
      refine g_getR fdX17_10 dX17_module_79 ?_
      refine g_iload_n 3 3 dX17_module_82 rfl rfl ?_
      refine g_baload dX17_module_83 ?_
      refine g_bastore dX17_module_84 (fun σ15 => ?_)
      refine g_iincB (w := 1) 3 dX17_module_85 rfl (by decide) (by decide) (fun _ => rfl) (fun y16 => ?_)
      refine g_goto 65 dX17_module_88 (by decide) ?_
      refine G.sub [1, 2, 3, 0] rfl ?_
      exact gX17_module_p65 n _ _ _ _ _
def V.Mdl_module_p47  (σ : HS) (x0 : Nat) (x1 : Int32) (x2 : Nat) : Option (Int32 × HS) :=
  ck (tg σ x0 = 18) <|
  ck (tg σ x0 = 18) <| bn (sR σ x0 10 (gR σ x0 5)) fun σ1 =>
  ck (tg σ1 x0 = 18) <|
  ck (tg σ1 (gR σ1 x0 10) = 21) <| cl (Pln_begin σ1 (gR σ1 x0 10) x1) fun _ σ2 =>
  Mdl_module_p65 FU σ2 x0 x1 x2 (0 : Int32)
theorem V.gX17_module_p47 {X : CX}  (σ : HS) (x0 : Nat) (x1 : Int32) (x2 : Nat) : G X RX17 "module" cX17_module 4 (some .int) 10 248 enI 47 [(0, av x0), (1, iv x1), (2, av x2)] [] σ (Mdl_module_p47 σ x0 x1 x2) := by
  unfold Mdl_module_p47
  refine g_aload_n 0 0 dX17_module_47 rfl rfl ?_
  refine g_aload_n 0 0 dX17_module_48 rfl rfl ?_
  refine g_getR fdX17_225 dX17_module_49 ?_
  refine g_putR fpX17_221 rfl dX17_module_52 (fun σ1 => ?_)
  refine g_aload_n 0 0 dX17_module_55 rfl rfl ?_
  refine g_getR fdX17_221 dX17_module_56 ?_
  refine g_iload_n 1 1 dX17_module_59 rfl rfl ?_
  refine g_callV (fc := fun sς => Pln_begin sς (gR σ1 x0 10) x1) (ci := 20) (as := [iv x1]) rfl rfl rfl q3593 q3594 mdX17_229 (ctX20_begin (gR σ1 x0 10) x1) rfl (Nat.le_of_ble_eq_true rfl) (Nat.le_of_ble_eq_true rfl) (Nat.le_of_ble_eq_true rfl) pu_V dX17_module_60 (fun _ σ2 => ?_)
  refine g_iconst (v := 0) dX17_module_63 (by decide) ?_
  refine g_istore_n 3 dX17_module_64 rfl (by decide) rfl ?_
  refine G.sub [1, 2, 3, 0] rfl ?_
  exact gX17_module_p65 FU _ _ _ _ _
def V.Mdl_module (σ : HS) (x0 : Nat) (x1 : Int32) : Option (Int32 × HS) :=
  if x1 < 0 then (
    some ((-2 : Int32), σ))
  else (
    ck (tg σ x0 = 18) <|
    if (gI σ x0 1) < x1 then (
      some ((-2 : Int32), σ))
    else (
      ck (tg σ x0 = 18) <|
      if (gI σ x0 3) = (16 : Int32) then (
        some ((-2 : Int32), σ))
      else (
        ck (tg σ x0 = 18) <|
        bn (gR σ x0 10) fun y1 =>
        ck (tg σ x0 = 18) <|
        if (gR σ x0 5) = 0 then (
          newo σ 21 58 fun a2 σ3 =>
          ck (¬ a2 = 0) <| cl (Pln_init σ3 a2 ) fun _ σ4 =>
          ck (tg σ4 x0 = 18) <| bn (sR σ4 x0 5 a2) fun σ5 =>
          Mdl_module_p47 σ5 x0 x1 y1)
        else (
          Mdl_module_p47 σ x0 x1 y1))))
theorem V.ctX17_module (x0 : Nat) (x1 : Int32) : CtW yX17_module [(111, 147, 150, 20)] cX17_module 4 (some .int) 10 248 eI [av x0, iv x1] (fun σ => Mdl_module σ x0 x1) := by
  refine CtW.of (own := RX17) (nm := "module") (desc := "(I)I") rfl (by decide) (Nat.le_of_ble_eq_true rfl) (by decide) (fun X σ => ?_)
  show G X RX17 "module" cX17_module 4 (some .int) 10 248 enI 0 [(0, av x0), (1, iv x1)] [] σ (Mdl_module σ x0 x1)
  unfold Mdl_module
  refine g_iload_n 1 1 dX17_module_0 rfl rfl ?_
  refine g_if_lt 21 dX17_module_1 (by decide) ?_ ?_
  · refine g_bipush (v := (-2)) dX17_module_21 (by decide) ?_
    exact g_ireturn rfl dX17_module_23
  · refine g_iload_n 1 1 dX17_module_4 rfl rfl ?_
    refine g_aload_n 0 0 dX17_module_5 rfl rfl ?_
    refine g_getI fdX17_215 dX17_module_6 ?_
    refine g_icmp_gt 21 dX17_module_9 (by decide) ?_ ?_
    · refine g_bipush (v := (-2)) dX17_module_21 (by decide) ?_
      exact g_ireturn rfl dX17_module_23
    · refine g_aload_n 0 0 dX17_module_12 rfl rfl ?_
      refine g_getI fdX17_218 dX17_module_13 ?_
      refine g_bipush (v := 16) dX17_module_16 (by decide) ?_
      refine g_icmp_ne 24 dX17_module_18 (by decide) ?_ ?_
      · refine g_aload_n 0 0 dX17_module_24 rfl rfl ?_
        refine g_getR fdX17_221 dX17_module_25 ?_
        refine g_nmA (fun y1 => ?_)
        refine g_astore_n 2 dX17_module_28 rfl (by decide) rfl ?_
        refine g_aload_n 0 1 dX17_module_29 rfl rfl ?_
        refine g_getR fdX17_225 dX17_module_30 ?_
        refine g_ifnonnull 47 dX17_module_33 (by decide) ?_ ?_
        · refine G.sub [1, 2, 0] rfl ?_
          exact gX17_module_p47 _ _ _ _
        · refine g_aload_n 0 1 dX17_module_36 rfl rfl ?_
          refine g_newo ndX17_14 dX17_module_37 (fun a2 σ3 => ?_)
          refine g_dup dX17_module_40 rfl ?_
          refine g_callI (fc := fun sς => Pln_init sς a2 ) (as := []) rfl q3355 mdX17_228 (ctX20_init a2 ) rfl (Nat.le_of_ble_eq_true rfl) (Nat.le_of_ble_eq_true rfl) (Nat.le_of_ble_eq_true rfl) pu_V dX17_module_41 (fun _ σ4 => ?_)
          refine g_putR fpX17_225 rfl dX17_module_44 (fun σ5 => ?_)
          refine G.sub [1, 2, 0] rfl ?_
          exact gX17_module_p47 _ _ _ _
      · refine g_bipush (v := (-2)) dX17_module_21 (by decide) ?_
        exact g_ireturn rfl dX17_module_23
theorem V.dX17_fault_0 : decode cX17_fault 0 = .ok (.aload_n 0, 1) := by decide +kernel
theorem V.dX17_fault_1 : decode cX17_fault 1 = .ok (.getfield 235, 3) := by decide +kernel
theorem V.dX17_fault_4 : decode cX17_fault 4 = .ok (.ifCond .ne 7, 3) := by decide +kernel
theorem V.dX17_fault_7 : decode cX17_fault 7 = .ok (.iconst (-1), 1) := by decide +kernel
theorem V.dX17_fault_8 : decode cX17_fault 8 = .ok (.goto 27, 3) := by decide +kernel
theorem V.dX17_fault_11 : decode cX17_fault 11 = .ok (.iload_n 1, 1) := by decide +kernel
theorem V.dX17_fault_12 : decode cX17_fault 12 = .ok (.ifCond .ne 10, 3) := by decide +kernel
theorem V.dX17_fault_15 : decode cX17_fault 15 = .ok (.aload_n 0, 1) := by decide +kernel
theorem V.dX17_fault_16 : decode cX17_fault 16 = .ok (.getfield 239, 3) := by decide +kernel
theorem V.dX17_fault_19 : decode cX17_fault 19 = .ok (.goto 16, 3) := by decide +kernel
theorem V.dX17_fault_22 : decode cX17_fault 22 = .ok (.iload_n 1, 1) := by decide +kernel
theorem V.dX17_fault_23 : decode cX17_fault 23 = .ok (.iconst 1, 1) := by decide +kernel
theorem V.dX17_fault_24 : decode cX17_fault 24 = .ok (.if_icmp .ne 10, 3) := by decide +kernel
theorem V.dX17_fault_27 : decode cX17_fault 27 = .ok (.aload_n 0, 1) := by decide +kernel
theorem V.dX17_fault_28 : decode cX17_fault 28 = .ok (.getfield 242, 3) := by decide +kernel
theorem V.dX17_fault_31 : decode cX17_fault 31 = .ok (.goto 4, 3) := by decide +kernel
theorem V.dX17_fault_34 : decode cX17_fault 34 = .ok (.iconst (-1), 1) := by decide +kernel
theorem V.dX17_fault_35 : decode cX17_fault 35 = .ok (.ireturn, 1) := by decide +kernel
theorem V.fdX17_235 : FD RX17 235 17 6 0 := ⟨(RX17, TX17, 101), tyX17, rfl, rfl, in_X17, by decide, Or.inl q3042, rfl⟩
theorem V.fdX17_242 : FD RX17 242 17 8 0 := ⟨(RX17, TX17, 101), tyX17, rfl, rfl, in_X17, by decide, Or.inl q3044, rfl⟩
theorem V.fdX17_239 : FD RX17 239 17 7 0 := ⟨(RX17, TX17, 101), tyX17, rfl, rfl, in_X17, by decide, Or.inl q3043, rfl⟩
/-! ModuleEngineModel.fault(I)I -/
def V.Mdl_fault (σ : HS) (x0 : Nat) (x1 : Int32) : Option (Int32 × HS) :=
  ck (tg σ x0 = 18) <|
  if (gI σ x0 6) = 0 then (
    some ((-1 : Int32), σ))
  else (
    if x1 = 0 then (
      ck (tg σ x0 = 18) <|
      some (gI σ x0 7, σ))
    else (
      if x1 = (1 : Int32) then (
        ck (tg σ x0 = 18) <|
        some (gI σ x0 8, σ))
      else (
        some ((-1 : Int32), σ))))
theorem V.ctX17_fault (x0 : Nat) (x1 : Int32) : Ct yX17_fault  cX17_fault 2 (some .int) 0 0 eI [av x0, iv x1] (fun σ => Mdl_fault σ x0 x1) := by
  refine Ct.of (own := RX17) (nm := "fault") (desc := "(I)I") rfl (by decide) (Nat.le_of_ble_eq_true rfl) (by decide) (fun X σ => ?_)
  show G X RX17 "fault" cX17_fault 2 (some .int) 0 0 enI 0 [(0, av x0), (1, iv x1)] [] σ (Mdl_fault σ x0 x1)
  unfold Mdl_fault
  refine g_aload_n 0 0 dX17_fault_0 rfl rfl ?_
  refine g_getI fdX17_235 dX17_fault_1 ?_
  refine g_if_ne 11 dX17_fault_4 (by decide) ?_ ?_
  · refine g_iload_n 1 1 dX17_fault_11 rfl rfl ?_
    refine g_if_ne 22 dX17_fault_12 (by decide) ?_ ?_
    · refine g_iload_n 1 1 dX17_fault_22 rfl rfl ?_
      refine g_iconst (v := 1) dX17_fault_23 (by decide) ?_
      refine g_icmp_ne 34 dX17_fault_24 (by decide) ?_ ?_
      · refine g_iconst (v := (-1)) dX17_fault_34 (by decide) ?_
        exact g_ireturn rfl dX17_fault_35
      · refine g_aload_n 0 0 dX17_fault_27 rfl rfl ?_
        refine g_getI fdX17_242 dX17_fault_28 ?_
        refine g_goto 35 dX17_fault_31 (by decide) ?_
        exact g_ireturn rfl dX17_fault_35
    · refine g_aload_n 0 0 dX17_fault_15 rfl rfl ?_
      refine g_getI fdX17_239 dX17_fault_16 ?_
      refine g_goto 35 dX17_fault_19 (by decide) ?_
      exact g_ireturn rfl dX17_fault_35
  · refine g_iconst (v := (-1)) dX17_fault_7 (by decide) ?_
    refine g_goto 35 dX17_fault_8 (by decide) ?_
    exact g_ireturn rfl dX17_fault_35
theorem V.dX17_isInstance_0 : decode cX17_isInstance 0 = .ok (.iload_n 1, 1) := by decide +kernel
theorem V.dX17_isInstance_1 : decode cX17_isInstance 1 = .ok (.ifCond .lt 15, 3) := by decide +kernel
theorem V.dX17_isInstance_4 : decode cX17_isInstance 4 = .ok (.iload_n 1, 1) := by decide +kernel
theorem V.dX17_isInstance_5 : decode cX17_isInstance 5 = .ok (.aload_n 0, 1) := by decide +kernel
theorem V.dX17_isInstance_6 : decode cX17_isInstance 6 = .ok (.getfield 949, 3) := by decide +kernel
theorem V.dX17_isInstance_9 : decode cX17_isInstance 9 = .ok (.if_icmp .ge 7, 3) := by decide +kernel
theorem V.dX17_isInstance_12 : decode cX17_isInstance 12 = .ok (.iconst 1, 1) := by decide +kernel
theorem V.dX17_isInstance_13 : decode cX17_isInstance 13 = .ok (.goto 4, 3) := by decide +kernel
theorem V.dX17_isInstance_16 : decode cX17_isInstance 16 = .ok (.iconst 0, 1) := by decide +kernel
theorem V.dX17_isInstance_17 : decode cX17_isInstance 17 = .ok (.ireturn, 1) := by decide +kernel
theorem V.fdX17_949 : FD RX17 949 17 62 0 := ⟨(RX17, TX17, 101), tyX17, rfl, rfl, in_X17, by decide, Or.inl q3098, rfl⟩
/-! ModuleEngineModel.isInstance(I)Z -/
def V.Mdl_isInstance (σ : HS) (x0 : Nat) (x1 : Int32) : Option (Int32 × HS) :=
  if x1 < 0 then (
    some ((0 : Int32), σ))
  else (
    ck (tg σ x0 = 18) <|
    if (gI σ x0 62) ≤ x1 then (
      some ((0 : Int32), σ))
    else (
      some ((1 : Int32), σ)))
theorem V.ctX17_isInstance (x0 : Nat) (x1 : Int32) : Ct yX17_isInstance  cX17_isInstance 2 (some .boolean) 0 0 eI [av x0, iv x1] (fun σ => Mdl_isInstance σ x0 x1) := by
  refine Ct.of (own := RX17) (nm := "isInstance") (desc := "(I)Z") rfl (by decide) (Nat.le_of_ble_eq_true rfl) (by decide) (fun X σ => ?_)
  show G X RX17 "isInstance" cX17_isInstance 2 (some .boolean) 0 0 enI 0 [(0, av x0), (1, iv x1)] [] σ (Mdl_isInstance σ x0 x1)
  unfold Mdl_isInstance
  refine g_iload_n 1 1 dX17_isInstance_0 rfl rfl ?_
  refine g_if_lt 16 dX17_isInstance_1 (by decide) ?_ ?_
  · refine g_iconst (v := 0) dX17_isInstance_16 (by decide) ?_
    exact g_zreturn rfl (by decide +kernel) dX17_isInstance_17
  · refine g_iload_n 1 1 dX17_isInstance_4 rfl rfl ?_
    refine g_aload_n 0 0 dX17_isInstance_5 rfl rfl ?_
    refine g_getI fdX17_949 dX17_isInstance_6 ?_
    refine g_icmp_ge 16 dX17_isInstance_9 (by decide) ?_ ?_
    · refine g_iconst (v := 0) dX17_isInstance_16 (by decide) ?_
      exact g_zreturn rfl (by decide +kernel) dX17_isInstance_17
    · refine g_iconst (v := 1) dX17_isInstance_12 (by decide) ?_
      refine g_goto 17 dX17_isInstance_13 (by decide) ?_
      exact g_zreturn rfl (by decide +kernel) dX17_isInstance_17
theorem V.dX17_isExport_0 : decode cX17_isExport 0 = .ok (.aload_n 0, 1) := by decide +kernel
theorem V.dX17_isExport_1 : decode cX17_isExport 1 = .ok (.iload_n 1, 1) := by decide +kernel
theorem V.dX17_isExport_2 : decode cX17_isExport 2 = .ok (.invokevirtual 952, 3) := by decide +kernel
theorem V.dX17_isExport_5 : decode cX17_isExport 5 = .ok (.ifCond .eq 29, 3) := by decide +kernel
theorem V.dX17_isExport_8 : decode cX17_isExport 8 = .ok (.iload_n 2, 1) := by decide +kernel
theorem V.dX17_isExport_9 : decode cX17_isExport 9 = .ok (.ifCond .lt 25, 3) := by decide +kernel
theorem V.dX17_isExport_12 : decode cX17_isExport 12 = .ok (.iload_n 2, 1) := by decide +kernel
theorem V.dX17_isExport_13 : decode cX17_isExport 13 = .ok (.aload_n 0, 1) := by decide +kernel
theorem V.dX17_isExport_14 : decode cX17_isExport 14 = .ok (.getfield 16, 3) := by decide +kernel
theorem V.dX17_isExport_17 : decode cX17_isExport 17 = .ok (.aload_n 0, 1) := by decide +kernel
theorem V.dX17_isExport_18 : decode cX17_isExport 18 = .ok (.getfield 131, 3) := by decide +kernel
theorem V.dX17_isExport_21 : decode cX17_isExport 21 = .ok (.iload_n 1, 1) := by decide +kernel
theorem V.dX17_isExport_22 : decode cX17_isExport 22 = .ok (.iaload, 1) := by decide +kernel
theorem V.dX17_isExport_23 : decode cX17_isExport 23 = .ok (.aaload, 1) := by decide +kernel
theorem V.dX17_isExport_24 : decode cX17_isExport 24 = .ok (.getfield 466, 3) := by decide +kernel
theorem V.dX17_isExport_27 : decode cX17_isExport 27 = .ok (.if_icmp .ge 7, 3) := by decide +kernel
theorem V.dX17_isExport_30 : decode cX17_isExport 30 = .ok (.iconst 1, 1) := by decide +kernel
theorem V.dX17_isExport_31 : decode cX17_isExport 31 = .ok (.goto 4, 3) := by decide +kernel
theorem V.dX17_isExport_34 : decode cX17_isExport 34 = .ok (.iconst 0, 1) := by decide +kernel
theorem V.dX17_isExport_35 : decode cX17_isExport 35 = .ok (.ireturn, 1) := by decide +kernel
theorem V.mdX17_952 : MD RX17 952 yX17_isInstance cX17_isInstance 2 (some .boolean) 1 := ⟨Or.inl q4005, q377, q4008, by decide, by decide, by decide +kernel⟩
theorem V.fdX17_131 : FD RX17 131 17 63 2 := ⟨(RX17, TX17, 101), tyX17, rfl, rfl, in_X17, by decide, Or.inl q3099, rfl⟩
/-! ModuleEngineModel.isExport(II)Z -/
def V.Mdl_isExport (σ : HS) (x0 : Nat) (x1 : Int32) (x2 : Int32) : Option (Int32 × HS) :=
  ck (tg σ x0 = 18) <| cl (Mdl_isInstance σ x0 x1) fun r2 σ1 =>
  if r2 = 0 then (
    some ((0 : Int32), σ1))
  else (
    if x2 < 0 then (
      some ((0 : Int32), σ1))
    else (
      ck (tg σ1 x0 = 18) <|
      ck (tg σ1 x0 = 18) <|
      ck (tg σ1 (gR σ1 x0 63) = 100 ∧ inb x1 (ln σ1 (gR σ1 x0 63))) <|
      ck (tg σ1 (gR σ1 x0 4) = 107 ∧ inb (gI σ1 (gR σ1 x0 63) (ix x1)) (ln σ1 (gR σ1 x0 4))) <|
      ck (tg σ1 (gR σ1 (gR σ1 x0 4) (ix (gI σ1 (gR σ1 x0 63) (ix x1)))) = 21) <|
      if (gI σ1 (gR σ1 (gR σ1 x0 4) (ix (gI σ1 (gR σ1 x0 63) (ix x1)))) 28) ≤ x2 then (
        some ((0 : Int32), σ1))
      else (
        some ((1 : Int32), σ1))))
theorem V.ctX17_isExport (x0 : Nat) (x1 : Int32) (x2 : Int32) : Ct yX17_isExport  cX17_isExport 3 (some .boolean) 1 21 eI [av x0, iv x1, iv x2] (fun σ => Mdl_isExport σ x0 x1 x2) := by
  refine Ct.of (own := RX17) (nm := "isExport") (desc := "(II)Z") rfl (by decide) (Nat.le_of_ble_eq_true rfl) (by decide) (fun X σ => ?_)
  show G X RX17 "isExport" cX17_isExport 3 (some .boolean) 1 21 enI 0 [(0, av x0), (1, iv x1), (2, iv x2)] [] σ (Mdl_isExport σ x0 x1 x2)
  unfold Mdl_isExport
  refine g_aload_n 0 0 dX17_isExport_0 rfl rfl ?_
  refine g_iload_n 1 1 dX17_isExport_1 rfl rfl ?_
  refine g_callV (fc := fun sς => Mdl_isInstance sς x0 x1) (ci := 17) (as := [iv x1]) rfl rfl rfl q4007 qs289 mdX17_952 (ctX17_isInstance x0 x1) rfl (Nat.le_of_ble_eq_true rfl) (Nat.le_of_ble_eq_true rfl) (Nat.le_of_ble_eq_true rfl) pu_I dX17_isExport_2 (fun r2 σ1 => ?_)
  refine g_if_eq 34 dX17_isExport_5 (by decide) ?_ ?_
  · refine g_iconst (v := 0) dX17_isExport_34 (by decide) ?_
    exact g_zreturn rfl (by decide +kernel) dX17_isExport_35
  · refine g_iload_n 2 2 dX17_isExport_8 rfl rfl ?_
    refine g_if_lt 34 dX17_isExport_9 (by decide) ?_ ?_
    · refine g_iconst (v := 0) dX17_isExport_34 (by decide) ?_
      exact g_zreturn rfl (by decide +kernel) dX17_isExport_35
    · refine g_iload_n 2 2 dX17_isExport_12 rfl rfl ?_
      refine g_aload_n 0 0 dX17_isExport_13 rfl rfl ?_
      refine g_getR fdX17_16 dX17_isExport_14 ?_
      refine g_aload_n 0 0 dX17_isExport_17 rfl rfl ?_
      refine g_getR fdX17_131 dX17_isExport_18 ?_
      refine g_iload_n 1 1 dX17_isExport_21 rfl rfl ?_
      refine g_iaload dX17_isExport_22 ?_
      refine g_aaload 7 rfl dX17_isExport_23 ?_
      refine g_getI fdX17_466 dX17_isExport_24 ?_
      refine g_icmp_ge 34 dX17_isExport_27 (by decide) ?_ ?_
      · refine g_iconst (v := 0) dX17_isExport_34 (by decide) ?_
        exact g_zreturn rfl (by decide +kernel) dX17_isExport_35
      · refine g_iconst (v := 1) dX17_isExport_30 (by decide) ?_
        refine g_goto 35 dX17_isExport_31 (by decide) ?_
        exact g_zreturn rfl (by decide +kernel) dX17_isExport_35
theorem V.dX17_exportKind_0 : decode cX17_exportKind 0 = .ok (.aload_n 0, 1) := by decide +kernel
theorem V.dX17_exportKind_1 : decode cX17_exportKind 1 = .ok (.getfield 16, 3) := by decide +kernel
theorem V.dX17_exportKind_4 : decode cX17_exportKind 4 = .ok (.aload_n 0, 1) := by decide +kernel
theorem V.dX17_exportKind_5 : decode cX17_exportKind 5 = .ok (.getfield 131, 3) := by decide +kernel
theorem V.dX17_exportKind_8 : decode cX17_exportKind 8 = .ok (.iload_n 1, 1) := by decide +kernel
theorem V.dX17_exportKind_9 : decode cX17_exportKind 9 = .ok (.iaload, 1) := by decide +kernel
theorem V.dX17_exportKind_10 : decode cX17_exportKind 10 = .ok (.aaload, 1) := by decide +kernel
theorem V.dX17_exportKind_11 : decode cX17_exportKind 11 = .ok (.getfield 475, 3) := by decide +kernel
theorem V.dX17_exportKind_14 : decode cX17_exportKind 14 = .ok (.iload_n 2, 1) := by decide +kernel
theorem V.dX17_exportKind_15 : decode cX17_exportKind 15 = .ok (.iaload, 1) := by decide +kernel
theorem V.dX17_exportKind_16 : decode cX17_exportKind 16 = .ok (.ireturn, 1) := by decide +kernel
/-! ModuleEngineModel.exportKind(II)I -/
def V.Mdl_exportKind (σ : HS) (x0 : Nat) (x1 : Int32) (x2 : Int32) : Option (Int32 × HS) :=
  ck (tg σ x0 = 18) <|
  ck (tg σ x0 = 18) <|
  ck (tg σ (gR σ x0 63) = 100 ∧ inb x1 (ln σ (gR σ x0 63))) <|
  ck (tg σ (gR σ x0 4) = 107 ∧ inb (gI σ (gR σ x0 63) (ix x1)) (ln σ (gR σ x0 4))) <|
  ck (tg σ (gR σ (gR σ x0 4) (ix (gI σ (gR σ x0 63) (ix x1)))) = 21) <|
  ck (tg σ (gR σ (gR σ (gR σ x0 4) (ix (gI σ (gR σ x0 63) (ix x1)))) 31) = 100 ∧ inb x2 (ln σ (gR σ (gR σ (gR σ x0 4) (ix (gI σ (gR σ x0 63) (ix x1)))) 31))) <|
  some (gI σ (gR σ (gR σ (gR σ x0 4) (ix (gI σ (gR σ x0 63) (ix x1)))) 31) (ix x2), σ)
theorem V.ctX17_exportKind (x0 : Nat) (x1 : Int32) (x2 : Int32) : Ct yX17_exportKind  cX17_exportKind 3 (some .int) 0 0 eI [av x0, iv x1, iv x2] (fun σ => Mdl_exportKind σ x0 x1 x2) := by
  refine Ct.of (own := RX17) (nm := "exportKind") (desc := "(II)I") rfl (by decide) (Nat.le_of_ble_eq_true rfl) (by decide) (fun X σ => ?_)
  show G X RX17 "exportKind" cX17_exportKind 3 (some .int) 0 0 enI 0 [(0, av x0), (1, iv x1), (2, iv x2)] [] σ (Mdl_exportKind σ x0 x1 x2)
  unfold Mdl_exportKind
  refine g_aload_n 0 0 dX17_exportKind_0 rfl rfl ?_
  refine g_getR fdX17_16 dX17_exportKind_1 ?_
  refine g_aload_n 0 0 dX17_exportKind_4 rfl rfl ?_
  refine g_getR fdX17_131 dX17_exportKind_5 ?_
  refine g_iload_n 1 1 dX17_exportKind_8 rfl rfl ?_
  refine g_iaload dX17_exportKind_9 ?_
  refine g_aaload 7 rfl dX17_exportKind_10 ?_
  refine g_getR fdX17_475 dX17_exportKind_11 ?_
  refine g_iload_n 2 2 dX17_exportKind_14 rfl rfl ?_
  refine g_iaload dX17_exportKind_15 ?_
  exact g_ireturn rfl dX17_exportKind_16
theorem V.dX17_thing_0 : decode cX17_thing 0 = .ok (.sipush 128, 3) := by decide +kernel
theorem V.dX17_thing_3 : decode cX17_thing 3 = .ok (.iload_n 2, 1) := by decide +kernel
theorem V.dX17_thing_4 : decode cX17_thing 4 = .ok (.imul, 1) := by decide +kernel
theorem V.dX17_thing_5 : decode cX17_thing 5 = .ok (.iload_n 3, 1) := by decide +kernel
theorem V.dX17_thing_6 : decode cX17_thing 6 = .ok (.iadd, 1) := by decide +kernel
theorem V.dX17_thing_7 : decode cX17_thing 7 = .ok (.istore 4, 2) := by decide +kernel
theorem V.dX17_thing_9 : decode cX17_thing 9 = .ok (.iload_n 1, 1) := by decide +kernel
theorem V.dX17_thing_10 : decode cX17_thing 10 = .ok (.ifCond .ne 13, 3) := by decide +kernel
theorem V.dX17_thing_13 : decode cX17_thing 13 = .ok (.aload_n 0, 1) := by decide +kernel
theorem V.dX17_thing_14 : decode cX17_thing 14 = .ok (.getfield 134, 3) := by decide +kernel
theorem V.dX17_thing_17 : decode cX17_thing 17 = .ok (.iload 4, 2) := by decide +kernel
theorem V.dX17_thing_19 : decode cX17_thing 19 = .ok (.iaload, 1) := by decide +kernel
theorem V.dX17_thing_20 : decode cX17_thing 20 = .ok (.goto 40, 3) := by decide +kernel
theorem V.dX17_thing_23 : decode cX17_thing 23 = .ok (.iload_n 1, 1) := by decide +kernel
theorem V.dX17_thing_24 : decode cX17_thing 24 = .ok (.iconst 1, 1) := by decide +kernel
theorem V.dX17_thing_25 : decode cX17_thing 25 = .ok (.if_icmp .ne 13, 3) := by decide +kernel
theorem V.dX17_thing_28 : decode cX17_thing 28 = .ok (.aload_n 0, 1) := by decide +kernel
theorem V.dX17_thing_29 : decode cX17_thing 29 = .ok (.getfield 137, 3) := by decide +kernel
theorem V.dX17_thing_32 : decode cX17_thing 32 = .ok (.iload 4, 2) := by decide +kernel
theorem V.dX17_thing_34 : decode cX17_thing 34 = .ok (.iaload, 1) := by decide +kernel
theorem V.dX17_thing_35 : decode cX17_thing 35 = .ok (.goto 25, 3) := by decide +kernel
theorem V.dX17_thing_38 : decode cX17_thing 38 = .ok (.iload_n 1, 1) := by decide +kernel
theorem V.dX17_thing_39 : decode cX17_thing 39 = .ok (.iconst 2, 1) := by decide +kernel
theorem V.dX17_thing_40 : decode cX17_thing 40 = .ok (.if_icmp .ne 13, 3) := by decide +kernel
theorem V.dX17_thing_43 : decode cX17_thing 43 = .ok (.aload_n 0, 1) := by decide +kernel
theorem V.dX17_thing_44 : decode cX17_thing 44 = .ok (.getfield 140, 3) := by decide +kernel
theorem V.dX17_thing_47 : decode cX17_thing 47 = .ok (.iload 4, 2) := by decide +kernel
theorem V.dX17_thing_49 : decode cX17_thing 49 = .ok (.iaload, 1) := by decide +kernel
theorem V.dX17_thing_50 : decode cX17_thing 50 = .ok (.goto 10, 3) := by decide +kernel
theorem V.dX17_thing_53 : decode cX17_thing 53 = .ok (.aload_n 0, 1) := by decide +kernel
theorem V.dX17_thing_54 : decode cX17_thing 54 = .ok (.getfield 143, 3) := by decide +kernel
theorem V.dX17_thing_57 : decode cX17_thing 57 = .ok (.iload 4, 2) := by decide +kernel
theorem V.dX17_thing_59 : decode cX17_thing 59 = .ok (.iaload, 1) := by decide +kernel
theorem V.dX17_thing_60 : decode cX17_thing 60 = .ok (.ireturn, 1) := by decide +kernel
theorem V.fdX17_143 : FD RX17 143 17 67 2 := ⟨(RX17, TX17, 101), tyX17, rfl, rfl, in_X17, by decide, Or.inl q3103, rfl⟩
theorem V.fdX17_140 : FD RX17 140 17 66 2 := ⟨(RX17, TX17, 101), tyX17, rfl, rfl, in_X17, by decide, Or.inl q3102, rfl⟩
theorem V.fdX17_137 : FD RX17 137 17 65 2 := ⟨(RX17, TX17, 101), tyX17, rfl, rfl, in_X17, by decide, Or.inl q3101, rfl⟩
theorem V.fdX17_134 : FD RX17 134 17 64 2 := ⟨(RX17, TX17, 101), tyX17, rfl, rfl, in_X17, by decide, Or.inl q3100, rfl⟩
/-! ModuleEngineModel.thing(III)I -/
def V.Mdl_thing (σ : HS) (x0 : Nat) (x1 : Int32) (x2 : Int32) (x3 : Int32) : Option (Int32 × HS) :=
  bn (((128 : Int32) * x2) + x3) fun y1 =>
  if x1 = 0 then (
    ck (tg σ x0 = 18) <|
    ck (tg σ (gR σ x0 64) = 100 ∧ inb y1 (ln σ (gR σ x0 64))) <|
    some (gI σ (gR σ x0 64) (ix y1), σ))
  else (
    if x1 = (1 : Int32) then (
      ck (tg σ x0 = 18) <|
      ck (tg σ (gR σ x0 65) = 100 ∧ inb y1 (ln σ (gR σ x0 65))) <|
      some (gI σ (gR σ x0 65) (ix y1), σ))
    else (
      if x1 = (2 : Int32) then (
        ck (tg σ x0 = 18) <|
        ck (tg σ (gR σ x0 66) = 100 ∧ inb y1 (ln σ (gR σ x0 66))) <|
        some (gI σ (gR σ x0 66) (ix y1), σ))
      else (
        ck (tg σ x0 = 18) <|
        ck (tg σ (gR σ x0 67) = 100 ∧ inb y1 (ln σ (gR σ x0 67))) <|
        some (gI σ (gR σ x0 67) (ix y1), σ))))
theorem V.ctX17_thing (x0 : Nat) (x1 : Int32) (x2 : Int32) (x3 : Int32) : Ct yX17_thing  cX17_thing 5 (some .int) 0 0 eI [av x0, iv x1, iv x2, iv x3] (fun σ => Mdl_thing σ x0 x1 x2 x3) := by
  refine Ct.of (own := RX17) (nm := "thing") (desc := "(III)I") rfl (by decide) (Nat.le_of_ble_eq_true rfl) (by decide) (fun X σ => ?_)
  show G X RX17 "thing" cX17_thing 5 (some .int) 0 0 enI 0 [(0, av x0), (1, iv x1), (2, iv x2), (3, iv x3)] [] σ (Mdl_thing σ x0 x1 x2 x3)
  unfold Mdl_thing
  refine g_sipush (v := 128) dX17_thing_0 (by decide) ?_
  refine g_iload_n 2 2 dX17_thing_3 rfl rfl ?_
  refine g_imul dX17_thing_4 ?_
  refine g_iload_n 3 3 dX17_thing_5 rfl rfl ?_
  refine g_iadd dX17_thing_6 ?_
  refine g_nmI (fun y1 => ?_)
  refine g_istore dX17_thing_7 (by decide) rfl ?_
  refine g_iload_n 1 2 dX17_thing_9 rfl rfl ?_
  refine g_if_ne 23 dX17_thing_10 (by decide) ?_ ?_
  · refine g_iload_n 1 2 dX17_thing_23 rfl rfl ?_
    refine g_iconst (v := 1) dX17_thing_24 (by decide) ?_
    refine g_icmp_ne 38 dX17_thing_25 (by decide) ?_ ?_
    · refine g_iload_n 1 2 dX17_thing_38 rfl rfl ?_
      refine g_iconst (v := 2) dX17_thing_39 (by decide) ?_
      refine g_icmp_ne 53 dX17_thing_40 (by decide) ?_ ?_
      · refine g_aload_n 0 1 dX17_thing_53 rfl rfl ?_
        refine g_getR fdX17_143 dX17_thing_54 ?_
        refine g_iload 0 dX17_thing_57 rfl ?_
        refine g_iaload dX17_thing_59 ?_
        exact g_ireturn rfl dX17_thing_60
      · refine g_aload_n 0 1 dX17_thing_43 rfl rfl ?_
        refine g_getR fdX17_140 dX17_thing_44 ?_
        refine g_iload 0 dX17_thing_47 rfl ?_
        refine g_iaload dX17_thing_49 ?_
        refine g_goto 60 dX17_thing_50 (by decide) ?_
        exact g_ireturn rfl dX17_thing_60
    · refine g_aload_n 0 1 dX17_thing_28 rfl rfl ?_
      refine g_getR fdX17_137 dX17_thing_29 ?_
      refine g_iload 0 dX17_thing_32 rfl ?_
      refine g_iaload dX17_thing_34 ?_
      refine g_goto 60 dX17_thing_35 (by decide) ?_
      exact g_ireturn rfl dX17_thing_60
  · refine g_aload_n 0 1 dX17_thing_13 rfl rfl ?_
    refine g_getR fdX17_134 dX17_thing_14 ?_
    refine g_iload 0 dX17_thing_17 rfl ?_
    refine g_iaload dX17_thing_19 ?_
    refine g_goto 60 dX17_thing_20 (by decide) ?_
    exact g_ireturn rfl dX17_thing_60
theorem V.dX17_exported_0 : decode cX17_exported 0 = .ok (.aload_n 0, 1) := by decide +kernel
theorem V.dX17_exported_1 : decode cX17_exported 1 = .ok (.aload_n 0, 1) := by decide +kernel
theorem V.dX17_exported_2 : decode cX17_exported 2 = .ok (.iload_n 1, 1) := by decide +kernel
theorem V.dX17_exported_3 : decode cX17_exported 3 = .ok (.iload_n 2, 1) := by decide +kernel
theorem V.dX17_exported_4 : decode cX17_exported 4 = .ok (.invokevirtual 955, 3) := by decide +kernel
theorem V.dX17_exported_7 : decode cX17_exported 7 = .ok (.iload_n 1, 1) := by decide +kernel
theorem V.dX17_exported_8 : decode cX17_exported 8 = .ok (.aload_n 0, 1) := by decide +kernel
theorem V.dX17_exported_9 : decode cX17_exported 9 = .ok (.getfield 16, 3) := by decide +kernel
theorem V.dX17_exported_12 : decode cX17_exported 12 = .ok (.aload_n 0, 1) := by decide +kernel
theorem V.dX17_exported_13 : decode cX17_exported 13 = .ok (.getfield 131, 3) := by decide +kernel
theorem V.dX17_exported_16 : decode cX17_exported 16 = .ok (.iload_n 1, 1) := by decide +kernel
theorem V.dX17_exported_17 : decode cX17_exported 17 = .ok (.iaload, 1) := by decide +kernel
theorem V.dX17_exported_18 : decode cX17_exported 18 = .ok (.aaload, 1) := by decide +kernel
theorem V.dX17_exported_19 : decode cX17_exported 19 = .ok (.getfield 478, 3) := by decide +kernel
theorem V.dX17_exported_22 : decode cX17_exported 22 = .ok (.iload_n 2, 1) := by decide +kernel
theorem V.dX17_exported_23 : decode cX17_exported 23 = .ok (.laload, 1) := by decide +kernel
theorem V.dX17_exported_24 : decode cX17_exported 24 = .ok (.l2i, 1) := by decide +kernel
theorem V.dX17_exported_25 : decode cX17_exported 25 = .ok (.invokevirtual 957, 3) := by decide +kernel
theorem V.dX17_exported_28 : decode cX17_exported 28 = .ok (.ireturn, 1) := by decide +kernel
theorem V.mdX17_955 : MD RX17 955 yX17_exportKind cX17_exportKind 3 (some .int) 2 := ⟨Or.inl q4009, q377, q4012, by decide, by decide, by decide +kernel⟩
theorem V.mdX17_957 : MD RX17 957 yX17_thing cX17_thing 5 (some .int) 3 := ⟨Or.inl q4017, q377, q4020, by decide, by decide, by decide +kernel⟩
/-! ModuleEngineModel.exported(II)I -/
def V.Mdl_exported (σ : HS) (x0 : Nat) (x1 : Int32) (x2 : Int32) : Option (Int32 × HS) :=
  ck (tg σ x0 = 18) <| cl (Mdl_exportKind σ x0 x1 x2) fun r2 σ1 =>
  ck (tg σ1 x0 = 18) <|
  ck (tg σ1 x0 = 18) <|
  ck (tg σ1 (gR σ1 x0 63) = 100 ∧ inb x1 (ln σ1 (gR σ1 x0 63))) <|
  ck (tg σ1 (gR σ1 x0 4) = 107 ∧ inb (gI σ1 (gR σ1 x0 63) (ix x1)) (ln σ1 (gR σ1 x0 4))) <|
  ck (tg σ1 (gR σ1 (gR σ1 x0 4) (ix (gI σ1 (gR σ1 x0 63) (ix x1)))) = 21) <|
  ck (tg σ1 (gR σ1 (gR σ1 (gR σ1 x0 4) (ix (gI σ1 (gR σ1 x0 63) (ix x1)))) 32) = 101 ∧ inb x2 (ln σ1 (gR σ1 (gR σ1 (gR σ1 x0 4) (ix (gI σ1 (gR σ1 x0 63) (ix x1)))) 32))) <|
  ck (tg σ1 x0 = 18) <| cl (Mdl_thing σ1 x0 r2 x1 ((gJ σ1 (gR σ1 (gR σ1 (gR σ1 x0 4) (ix (gI σ1 (gR σ1 x0 63) (ix x1)))) 32) (ix x2)).toInt32)) fun r4 σ3 =>
  some (r4, σ3)
theorem V.ctX17_exported (x0 : Nat) (x1 : Int32) (x2 : Int32) : Ct yX17_exported  cX17_exported 3 (some .int) 1 24 eI [av x0, iv x1, iv x2] (fun σ => Mdl_exported σ x0 x1 x2) := by
  refine Ct.of (own := RX17) (nm := "exported") (desc := "(II)I") rfl (by decide) (Nat.le_of_ble_eq_true rfl) (by decide) (fun X σ => ?_)
  show G X RX17 "exported" cX17_exported 3 (some .int) 1 24 enI 0 [(0, av x0), (1, iv x1), (2, iv x2)] [] σ (Mdl_exported σ x0 x1 x2)
  unfold Mdl_exported
  refine g_aload_n 0 0 dX17_exported_0 rfl rfl ?_
  refine g_aload_n 0 0 dX17_exported_1 rfl rfl ?_
  refine g_iload_n 1 1 dX17_exported_2 rfl rfl ?_
  refine g_iload_n 2 2 dX17_exported_3 rfl rfl ?_
  refine g_callV (fc := fun sς => Mdl_exportKind sς x0 x1 x2) (ci := 17) (as := [iv x1, iv x2]) rfl rfl rfl q4011 qs290 mdX17_955 (ctX17_exportKind x0 x1 x2) rfl (Nat.le_of_ble_eq_true rfl) (Nat.le_of_ble_eq_true rfl) (Nat.le_of_ble_eq_true rfl) pu_I dX17_exported_4 (fun r2 σ1 => ?_)
  refine g_iload_n 1 1 dX17_exported_7 rfl rfl ?_
  refine g_aload_n 0 0 dX17_exported_8 rfl rfl ?_
  refine g_getR fdX17_16 dX17_exported_9 ?_
  refine g_aload_n 0 0 dX17_exported_12 rfl rfl ?_
  refine g_getR fdX17_131 dX17_exported_13 ?_
  refine g_iload_n 1 1 dX17_exported_16 rfl rfl ?_
  refine g_iaload dX17_exported_17 ?_
  refine g_aaload 7 rfl dX17_exported_18 ?_
  refine g_getR fdX17_478 dX17_exported_19 ?_
  refine g_iload_n 2 2 dX17_exported_22 rfl rfl ?_
  refine g_laload dX17_exported_23 ?_
  refine g_l2i dX17_exported_24 ?_
  refine g_callV (fc := fun sς => Mdl_thing sς x0 r2 x1 ((gJ σ1 (gR σ1 (gR σ1 (gR σ1 x0 4) (ix (gI σ1 (gR σ1 x0 63) (ix x1)))) 32) (ix x2)).toInt32)) (ci := 17) (as := [iv r2, iv x1, iv ((gJ σ1 (gR σ1 (gR σ1 (gR σ1 x0 4) (ix (gI σ1 (gR σ1 x0 63) (ix x1)))) 32) (ix x2)).toInt32)]) rfl rfl rfl q4019 qs292 mdX17_957 (ctX17_thing x0 r2 x1 ((gJ σ1 (gR σ1 (gR σ1 (gR σ1 x0 4) (ix (gI σ1 (gR σ1 x0 63) (ix x1)))) 32) (ix x2)).toInt32)) rfl (Nat.le_of_ble_eq_true rfl) (Nat.le_of_ble_eq_true rfl) (Nat.le_of_ble_eq_true rfl) pu_I dX17_exported_25 (fun r4 σ3 => ?_)
  exact g_ireturn rfl dX17_exported_28
