set_option maxRecDepth 100000
theorem V.dX17_opensBlock_0 : decode cX17_opensBlock 0 = .ok (.aload_n 0, 1) := by decide +kernel
theorem V.dX17_opensBlock_1 : decode cX17_opensBlock 1 = .ok (.getfield 221, 3) := by decide +kernel
theorem V.dX17_opensBlock_4 : decode cX17_opensBlock 4 = .ok (.getfield 549, 3) := by decide +kernel
theorem V.dX17_opensBlock_7 : decode cX17_opensBlock 7 = .ok (.aload_n 0, 1) := by decide +kernel
theorem V.dX17_opensBlock_8 : decode cX17_opensBlock 8 = .ok (.getfield 1107, 3) := by decide +kernel
theorem V.dX17_opensBlock_11 : decode cX17_opensBlock 11 = .ok (.iaload, 1) := by decide +kernel
theorem V.dX17_opensBlock_12 : decode cX17_opensBlock 12 = .ok (.istore_n 2, 1) := by decide +kernel
theorem V.dX17_opensBlock_13 : decode cX17_opensBlock 13 = .ok (.aload_n 0, 1) := by decide +kernel
theorem V.dX17_opensBlock_14 : decode cX17_opensBlock 14 = .ok (.aload_n 0, 1) := by decide +kernel
theorem V.dX17_opensBlock_15 : decode cX17_opensBlock 15 = .ok (.getfield 1107, 3) := by decide +kernel
theorem V.dX17_opensBlock_18 : decode cX17_opensBlock 18 = .ok (.iconst 1, 1) := by decide +kernel
theorem V.dX17_opensBlock_19 : decode cX17_opensBlock 19 = .ok (.iadd, 1) := by decide +kernel
theorem V.dX17_opensBlock_20 : decode cX17_opensBlock 20 = .ok (.putfield 594, 3) := by decide +kernel
theorem V.dX17_opensBlock_23 : decode cX17_opensBlock 23 = .ok (.aload_n 0, 1) := by decide +kernel
theorem V.dX17_opensBlock_24 : decode cX17_opensBlock 24 = .ok (.invokevirtual 600, 3) := by decide +kernel
theorem V.dX17_opensBlock_27 : decode cX17_opensBlock 27 = .ok (.lstore_n 3, 1) := by decide +kernel
theorem V.dX17_opensBlock_28 : decode cX17_opensBlock 28 = .ok (.aload_n 0, 1) := by decide +kernel
theorem V.dX17_opensBlock_29 : decode cX17_opensBlock 29 = .ok (.aload_n 0, 1) := by decide +kernel
theorem V.dX17_opensBlock_30 : decode cX17_opensBlock 30 = .ok (.getfield 594, 3) := by decide +kernel
theorem V.dX17_opensBlock_33 : decode cX17_opensBlock 33 = .ok (.putfield 1107, 3) := by decide +kernel
theorem V.dX17_opensBlock_36 : decode cX17_opensBlock 36 = .ok (.aload_n 0, 1) := by decide +kernel
theorem V.dX17_opensBlock_37 : decode cX17_opensBlock 37 = .ok (.iload_n 1, 1) := by decide +kernel
theorem V.dX17_opensBlock_38 : decode cX17_opensBlock 38 = .ok (.iconst 3, 1) := by decide +kernel
theorem V.dX17_opensBlock_39 : decode cX17_opensBlock 39 = .ok (.if_icmp .ne 10, 3) := by decide +kernel
theorem V.dX17_opensBlock_42 : decode cX17_opensBlock 42 = .ok (.aload_n 0, 1) := by decide +kernel
theorem V.dX17_opensBlock_43 : decode cX17_opensBlock 43 = .ok (.getfield 1107, 3) := by decide +kernel
theorem V.dX17_opensBlock_46 : decode cX17_opensBlock 46 = .ok (.goto 6, 3) := by decide +kernel
theorem V.dX17_opensBlock_49 : decode cX17_opensBlock 49 = .ok (.iload_n 2, 1) := by decide +kernel
theorem V.dX17_opensBlock_50 : decode cX17_opensBlock 50 = .ok (.iconst 1, 1) := by decide +kernel
theorem V.dX17_opensBlock_51 : decode cX17_opensBlock 51 = .ok (.iadd, 1) := by decide +kernel
theorem V.dX17_opensBlock_52 : decode cX17_opensBlock 52 = .ok (.iload_n 1, 1) := by decide +kernel
theorem V.dX17_opensBlock_53 : decode cX17_opensBlock 53 = .ok (.iconst 3, 1) := by decide +kernel
theorem V.dX17_opensBlock_54 : decode cX17_opensBlock 54 = .ok (.if_icmp .ne 11, 3) := by decide +kernel
theorem V.dX17_opensBlock_57 : decode cX17_opensBlock 57 = .ok (.aload_n 0, 1) := by decide +kernel
theorem V.dX17_opensBlock_58 : decode cX17_opensBlock 58 = .ok (.lload_n 3, 1) := by decide +kernel
theorem V.dX17_opensBlock_59 : decode cX17_opensBlock 59 = .ok (.invokevirtual 689, 3) := by decide +kernel
theorem V.dX17_opensBlock_62 : decode cX17_opensBlock 62 = .ok (.goto 8, 3) := by decide +kernel
theorem V.dX17_opensBlock_65 : decode cX17_opensBlock 65 = .ok (.aload_n 0, 1) := by decide +kernel
theorem V.dX17_opensBlock_66 : decode cX17_opensBlock 66 = .ok (.lload_n 3, 1) := by decide +kernel
theorem V.dX17_opensBlock_67 : decode cX17_opensBlock 67 = .ok (.invokevirtual 698, 3) := by decide +kernel
theorem V.dX17_opensBlock_70 : decode cX17_opensBlock 70 = .ok (.aload_n 0, 1) := by decide +kernel
theorem V.dX17_opensBlock_71 : decode cX17_opensBlock 71 = .ok (.lload_n 3, 1) := by decide +kernel
theorem V.dX17_opensBlock_72 : decode cX17_opensBlock 72 = .ok (.invokevirtual 689, 3) := by decide +kernel
theorem V.dX17_opensBlock_75 : decode cX17_opensBlock 75 = .ok (.iload_n 1, 1) := by decide +kernel
theorem V.dX17_opensBlock_76 : decode cX17_opensBlock 76 = .ok (.iconst 3, 1) := by decide +kernel
theorem V.dX17_opensBlock_77 : decode cX17_opensBlock 77 = .ok (.if_icmp .ne 7, 3) := by decide +kernel
theorem V.dX17_opensBlock_80 : decode cX17_opensBlock 80 = .ok (.iconst 1, 1) := by decide +kernel
theorem V.dX17_opensBlock_81 : decode cX17_opensBlock 81 = .ok (.goto 4, 3) := by decide +kernel
theorem V.dX17_opensBlock_84 : decode cX17_opensBlock 84 = .ok (.iconst 0, 1) := by decide +kernel
theorem V.dX17_opensBlock_85 : decode cX17_opensBlock 85 = .ok (.invokevirtual 1113, 3) := by decide +kernel
theorem V.dX17_opensBlock_88 : decode cX17_opensBlock 88 = .ok (.return_, 1) := by decide +kernel
/-! ModuleEngineModel.opensBlock(I)V -/
def V.Mdl_opensBlock_p85  (σ : HS) (s0 : Int32) (s1 : Int32) (s2 : Int32) (s3 : Int32) (s4 : Nat) : Option (Unit × HS) :=
  ck (tg σ s4 = 18) <| cl (Mdl_opens σ s4 s3 s2 s1 s0) fun _ σ1 =>
  some ((), σ1)
theorem V.gX17_opensBlock_p85 {X : CX}  (σ : HS) (s0 : Int32) (s1 : Int32) (s2 : Int32) (s3 : Int32) (s4 : Nat) : G X RX17 "opensBlock" cX17_opensBlock 5 none 3 66 enV 85 [] [iv s0, iv s1, iv s2, iv s3, av s4] σ (Mdl_opensBlock_p85 σ s0 s1 s2 s3 s4) := by
  unfold Mdl_opensBlock_p85
  refine g_callV (fc := fun sς => Mdl_opens sς s4 s3 s2 s1 s0) (ci := 17) (as := [iv s3, iv s2, iv s1, iv s0]) rfl rfl rfl q4129 qs318 mdX17_1113 (ctX17_opens s4 s3 s2 s1 s0) rfl (Nat.le_of_ble_eq_true rfl) (Nat.le_of_ble_eq_true rfl) (Nat.le_of_ble_eq_true rfl) pu_V dX17_opensBlock_85 (fun _ σ1 => ?_)
  exact g_return rfl dX17_opensBlock_88
def V.Mdl_opensBlock_p70  (σ : HS) (x0 : Nat) (x1 : Int32) (x3 : Int64) (s0 : Int32) (s1 : Int32) (s2 : Nat) : Option (Unit × HS) :=
  ck (tg σ x0 = 18) <| cl (Mdl_parametersOf σ x0 x3) fun r2 σ1 =>
  if x1 = (3 : Int32) then (
    Mdl_opensBlock_p85 σ1 (1 : Int32) r2 s0 s1 s2)
  else (
    Mdl_opensBlock_p85 σ1 (0 : Int32) r2 s0 s1 s2)
theorem V.gX17_opensBlock_p70 {X : CX}  (σ : HS) (x0 : Nat) (x1 : Int32) (x3 : Int64) (s0 : Int32) (s1 : Int32) (s2 : Nat) : G X RX17 "opensBlock" cX17_opensBlock 5 none 3 66 enV 70 [(0, av x0), (1, iv x1), (3, jv x3)] [iv s0, iv s1, av s2] σ (Mdl_opensBlock_p70 σ x0 x1 x3 s0 s1 s2) := by
  unfold Mdl_opensBlock_p70
  refine g_aload_n 0 0 dX17_opensBlock_70 rfl rfl ?_
  refine g_lload_n 3 2 dX17_opensBlock_71 rfl rfl ?_
  refine g_callV (fc := fun sς => Mdl_parametersOf sς x0 x3) (ci := 17) (as := [jv x3]) rfl rfl rfl q3923 qs271 mdX17_689 (ctX17_parametersOf x0 x3) rfl (Nat.le_of_ble_eq_true rfl) (Nat.le_of_ble_eq_true rfl) (Nat.le_of_ble_eq_true rfl) pu_I dX17_opensBlock_72 (fun r2 σ1 => ?_)
  refine g_iload_n 1 1 dX17_opensBlock_75 rfl rfl ?_
  refine g_iconst (v := 3) dX17_opensBlock_76 (by decide) ?_
  refine g_icmp_ne 84 dX17_opensBlock_77 (by decide) ?_ ?_
  · refine g_iconst (v := 0) dX17_opensBlock_84 (by decide) ?_
    refine G.sub [] rfl ?_
    exact gX17_opensBlock_p85 _ _ _ _ _ _
  · refine g_iconst (v := 1) dX17_opensBlock_80 (by decide) ?_
    refine g_goto 85 dX17_opensBlock_81 (by decide) ?_
    refine G.sub [] rfl ?_
    exact gX17_opensBlock_p85 _ _ _ _ _ _
def V.Mdl_opensBlock_p52  (σ : HS) (x0 : Nat) (x1 : Int32) (x3 : Int64) (s0 : Int32) (s1 : Nat) : Option (Unit × HS) :=
  if x1 = (3 : Int32) then (
    ck (tg σ x0 = 18) <| cl (Mdl_parametersOf σ x0 x3) fun r4 σ3 =>
    Mdl_opensBlock_p70 σ3 x0 x1 x3 r4 s0 s1)
  else (
    ck (tg σ x0 = 18) <| cl (Mdl_resultsOf σ x0 x3) fun r2 σ1 =>
    Mdl_opensBlock_p70 σ1 x0 x1 x3 r2 s0 s1)
theorem V.gX17_opensBlock_p52 {X : CX}  (σ : HS) (x0 : Nat) (x1 : Int32) (x3 : Int64) (s0 : Int32) (s1 : Nat) : G X RX17 "opensBlock" cX17_opensBlock 5 none 3 66 enV 52 [(0, av x0), (1, iv x1), (3, jv x3)] [iv s0, av s1] σ (Mdl_opensBlock_p52 σ x0 x1 x3 s0 s1) := by
  unfold Mdl_opensBlock_p52
  refine g_iload_n 1 1 dX17_opensBlock_52 rfl rfl ?_
  refine g_iconst (v := 3) dX17_opensBlock_53 (by decide) ?_
  refine g_icmp_ne 65 dX17_opensBlock_54 (by decide) ?_ ?_
  · refine g_aload_n 0 0 dX17_opensBlock_65 rfl rfl ?_
    refine g_lload_n 3 2 dX17_opensBlock_66 rfl rfl ?_
    refine g_callV (fc := fun sς => Mdl_resultsOf sς x0 x3) (ci := 17) (as := [jv x3]) rfl rfl rfl q3943 qs276 mdX17_698 (ctX17_resultsOf x0 x3) rfl (Nat.le_of_ble_eq_true rfl) (Nat.le_of_ble_eq_true rfl) (Nat.le_of_ble_eq_true rfl) pu_I dX17_opensBlock_67 (fun r2 σ1 => ?_)
    exact gX17_opensBlock_p70 _ _ _ _ _ _ _
  · refine g_aload_n 0 0 dX17_opensBlock_57 rfl rfl ?_
    refine g_lload_n 3 2 dX17_opensBlock_58 rfl rfl ?_
    refine g_callV (fc := fun sς => Mdl_parametersOf sς x0 x3) (ci := 17) (as := [jv x3]) rfl rfl rfl q3923 qs271 mdX17_689 (ctX17_parametersOf x0 x3) rfl (Nat.le_of_ble_eq_true rfl) (Nat.le_of_ble_eq_true rfl) (Nat.le_of_ble_eq_true rfl) pu_I dX17_opensBlock_59 (fun r4 σ3 => ?_)
    refine g_goto 70 dX17_opensBlock_62 (by decide) ?_
    exact gX17_opensBlock_p70 _ _ _ _ _ _ _
def V.Mdl_opensBlock (σ : HS) (x0 : Nat) (x1 : Int32) : Option (Unit × HS) :=
  ck (tg σ x0 = 18) <|
  ck (tg σ (gR σ x0 10) = 21) <|
  ck (tg σ x0 = 18) <|
  ck (tg σ (gR σ (gR σ x0 10) 56) = 100 ∧ inb (gI σ x0 94) (ln σ (gR σ (gR σ x0 10) 56))) <|
  bn (gI σ (gR σ (gR σ x0 10) 56) (ix (gI σ x0 94))) fun y1 =>
  ck (tg σ x0 = 18) <|
  ck (tg σ x0 = 18) <| bn (sI σ x0 19 ((gI σ x0 94) + (1 : Int32))) fun σ2 =>
  ck (tg σ2 x0 = 18) <| cl (Mdl_blockWord σ2 x0 ) fun r4 σ3 =>
  ck (tg σ3 x0 = 18) <|
  ck (tg σ3 x0 = 18) <| bn (sI σ3 x0 94 (gI σ3 x0 19)) fun σ5 =>
  if x1 = (3 : Int32) then (
    ck (tg σ5 x0 = 18) <|
    Mdl_opensBlock_p52 σ5 x0 x1 r4 (gI σ5 x0 94) x0)
  else (
    Mdl_opensBlock_p52 σ5 x0 x1 r4 (y1 + (1 : Int32)) x0)
theorem V.ctX17_opensBlock (x0 : Nat) (x1 : Int32) : Ct yX17_opensBlock  cX17_opensBlock 5 none 3 66 eV [av x0, iv x1] (fun σ => Mdl_opensBlock σ x0 x1) := by
  refine Ct.of (own := RX17) (nm := "opensBlock") (desc := "(I)V") rfl (by decide) (Nat.le_of_ble_eq_true rfl) (by decide) (fun X σ => ?_)
  show G X RX17 "opensBlock" cX17_opensBlock 5 none 3 66 enV 0 [(0, av x0), (1, iv x1)] [] σ (Mdl_opensBlock σ x0 x1)
  unfold Mdl_opensBlock
  refine g_aload_n 0 0 dX17_opensBlock_0 rfl rfl ?_
  refine g_getR fdX17_221 dX17_opensBlock_1 ?_
  refine g_getR fdX17_549 dX17_opensBlock_4 ?_
  refine g_aload_n 0 0 dX17_opensBlock_7 rfl rfl ?_
  refine g_getI fdX17_1107 dX17_opensBlock_8 ?_
  refine g_iaload dX17_opensBlock_11 ?_
  refine g_nmI (fun y1 => ?_)
  refine g_istore_n 2 dX17_opensBlock_12 rfl (by decide) rfl ?_
  refine g_aload_n 0 1 dX17_opensBlock_13 rfl rfl ?_
  refine g_aload_n 0 1 dX17_opensBlock_14 rfl rfl ?_
  refine g_getI fdX17_1107 dX17_opensBlock_15 ?_
  refine g_iconst (v := 1) dX17_opensBlock_18 (by decide) ?_
  refine g_iadd dX17_opensBlock_19 ?_
  refine g_putI fpX17_594 dX17_opensBlock_20 (fun σ2 => ?_)
  refine g_aload_n 0 1 dX17_opensBlock_23 rfl rfl ?_
  refine g_callV (fc := fun sς => Mdl_blockWord sς x0 ) (ci := 17) (as := []) rfl rfl rfl q3826 qs253 mdX17_600 (ctX17_blockWord x0 ) rfl (Nat.le_of_ble_eq_true rfl) (Nat.le_of_ble_eq_true rfl) (Nat.le_of_ble_eq_true rfl) pu_J dX17_opensBlock_24 (fun r4 σ3 => ?_)
  refine g_lstore_n 3 dX17_opensBlock_27 rfl (by decide) rfl ?_
  refine g_aload_n 0 2 dX17_opensBlock_28 rfl rfl ?_
  refine g_aload_n 0 2 dX17_opensBlock_29 rfl rfl ?_
  refine g_getI fdX17_594 dX17_opensBlock_30 ?_
  refine g_putI fpX17_1107 dX17_opensBlock_33 (fun σ5 => ?_)
  refine g_aload_n 0 2 dX17_opensBlock_36 rfl rfl ?_
  refine g_iload_n 1 3 dX17_opensBlock_37 rfl rfl ?_
  refine g_iconst (v := 3) dX17_opensBlock_38 (by decide) ?_
  refine g_icmp_ne 49 dX17_opensBlock_39 (by decide) ?_ ?_
  · refine g_iload_n 2 1 dX17_opensBlock_49 rfl rfl ?_
    refine g_iconst (v := 1) dX17_opensBlock_50 (by decide) ?_
    refine g_iadd dX17_opensBlock_51 ?_
    refine G.sub [2, 3, 0] rfl ?_
    exact gX17_opensBlock_p52 _ _ _ _ _ _
  · refine g_aload_n 0 2 dX17_opensBlock_42 rfl rfl ?_
    refine g_getI fdX17_1107 dX17_opensBlock_43 ?_
    refine g_goto 52 dX17_opensBlock_46 (by decide) ?_
    refine G.sub [2, 3, 0] rfl ?_
    exact gX17_opensBlock_p52 _ _ _ _ _ _
theorem V.dX17_resultsIn_0 : decode cX17_resultsIn 0 = .ok (.aload_n 0, 1) := by decide +kernel
theorem V.dX17_resultsIn_1 : decode cX17_resultsIn 1 = .ok (.iload_n 1, 1) := by decide +kernel
theorem V.dX17_resultsIn_2 : decode cX17_resultsIn 2 = .ok (.invokevirtual 1065, 3) := by decide +kernel
theorem V.dX17_resultsIn_5 : decode cX17_resultsIn 5 = .ok (.getfield 390, 3) := by decide +kernel
theorem V.dX17_resultsIn_8 : decode cX17_resultsIn 8 = .ok (.aload_n 0, 1) := by decide +kernel
theorem V.dX17_resultsIn_9 : decode cX17_resultsIn 9 = .ok (.getfield 71, 3) := by decide +kernel
theorem V.dX17_resultsIn_12 : decode cX17_resultsIn 12 = .ok (.iload_n 1, 1) := by decide +kernel
theorem V.dX17_resultsIn_13 : decode cX17_resultsIn 13 = .ok (.iaload, 1) := by decide +kernel
theorem V.dX17_resultsIn_14 : decode cX17_resultsIn 14 = .ok (.iaload, 1) := by decide +kernel
theorem V.dX17_resultsIn_15 : decode cX17_resultsIn 15 = .ok (.ireturn, 1) := by decide +kernel
/-! ModuleEngineModel.resultsIn(I)I -/
def V.Mdl_resultsIn (σ : HS) (x0 : Nat) (x1 : Int32) : Option (Int32 × HS) :=
  ck (tg σ x0 = 18) <| cl (Mdl_planOf σ x0 x1) fun r2 σ1 =>
  ck (tg σ1 r2 = 21) <|
  ck (tg σ1 x0 = 18) <|
  ck (tg σ1 (gR σ1 x0 38) = 100 ∧ inb x1 (ln σ1 (gR σ1 x0 38))) <|
  ck (tg σ1 (gR σ1 r2 6) = 100 ∧ inb (gI σ1 (gR σ1 x0 38) (ix x1)) (ln σ1 (gR σ1 r2 6))) <|
  some (gI σ1 (gR σ1 r2 6) (ix (gI σ1 (gR σ1 x0 38) (ix x1))), σ1)
theorem V.ctX17_resultsIn (x0 : Nat) (x1 : Int32) : Ct yX17_resultsIn  cX17_resultsIn 2 (some .int) 1 21 eI [av x0, iv x1] (fun σ => Mdl_resultsIn σ x0 x1) := by
  refine Ct.of (own := RX17) (nm := "resultsIn") (desc := "(I)I") rfl (by decide) (Nat.le_of_ble_eq_true rfl) (by decide) (fun X σ => ?_)
  show G X RX17 "resultsIn" cX17_resultsIn 2 (some .int) 1 21 enI 0 [(0, av x0), (1, iv x1)] [] σ (Mdl_resultsIn σ x0 x1)
  unfold Mdl_resultsIn
  refine g_aload_n 0 0 dX17_resultsIn_0 rfl rfl ?_
  refine g_iload_n 1 1 dX17_resultsIn_1 rfl rfl ?_
  refine g_callV (fc := fun sς => Mdl_planOf sς x0 x1) (ci := 17) (as := [iv x1]) rfl rfl rfl q4121 qs316 mdX17_1065 (ctX17_planOf x0 x1) rfl (Nat.le_of_ble_eq_true rfl) (Nat.le_of_ble_eq_true rfl) (Nat.le_of_ble_eq_true rfl) pu_R dX17_resultsIn_2 (fun r2 σ1 => ?_)
  refine g_getR fdX17_390 dX17_resultsIn_5 ?_
  refine g_aload_n 0 0 dX17_resultsIn_8 rfl rfl ?_
  refine g_getR fdX17_71 dX17_resultsIn_9 ?_
  refine g_iload_n 1 1 dX17_resultsIn_12 rfl rfl ?_
  refine g_iaload dX17_resultsIn_13 ?_
  refine g_iaload dX17_resultsIn_14 ?_
  exact g_ireturn rfl dX17_resultsIn_15
theorem V.dX17_closes_0 : decode cX17_closes 0 = .ok (.aload_n 0, 1) := by decide +kernel
theorem V.dX17_closes_1 : decode cX17_closes 1 = .ok (.dup, 1) := by decide +kernel
theorem V.dX17_closes_2 : decode cX17_closes 2 = .ok (.getfield 1086, 3) := by decide +kernel
theorem V.dX17_closes_5 : decode cX17_closes 5 = .ok (.iconst 1, 1) := by decide +kernel
theorem V.dX17_closes_6 : decode cX17_closes 6 = .ok (.isub, 1) := by decide +kernel
theorem V.dX17_closes_7 : decode cX17_closes 7 = .ok (.putfield 1086, 3) := by decide +kernel
theorem V.dX17_closes_10 : decode cX17_closes 10 = .ok (.aload_n 0, 1) := by decide +kernel
theorem V.dX17_closes_11 : decode cX17_closes 11 = .ok (.dup, 1) := by decide +kernel
theorem V.dX17_closes_12 : decode cX17_closes 12 = .ok (.getfield 1107, 3) := by decide +kernel
theorem V.dX17_closes_15 : decode cX17_closes 15 = .ok (.iconst 1, 1) := by decide +kernel
theorem V.dX17_closes_16 : decode cX17_closes 16 = .ok (.iadd, 1) := by decide +kernel
theorem V.dX17_closes_17 : decode cX17_closes 17 = .ok (.putfield 1107, 3) := by decide +kernel
theorem V.dX17_closes_20 : decode cX17_closes 20 = .ok (.aload_n 0, 1) := by decide +kernel
theorem V.dX17_closes_21 : decode cX17_closes 21 = .ok (.getfield 1086, 3) := by decide +kernel
theorem V.dX17_closes_24 : decode cX17_closes 24 = .ok (.aload_n 0, 1) := by decide +kernel
theorem V.dX17_closes_25 : decode cX17_closes 25 = .ok (.getfield 188, 3) := by decide +kernel
theorem V.dX17_closes_28 : decode cX17_closes 28 = .ok (.aload_n 0, 1) := by decide +kernel
theorem V.dX17_closes_29 : decode cX17_closes 29 = .ok (.getfield 1052, 3) := by decide +kernel
theorem V.dX17_closes_32 : decode cX17_closes 32 = .ok (.iconst 1, 1) := by decide +kernel
theorem V.dX17_closes_33 : decode cX17_closes 33 = .ok (.isub, 1) := by decide +kernel
theorem V.dX17_closes_34 : decode cX17_closes 34 = .ok (.iaload, 1) := by decide +kernel
theorem V.dX17_closes_35 : decode cX17_closes 35 = .ok (.if_icmp .le 4, 3) := by decide +kernel
theorem V.dX17_closes_38 : decode cX17_closes 38 = .ok (.return_, 1) := by decide +kernel
theorem V.dX17_closes_39 : decode cX17_closes 39 = .ok (.aload_n 0, 1) := by decide +kernel
theorem V.dX17_closes_40 : decode cX17_closes 40 = .ok (.getfield 173, 3) := by decide +kernel
theorem V.dX17_closes_43 : decode cX17_closes 43 = .ok (.aload_n 0, 1) := by decide +kernel
theorem V.dX17_closes_44 : decode cX17_closes 44 = .ok (.getfield 1052, 3) := by decide +kernel
theorem V.dX17_closes_47 : decode cX17_closes 47 = .ok (.iconst 1, 1) := by decide +kernel
theorem V.dX17_closes_48 : decode cX17_closes 48 = .ok (.isub, 1) := by decide +kernel
theorem V.dX17_closes_49 : decode cX17_closes 49 = .ok (.iaload, 1) := by decide +kernel
theorem V.dX17_closes_50 : decode cX17_closes 50 = .ok (.istore_n 1, 1) := by decide +kernel
theorem V.dX17_closes_51 : decode cX17_closes 51 = .ok (.aload_n 0, 1) := by decide +kernel
theorem V.dX17_closes_52 : decode cX17_closes 52 = .ok (.iload_n 1, 1) := by decide +kernel
theorem V.dX17_closes_53 : decode cX17_closes 53 = .ok (.invokevirtual 1129, 3) := by decide +kernel
theorem V.dX17_closes_56 : decode cX17_closes 56 = .ok (.istore_n 2, 1) := by decide +kernel
theorem V.dX17_closes_57 : decode cX17_closes 57 = .ok (.aload_n 0, 1) := by decide +kernel
theorem V.dX17_closes_58 : decode cX17_closes 58 = .ok (.dup, 1) := by decide +kernel
theorem V.dX17_closes_59 : decode cX17_closes 59 = .ok (.getfield 1052, 3) := by decide +kernel
theorem V.dX17_closes_62 : decode cX17_closes 62 = .ok (.iconst 1, 1) := by decide +kernel
theorem V.dX17_closes_63 : decode cX17_closes 63 = .ok (.isub, 1) := by decide +kernel
theorem V.dX17_closes_64 : decode cX17_closes 64 = .ok (.putfield 1052, 3) := by decide +kernel
theorem V.dX17_closes_67 : decode cX17_closes 67 = .ok (.aload_n 0, 1) := by decide +kernel
theorem V.dX17_closes_68 : decode cX17_closes 68 = .ok (.getfield 1052, 3) := by decide +kernel
theorem V.dX17_closes_71 : decode cX17_closes 71 = .ok (.ifCond .ne 46, 3) := by decide +kernel
theorem V.dX17_closes_74 : decode cX17_closes 74 = .ok (.aload_n 0, 1) := by decide +kernel
theorem V.dX17_closes_75 : decode cX17_closes 75 = .ok (.iconst 2, 1) := by decide +kernel
theorem V.dX17_closes_76 : decode cX17_closes 76 = .ok (.putfield 970, 3) := by decide +kernel
theorem V.dX17_closes_79 : decode cX17_closes 79 = .ok (.aload_n 0, 1) := by decide +kernel
theorem V.dX17_closes_80 : decode cX17_closes 80 = .ok (.iload_n 2, 1) := by decide +kernel
theorem V.dX17_closes_81 : decode cX17_closes 81 = .ok (.putfield 1098, 3) := by decide +kernel
theorem V.dX17_closes_84 : decode cX17_closes 84 = .ok (.iconst 0, 1) := by decide +kernel
theorem V.dX17_closes_85 : decode cX17_closes 85 = .ok (.istore_n 3, 1) := by decide +kernel
theorem V.dX17_closes_86 : decode cX17_closes 86 = .ok (.iload_n 3, 1) := by decide +kernel
theorem V.dX17_closes_87 : decode cX17_closes 87 = .ok (.iload_n 2, 1) := by decide +kernel
theorem V.dX17_closes_88 : decode cX17_closes 88 = .ok (.if_icmp .ge 28, 3) := by decide +kernel
theorem V.dX17_closes_91 : decode cX17_closes 91 = .ok (.aload_n 0, 1) := by decide +kernel
theorem V.dX17_closes_92 : decode cX17_closes 92 = .ok (.getfield 170, 3) := by decide +kernel
theorem V.dX17_closes_95 : decode cX17_closes 95 = .ok (.iload_n 3, 1) := by decide +kernel
theorem V.dX17_closes_96 : decode cX17_closes 96 = .ok (.aload_n 0, 1) := by decide +kernel
theorem V.dX17_closes_97 : decode cX17_closes 97 = .ok (.getfield 191, 3) := by decide +kernel
theorem V.dX17_closes_100 : decode cX17_closes 100 = .ok (.aload_n 0, 1) := by decide +kernel
theorem V.dX17_closes_101 : decode cX17_closes 101 = .ok (.getfield 1104, 3) := by decide +kernel
theorem V.dX17_closes_104 : decode cX17_closes 104 = .ok (.iload_n 2, 1) := by decide +kernel
theorem V.dX17_closes_105 : decode cX17_closes 105 = .ok (.isub, 1) := by decide +kernel
theorem V.dX17_closes_106 : decode cX17_closes 106 = .ok (.iload_n 3, 1) := by decide +kernel
theorem V.dX17_closes_107 : decode cX17_closes 107 = .ok (.iadd, 1) := by decide +kernel
theorem V.dX17_closes_108 : decode cX17_closes 108 = .ok (.laload, 1) := by decide +kernel
theorem V.dX17_closes_109 : decode cX17_closes 109 = .ok (.lastore, 1) := by decide +kernel
theorem V.dX17_closes_110 : decode cX17_closes 110 = .ok (.iinc 3 1, 3) := by decide +kernel
theorem V.dX17_closes_113 : decode cX17_closes 113 = .ok (.goto (-27), 3) := by decide +kernel
theorem V.dX17_closes_116 : decode cX17_closes 116 = .ok (.return_, 1) := by decide +kernel
theorem V.dX17_closes_117 : decode cX17_closes 117 = .ok (.aload_n 0, 1) := by decide +kernel
theorem V.dX17_closes_118 : decode cX17_closes 118 = .ok (.getfield 1104, 3) := by decide +kernel
theorem V.dX17_closes_121 : decode cX17_closes 121 = .ok (.iload_n 2, 1) := by decide +kernel
theorem V.dX17_closes_122 : decode cX17_closes 122 = .ok (.isub, 1) := by decide +kernel
theorem V.dX17_closes_123 : decode cX17_closes 123 = .ok (.istore_n 3, 1) := by decide +kernel
theorem V.dX17_closes_124 : decode cX17_closes 124 = .ok (.aload_n 0, 1) := by decide +kernel
theorem V.dX17_closes_125 : decode cX17_closes 125 = .ok (.aload_n 0, 1) := by decide +kernel
theorem V.dX17_closes_126 : decode cX17_closes 126 = .ok (.getfield 185, 3) := by decide +kernel
theorem V.dX17_closes_129 : decode cX17_closes 129 = .ok (.aload_n 0, 1) := by decide +kernel
theorem V.dX17_closes_130 : decode cX17_closes 130 = .ok (.getfield 1052, 3) := by decide +kernel
theorem V.dX17_closes_133 : decode cX17_closes 133 = .ok (.iconst 1, 1) := by decide +kernel
theorem V.dX17_closes_134 : decode cX17_closes 134 = .ok (.isub, 1) := by decide +kernel
theorem V.dX17_closes_135 : decode cX17_closes 135 = .ok (.iaload, 1) := by decide +kernel
theorem V.dX17_closes_136 : decode cX17_closes 136 = .ok (.putfield 1104, 3) := by decide +kernel
theorem V.dX17_closes_139 : decode cX17_closes 139 = .ok (.iconst 0, 1) := by decide +kernel
theorem V.dX17_closes_140 : decode cX17_closes 140 = .ok (.istore 4, 2) := by decide +kernel
theorem V.dX17_closes_142 : decode cX17_closes 142 = .ok (.iload 4, 2) := by decide +kernel
theorem V.dX17_closes_144 : decode cX17_closes 144 = .ok (.iload_n 2, 1) := by decide +kernel
theorem V.dX17_closes_145 : decode cX17_closes 145 = .ok (.if_icmp .ge 30, 3) := by decide +kernel
theorem V.dX17_closes_148 : decode cX17_closes 148 = .ok (.aload_n 0, 1) := by decide +kernel
theorem V.dX17_closes_149 : decode cX17_closes 149 = .ok (.getfield 191, 3) := by decide +kernel
theorem V.dX17_closes_152 : decode cX17_closes 152 = .ok (.aload_n 0, 1) := by decide +kernel
theorem V.dX17_closes_153 : decode cX17_closes 153 = .ok (.getfield 1104, 3) := by decide +kernel
theorem V.dX17_closes_156 : decode cX17_closes 156 = .ok (.iload 4, 2) := by decide +kernel
theorem V.dX17_closes_158 : decode cX17_closes 158 = .ok (.iadd, 1) := by decide +kernel
theorem V.dX17_closes_159 : decode cX17_closes 159 = .ok (.aload_n 0, 1) := by decide +kernel
theorem V.dX17_closes_160 : decode cX17_closes 160 = .ok (.getfield 191, 3) := by decide +kernel
theorem V.dX17_closes_163 : decode cX17_closes 163 = .ok (.iload_n 3, 1) := by decide +kernel
theorem V.dX17_closes_164 : decode cX17_closes 164 = .ok (.iload 4, 2) := by decide +kernel
theorem V.dX17_closes_166 : decode cX17_closes 166 = .ok (.iadd, 1) := by decide +kernel
theorem V.dX17_closes_167 : decode cX17_closes 167 = .ok (.laload, 1) := by decide +kernel
theorem V.dX17_closes_168 : decode cX17_closes 168 = .ok (.lastore, 1) := by decide +kernel
theorem V.dX17_closes_169 : decode cX17_closes 169 = .ok (.iinc 4 1, 3) := by decide +kernel
theorem V.dX17_closes_172 : decode cX17_closes 172 = .ok (.goto (-30), 3) := by decide +kernel
theorem V.dX17_closes_175 : decode cX17_closes 175 = .ok (.aload_n 0, 1) := by decide +kernel
theorem V.dX17_closes_176 : decode cX17_closes 176 = .ok (.dup, 1) := by decide +kernel
theorem V.dX17_closes_177 : decode cX17_closes 177 = .ok (.getfield 1104, 3) := by decide +kernel
theorem V.dX17_closes_180 : decode cX17_closes 180 = .ok (.iload_n 2, 1) := by decide +kernel
theorem V.dX17_closes_181 : decode cX17_closes 181 = .ok (.iadd, 1) := by decide +kernel
theorem V.dX17_closes_182 : decode cX17_closes 182 = .ok (.putfield 1104, 3) := by decide +kernel
theorem V.dX17_closes_185 : decode cX17_closes 185 = .ok (.aload_n 0, 1) := by decide +kernel
theorem V.dX17_closes_186 : decode cX17_closes 186 = .ok (.aload_n 0, 1) := by decide +kernel
theorem V.dX17_closes_187 : decode cX17_closes 187 = .ok (.getfield 176, 3) := by decide +kernel
theorem V.dX17_closes_190 : decode cX17_closes 190 = .ok (.aload_n 0, 1) := by decide +kernel
theorem V.dX17_closes_191 : decode cX17_closes 191 = .ok (.getfield 1052, 3) := by decide +kernel
theorem V.dX17_closes_194 : decode cX17_closes 194 = .ok (.iaload, 1) := by decide +kernel
theorem V.dX17_closes_195 : decode cX17_closes 195 = .ok (.putfield 1107, 3) := by decide +kernel
theorem V.dX17_closes_198 : decode cX17_closes 198 = .ok (.aload_n 0, 1) := by decide +kernel
theorem V.dX17_closes_199 : decode cX17_closes 199 = .ok (.getfield 173, 3) := by decide +kernel
theorem V.dX17_closes_202 : decode cX17_closes 202 = .ok (.aload_n 0, 1) := by decide +kernel
theorem V.dX17_closes_203 : decode cX17_closes 203 = .ok (.getfield 1052, 3) := by decide +kernel
theorem V.dX17_closes_206 : decode cX17_closes 206 = .ok (.iconst 1, 1) := by decide +kernel
theorem V.dX17_closes_207 : decode cX17_closes 207 = .ok (.isub, 1) := by decide +kernel
theorem V.dX17_closes_208 : decode cX17_closes 208 = .ok (.iaload, 1) := by decide +kernel
theorem V.dX17_closes_209 : decode cX17_closes 209 = .ok (.istore 4, 2) := by decide +kernel
theorem V.dX17_closes_211 : decode cX17_closes 211 = .ok (.aload_n 0, 1) := by decide +kernel
theorem V.dX17_closes_212 : decode cX17_closes 212 = .ok (.aload_n 0, 1) := by decide +kernel
theorem V.dX17_closes_213 : decode cX17_closes 213 = .ok (.iload 4, 2) := by decide +kernel
theorem V.dX17_closes_215 : decode cX17_closes 215 = .ok (.invokevirtual 1065, 3) := by decide +kernel
theorem V.dX17_closes_218 : decode cX17_closes 218 = .ok (.putfield 221, 3) := by decide +kernel
theorem V.dX17_closes_221 : decode cX17_closes 221 = .ok (.aload_n 0, 1) := by decide +kernel
theorem V.dX17_closes_222 : decode cX17_closes 222 = .ok (.aload_n 0, 1) := by decide +kernel
theorem V.dX17_closes_223 : decode cX17_closes 223 = .ok (.getfield 74, 3) := by decide +kernel
theorem V.dX17_closes_226 : decode cX17_closes 226 = .ok (.iload 4, 2) := by decide +kernel
theorem V.dX17_closes_228 : decode cX17_closes 228 = .ok (.iaload, 1) := by decide +kernel
theorem V.dX17_closes_229 : decode cX17_closes 229 = .ok (.putfield 1110, 3) := by decide +kernel
theorem V.dX17_closes_232 : decode cX17_closes 232 = .ok (.return_, 1) := by decide +kernel
theorem V.mdX17_1129 : MD RX17 1129 yX17_resultsIn cX17_resultsIn 2 (some .int) 1 := ⟨Or.inl q4143, q377, q4146, by decide, by decide, by decide +kernel⟩
/-! ModuleEngineModel.closes()V -/
def V.Mdl_closes_p142  : Nat → HS → Nat → Int32 → Int32 → Int32 → Option (Unit × HS)
  | 0, _, _, _, _, _ => none
  | n + 1, σ, x0, x2, x3, x4 =>
    if x2 ≤ x4 then (
      ck (tg σ x0 = 18) <|
      ck (tg σ x0 = 18) <| bn (sI σ x0 93 ((gI σ x0 93) + x2)) fun σ1 =>
      ck (tg σ1 x0 = 18) <|
      ck (tg σ1 x0 = 18) <|
      ck (tg σ1 (gR σ1 x0 87) = 100 ∧ inb (gI σ1 x0 85) (ln σ1 (gR σ1 x0 87))) <|
      ck (tg σ1 x0 = 18) <| bn (sI σ1 x0 94 (gI σ1 (gR σ1 x0 87) (ix (gI σ1 x0 85)))) fun σ2 =>
      ck (tg σ2 x0 = 18) <|
      ck (tg σ2 x0 = 18) <|
      ck (tg σ2 (gR σ2 x0 86) = 100 ∧ inb ((gI σ2 x0 85) - (1 : Int32)) (ln σ2 (gR σ2 x0 86))) <|
      bn (gI σ2 (gR σ2 x0 86) (ix ((gI σ2 x0 85) - (1 : Int32)))) fun y3 =>
      ck (tg σ2 x0 = 18) <| cl (Mdl_planOf σ2 x0 y3) fun r5 σ4 =>
      ck (tg σ4 x0 = 18) <| bn (sR σ4 x0 10 r5) fun σ6 =>
      ck (tg σ6 x0 = 18) <|
      ck (tg σ6 (gR σ6 x0 39) = 100 ∧ inb y3 (ln σ6 (gR σ6 x0 39))) <|
      ck (tg σ6 x0 = 18) <| bn (sI σ6 x0 95 (gI σ6 (gR σ6 x0 39) (ix y3))) fun σ7 =>
      some ((), σ7))
    else (
      ck (tg σ x0 = 18) <|
      ck (tg σ x0 = 18) <|
      ck (tg σ x0 = 18) <|
      ck (tg σ (gR σ x0 92) = 101 ∧ inb (x3 + x4) (ln σ (gR σ x0 92))) <|
      ck (tg σ (gR σ x0 92) = 101 ∧ inb ((gI σ x0 93) + x4) (ln σ (gR σ x0 92))) <| bn (sJ σ (gR σ x0 92) (ix ((gI σ x0 93) + x4)) (gJ σ (gR σ x0 92) (ix (x3 + x4)))) fun σ8 =>
      bn (x4 + (1 : Int32)) fun y9 =>
      Mdl_closes_p142 n σ8 x0 x2 x3 y9)
theorem V.gX17_closes_p142 {X : CX}  : ∀ (n : Nat) (σ : HS) (x0 : Nat) (x2 : Int32) (x3 : Int32) (x4 : Int32), G X RX17 "closes" cX17_closes 5 none 2 42 enV 142 [(0, av x0), (2, iv x2), (3, iv x3), (4, iv x4)] [] σ (Mdl_closes_p142 n σ x0 x2 x3 x4)
  | 0, σ, x0, x2, x3, x4 => by rw [Mdl_closes_p142]; exact G.nul
  | n + 1, σ, x0, x2, x3, x4 => by
    rw [Mdl_closes_p142]
    refine g_iload 3 dX17_closes_142 rfl ?_
    refine g_iload_n 2 1 dX17_closes_144 rfl rfl ?_
    refine g_icmp_ge 175 dX17_closes_145 (by decide) ?_ ?_
    · refine g_aload_n 0 0 dX17_closes_175 rfl rfl ?_
      refine g_dup dX17_closes_176 rfl ?_
      refine g_getI fdX17_1104 dX17_closes_177 ?_
      refine g_iload_n 2 1 dX17_closes_180 rfl rfl ?_
      refine g_iadd dX17_closes_181 ?_
      refine g_putI fpX17_1104 dX17_closes_182 (fun σ1 => ?_)
      refine g_aload_n 0 0 dX17_closes_185 rfl rfl ?_
      refine g_aload_n 0 0 dX17_closes_186 rfl rfl ?_
      refine g_getR fdX17_176 dX17_closes_187 ?_
      refine g_aload_n 0 0 dX17_closes_190 rfl rfl ?_
      refine g_getI fdX17_1052 dX17_closes_191 ?_
      refine g_iaload dX17_closes_194 ?_
      refine g_putI fpX17_1107 dX17_closes_195 (fun σ2 => ?_)
      refine g_aload_n 0 0 dX17_closes_198 rfl rfl ?_
      refine g_getR fdX17_173 dX17_closes_199 ?_
      refine g_aload_n 0 0 dX17_closes_202 rfl rfl ?_
      refine g_getI fdX17_1052 dX17_closes_203 ?_
      refine g_iconst (v := 1) dX17_closes_206 (by decide) ?_
      refine g_isub dX17_closes_207 ?_
      refine g_iaload dX17_closes_208 ?_
      refine g_nmI (fun y3 => ?_)
      refine g_istore dX17_closes_209 (by decide) rfl ?_
      refine g_aload_n 0 1 dX17_closes_211 rfl rfl ?_
      refine g_aload_n 0 1 dX17_closes_212 rfl rfl ?_
      refine g_iload 0 dX17_closes_213 rfl ?_
      refine g_callV (fc := fun sς => Mdl_planOf sς x0 y3) (ci := 17) (as := [iv y3]) rfl rfl rfl q4121 qs316 mdX17_1065 (ctX17_planOf x0 y3) rfl (Nat.le_of_ble_eq_true rfl) (Nat.le_of_ble_eq_true rfl) (Nat.le_of_ble_eq_true rfl) pu_R dX17_closes_215 (fun r5 σ4 => ?_)
      refine g_putR fpX17_221 rfl dX17_closes_218 (fun σ6 => ?_)
      refine g_aload_n 0 1 dX17_closes_221 rfl rfl ?_
      refine g_aload_n 0 1 dX17_closes_222 rfl rfl ?_
      refine g_getR fdX17_74 dX17_closes_223 ?_
      refine g_iload 0 dX17_closes_226 rfl ?_
      refine g_iaload dX17_closes_228 ?_
      refine g_putI fpX17_1110 dX17_closes_229 (fun σ7 => ?_)
      exact g_return rfl dX17_closes_232
    · refine g_aload_n 0 0 dX17_closes_148 rfl rfl ?_
      refine g_getR fdX17_191 dX17_closes_149 ?_
      refine g_aload_n 0 0 dX17_closes_152 rfl rfl ?_
      refine g_getI fdX17_1104 dX17_closes_153 ?_
      refine g_iload 3 dX17_closes_156 rfl ?_
      refine g_iadd dX17_closes_158 ?_
      refine g_aload_n 0 0 dX17_closes_159 rfl rfl ?_
      refine g_getR fdX17_191 dX17_closes_160 ?_
      refine g_iload_n 3 2 dX17_closes_163 rfl rfl ?_
      refine g_iload 3 dX17_closes_164 rfl ?_
      refine g_iadd dX17_closes_166 ?_
      refine g_laload dX17_closes_167 ?_
      refine g_lastore dX17_closes_168 (fun σ8 => ?_)
      refine g_iincB (w := 1) 3 dX17_closes_169 rfl (by decide) (by decide) (fun _ => rfl) (fun y9 => ?_)
      refine g_goto 142 dX17_closes_172 (by decide) ?_
      refine G.sub [1, 2, 3, 0] rfl ?_
      exact gX17_closes_p142 n _ _ _ _ _
def V.Mdl_closes_p86  : Nat → HS → Nat → Int32 → Int32 → Option (Unit × HS)
  | 0, _, _, _, _ => none
  | n + 1, σ, x0, x2, x3 =>
    if x2 ≤ x3 then (
      some ((), σ))
    else (
      ck (tg σ x0 = 18) <|
      ck (tg σ x0 = 18) <|
      ck (tg σ x0 = 18) <|
      ck (tg σ (gR σ x0 92) = 101 ∧ inb (((gI σ x0 93) - x2) + x3) (ln σ (gR σ x0 92))) <|
      ck (tg σ (gR σ x0 84) = 101 ∧ inb x3 (ln σ (gR σ x0 84))) <| bn (sJ σ (gR σ x0 84) (ix x3) (gJ σ (gR σ x0 92) (ix (((gI σ x0 93) - x2) + x3)))) fun σ1 =>
      bn (x3 + (1 : Int32)) fun y2 =>
      Mdl_closes_p86 n σ1 x0 x2 y2)
theorem V.gX17_closes_p86 {X : CX}  : ∀ (n : Nat) (σ : HS) (x0 : Nat) (x2 : Int32) (x3 : Int32), G X RX17 "closes" cX17_closes 5 none 2 42 enV 86 [(0, av x0), (2, iv x2), (3, iv x3)] [] σ (Mdl_closes_p86 n σ x0 x2 x3)
  | 0, σ, x0, x2, x3 => by rw [Mdl_closes_p86]; exact G.nul
  | n + 1, σ, x0, x2, x3 => by
    rw [Mdl_closes_p86]
    refine g_iload_n 3 2 dX17_closes_86 rfl rfl ?_
    refine g_iload_n 2 1 dX17_closes_87 rfl rfl ?_
    refine g_icmp_ge 116 dX17_closes_88 (by decide) ?_ ?_
    · exact g_return rfl dX17_closes_116
    · refine g_aload_n 0 0 dX17_closes_91 rfl rfl ?_
      refine g_getR fdX17_170 dX17_closes_92 ?_
      refine g_iload_n 3 2 dX17_closes_95 rfl rfl ?_
      refine g_aload_n 0 0 dX17_closes_96 rfl rfl ?_
      refine g_getR fdX17_191 dX17_closes_97 ?_
      refine g_aload_n 0 0 dX17_closes_100 rfl rfl ?_
      refine g_getI fdX17_1104 dX17_closes_101 ?_
      refine g_iload_n 2 1 dX17_closes_104 rfl rfl ?_
      refine g_isub dX17_closes_105 ?_
      refine g_iload_n 3 2 dX17_closes_106 rfl rfl ?_
      refine g_iadd dX17_closes_107 ?_
      refine g_laload dX17_closes_108 ?_
      refine g_lastore dX17_closes_109 (fun σ1 => ?_)
      refine g_iincB (w := 1) 2 dX17_closes_110 rfl (by decide) (by decide) (fun _ => rfl) (fun y2 => ?_)
      refine g_goto 86 dX17_closes_113 (by decide) ?_
      refine G.sub [1, 2, 0] rfl ?_
      exact gX17_closes_p86 n _ _ _ _
def V.Mdl_closes (σ : HS) (x0 : Nat) : Option (Unit × HS) :=
  ck (tg σ x0 = 18) <|
  ck (tg σ x0 = 18) <| bn (sI σ x0 96 ((gI σ x0 96) - (1 : Int32))) fun σ1 =>
  ck (tg σ1 x0 = 18) <|
  ck (tg σ1 x0 = 18) <| bn (sI σ1 x0 94 ((gI σ1 x0 94) + (1 : Int32))) fun σ2 =>
  ck (tg σ2 x0 = 18) <|
  ck (tg σ2 x0 = 18) <|
  ck (tg σ2 x0 = 18) <|
  ck (tg σ2 (gR σ2 x0 91) = 100 ∧ inb ((gI σ2 x0 85) - (1 : Int32)) (ln σ2 (gR σ2 x0 91))) <|
  if (gI σ2 x0 96) ≤ (gI σ2 (gR σ2 x0 91) (ix ((gI σ2 x0 85) - (1 : Int32)))) then (
    ck (tg σ2 x0 = 18) <|
    ck (tg σ2 x0 = 18) <|
    ck (tg σ2 (gR σ2 x0 86) = 100 ∧ inb ((gI σ2 x0 85) - (1 : Int32)) (ln σ2 (gR σ2 x0 86))) <|
    bn (gI σ2 (gR σ2 x0 86) (ix ((gI σ2 x0 85) - (1 : Int32)))) fun y3 =>
    ck (tg σ2 x0 = 18) <| cl (Mdl_resultsIn σ2 x0 y3) fun r5 σ4 =>
    ck (tg σ4 x0 = 18) <|
    ck (tg σ4 x0 = 18) <| bn (sI σ4 x0 85 ((gI σ4 x0 85) - (1 : Int32))) fun σ6 =>
    ck (tg σ6 x0 = 18) <|
    if (gI σ6 x0 85) = 0 then (
      ck (tg σ6 x0 = 18) <| bn (sI σ6 x0 76 (2 : Int32)) fun σ9 =>
      ck (tg σ9 x0 = 18) <| bn (sI σ9 x0 83 r5) fun σ10 =>
      Mdl_closes_p86 FU σ10 x0 r5 (0 : Int32))
    else (
      ck (tg σ6 x0 = 18) <|
      bn ((gI σ6 x0 93) - r5) fun y7 =>
      ck (tg σ6 x0 = 18) <|
      ck (tg σ6 x0 = 18) <|
      ck (tg σ6 (gR σ6 x0 90) = 100 ∧ inb ((gI σ6 x0 85) - (1 : Int32)) (ln σ6 (gR σ6 x0 90))) <|
      ck (tg σ6 x0 = 18) <| bn (sI σ6 x0 93 (gI σ6 (gR σ6 x0 90) (ix ((gI σ6 x0 85) - (1 : Int32))))) fun σ8 =>
      Mdl_closes_p142 FU σ8 x0 r5 y7 (0 : Int32)))
  else (
    some ((), σ2))
theorem V.ctX17_closes (x0 : Nat) : Ct yX17_closes  cX17_closes 5 none 2 42 eV [av x0] (fun σ => Mdl_closes σ x0) := by
  refine Ct.of (own := RX17) (nm := "closes") (desc := "()V") rfl (by decide) (Nat.le_of_ble_eq_true rfl) (by decide) (fun X σ => ?_)
  show G X RX17 "closes" cX17_closes 5 none 2 42 enV 0 [(0, av x0)] [] σ (Mdl_closes σ x0)
  unfold Mdl_closes
  refine g_aload_n 0 0 dX17_closes_0 rfl rfl ?_
  refine g_dup dX17_closes_1 rfl ?_
  refine g_getI fdX17_1086 dX17_closes_2 ?_
  refine g_iconst (v := 1) dX17_closes_5 (by decide) ?_
  refine g_isub dX17_closes_6 ?_
  refine g_putI fpX17_1086 dX17_closes_7 (fun σ1 => ?_)
  refine g_aload_n 0 0 dX17_closes_10 rfl rfl ?_
  refine g_dup dX17_closes_11 rfl ?_
  refine g_getI fdX17_1107 dX17_closes_12 ?_
  refine g_iconst (v := 1) dX17_closes_15 (by decide) ?_
  refine g_iadd dX17_closes_16 ?_
  refine g_putI fpX17_1107 dX17_closes_17 (fun σ2 => ?_)
  refine g_aload_n 0 0 dX17_closes_20 rfl rfl ?_
  refine g_getI fdX17_1086 dX17_closes_21 ?_
  refine g_aload_n 0 0 dX17_closes_24 rfl rfl ?_
  refine g_getR fdX17_188 dX17_closes_25 ?_
  refine g_aload_n 0 0 dX17_closes_28 rfl rfl ?_
  refine g_getI fdX17_1052 dX17_closes_29 ?_
  refine g_iconst (v := 1) dX17_closes_32 (by decide) ?_
  refine g_isub dX17_closes_33 ?_
  refine g_iaload dX17_closes_34 ?_
  refine g_icmp_le 39 dX17_closes_35 (by decide) ?_ ?_
  · refine g_aload_n 0 0 dX17_closes_39 rfl rfl ?_
    refine g_getR fdX17_173 dX17_closes_40 ?_
    refine g_aload_n 0 0 dX17_closes_43 rfl rfl ?_
    refine g_getI fdX17_1052 dX17_closes_44 ?_
    refine g_iconst (v := 1) dX17_closes_47 (by decide) ?_
    refine g_isub dX17_closes_48 ?_
    refine g_iaload dX17_closes_49 ?_
    refine g_nmI (fun y3 => ?_)
    refine g_istore_n 1 dX17_closes_50 rfl (by decide) rfl ?_
    refine g_aload_n 0 1 dX17_closes_51 rfl rfl ?_
    refine g_iload_n 1 0 dX17_closes_52 rfl rfl ?_
    refine g_callV (fc := fun sς => Mdl_resultsIn sς x0 y3) (ci := 17) (as := [iv y3]) rfl rfl rfl q4145 qs322 mdX17_1129 (ctX17_resultsIn x0 y3) rfl (Nat.le_of_ble_eq_true rfl) (Nat.le_of_ble_eq_true rfl) (Nat.le_of_ble_eq_true rfl) pu_I dX17_closes_53 (fun r5 σ4 => ?_)
    refine g_istore_n 2 dX17_closes_56 rfl (by decide) rfl ?_
    refine g_aload_n 0 2 dX17_closes_57 rfl rfl ?_
    refine g_dup dX17_closes_58 rfl ?_
    refine g_getI fdX17_1052 dX17_closes_59 ?_
    refine g_iconst (v := 1) dX17_closes_62 (by decide) ?_
    refine g_isub dX17_closes_63 ?_
    refine g_putI fpX17_1052 dX17_closes_64 (fun σ6 => ?_)
    refine g_aload_n 0 2 dX17_closes_67 rfl rfl ?_
    refine g_getI fdX17_1052 dX17_closes_68 ?_
    refine g_if_ne 117 dX17_closes_71 (by decide) ?_ ?_
    · refine g_aload_n 0 2 dX17_closes_117 rfl rfl ?_
      refine g_getI fdX17_1104 dX17_closes_118 ?_
      refine g_iload_n 2 0 dX17_closes_121 rfl rfl ?_
      refine g_isub dX17_closes_122 ?_
      refine g_nmI (fun y7 => ?_)
      refine g_istore_n 3 dX17_closes_123 rfl (by decide) rfl ?_
      refine g_aload_n 0 3 dX17_closes_124 rfl rfl ?_
      refine g_aload_n 0 3 dX17_closes_125 rfl rfl ?_
      refine g_getR fdX17_185 dX17_closes_126 ?_
      refine g_aload_n 0 3 dX17_closes_129 rfl rfl ?_
      refine g_getI fdX17_1052 dX17_closes_130 ?_
      refine g_iconst (v := 1) dX17_closes_133 (by decide) ?_
      refine g_isub dX17_closes_134 ?_
      refine g_iaload dX17_closes_135 ?_
      refine g_putI fpX17_1104 dX17_closes_136 (fun σ8 => ?_)
      refine g_iconst (v := 0) dX17_closes_139 (by decide) ?_
      refine g_istore dX17_closes_140 (by decide) rfl ?_
      refine G.sub [4, 2, 1, 0] rfl ?_
      exact gX17_closes_p142 FU _ _ _ _ _
    · refine g_aload_n 0 2 dX17_closes_74 rfl rfl ?_
      refine g_iconst (v := 2) dX17_closes_75 (by decide) ?_
      refine g_putI fpX17_970 dX17_closes_76 (fun σ9 => ?_)
      refine g_aload_n 0 2 dX17_closes_79 rfl rfl ?_
      refine g_iload_n 2 0 dX17_closes_80 rfl rfl ?_
      refine g_putI fpX17_1098 dX17_closes_81 (fun σ10 => ?_)
      refine g_iconst (v := 0) dX17_closes_84 (by decide) ?_
      refine g_istore_n 3 dX17_closes_85 rfl (by decide) rfl ?_
      refine G.sub [3, 1, 0] rfl ?_
      exact gX17_closes_p86 FU _ _ _ _
  · exact g_return rfl dX17_closes_38
theorem V.dX17_goesOn_0 : decode cX17_goesOn 0 = .ok (.aload_n 0, 1) := by decide +kernel
theorem V.dX17_goesOn_1 : decode cX17_goesOn 1 = .ok (.getfield 970, 3) := by decide +kernel
theorem V.dX17_goesOn_4 : decode cX17_goesOn 4 = .ok (.iconst 1, 1) := by decide +kernel
theorem V.dX17_goesOn_5 : decode cX17_goesOn 5 = .ok (.if_icmp .ne 74, 3) := by decide +kernel
theorem V.dX17_goesOn_8 : decode cX17_goesOn 8 = .ok (.aload_n 0, 1) := by decide +kernel
theorem V.dX17_goesOn_9 : decode cX17_goesOn 9 = .ok (.getfield 221, 3) := by decide +kernel
theorem V.dX17_goesOn_12 : decode cX17_goesOn 12 = .ok (.aload_n 0, 1) := by decide +kernel
theorem V.dX17_goesOn_13 : decode cX17_goesOn 13 = .ok (.getfield 1107, 3) := by decide +kernel
theorem V.dX17_goesOn_16 : decode cX17_goesOn 16 = .ok (.invokevirtual 261, 3) := by decide +kernel
theorem V.dX17_goesOn_19 : decode cX17_goesOn 19 = .ok (.istore_n 1, 1) := by decide +kernel
theorem V.dX17_goesOn_20 : decode cX17_goesOn 20 = .ok (.iload_n 1, 1) := by decide +kernel
theorem V.dX17_goesOn_21 : decode cX17_goesOn 21 = .ok (.iconst 2, 1) := by decide +kernel
theorem V.dX17_goesOn_22 : decode cX17_goesOn 22 = .ok (.if_icmp .eq 8, 3) := by decide +kernel
theorem V.dX17_goesOn_25 : decode cX17_goesOn 25 = .ok (.iload_n 1, 1) := by decide +kernel
theorem V.dX17_goesOn_26 : decode cX17_goesOn 26 = .ok (.iconst 3, 1) := by decide +kernel
theorem V.dX17_goesOn_27 : decode cX17_goesOn 27 = .ok (.if_icmp .ne 11, 3) := by decide +kernel
theorem V.dX17_goesOn_30 : decode cX17_goesOn 30 = .ok (.aload_n 0, 1) := by decide +kernel
theorem V.dX17_goesOn_31 : decode cX17_goesOn 31 = .ok (.iload_n 1, 1) := by decide +kernel
theorem V.dX17_goesOn_32 : decode cX17_goesOn 32 = .ok (.invokevirtual 1123, 3) := by decide +kernel
theorem V.dX17_goesOn_35 : decode cX17_goesOn 35 = .ok (.goto 41, 3) := by decide +kernel
theorem V.dX17_goesOn_38 : decode cX17_goesOn 38 = .ok (.iload_n 1, 1) := by decide +kernel
theorem V.dX17_goesOn_39 : decode cX17_goesOn 39 = .ok (.iconst 5, 1) := by decide +kernel
theorem V.dX17_goesOn_40 : decode cX17_goesOn 40 = .ok (.if_icmp .ne 22, 3) := by decide +kernel
theorem V.dX17_goesOn_43 : decode cX17_goesOn 43 = .ok (.aload_n 0, 1) := by decide +kernel
theorem V.dX17_goesOn_44 : decode cX17_goesOn 44 = .ok (.aload_n 0, 1) := by decide +kernel
theorem V.dX17_goesOn_45 : decode cX17_goesOn 45 = .ok (.getfield 221, 3) := by decide +kernel
theorem V.dX17_goesOn_48 : decode cX17_goesOn 48 = .ok (.getfield 549, 3) := by decide +kernel
theorem V.dX17_goesOn_51 : decode cX17_goesOn 51 = .ok (.aload_n 0, 1) := by decide +kernel
theorem V.dX17_goesOn_52 : decode cX17_goesOn 52 = .ok (.getfield 1107, 3) := by decide +kernel
theorem V.dX17_goesOn_55 : decode cX17_goesOn 55 = .ok (.iaload, 1) := by decide +kernel
theorem V.dX17_goesOn_56 : decode cX17_goesOn 56 = .ok (.putfield 1107, 3) := by decide +kernel
theorem V.dX17_goesOn_59 : decode cX17_goesOn 59 = .ok (.goto 17, 3) := by decide +kernel
theorem V.dX17_goesOn_62 : decode cX17_goesOn 62 = .ok (.iload_n 1, 1) := by decide +kernel
theorem V.dX17_goesOn_63 : decode cX17_goesOn 63 = .ok (.bipush 11, 2) := by decide +kernel
theorem V.dX17_goesOn_65 : decode cX17_goesOn 65 = .ok (.if_icmp .ne 10, 3) := by decide +kernel
theorem V.dX17_goesOn_68 : decode cX17_goesOn 68 = .ok (.aload_n 0, 1) := by decide +kernel
theorem V.dX17_goesOn_69 : decode cX17_goesOn 69 = .ok (.invokevirtual 1126, 3) := by decide +kernel
theorem V.dX17_goesOn_72 : decode cX17_goesOn 72 = .ok (.goto 4, 3) := by decide +kernel
theorem V.dX17_goesOn_75 : decode cX17_goesOn 75 = .ok (.return_, 1) := by decide +kernel
theorem V.dX17_goesOn_76 : decode cX17_goesOn 76 = .ok (.goto (-76), 3) := by decide +kernel
theorem V.dX17_goesOn_79 : decode cX17_goesOn 79 = .ok (.return_, 1) := by decide +kernel
theorem V.mdX17_1126 : MD RX17 1126 yX17_closes cX17_closes 5 none 0 := ⟨Or.inl q4139, q377, q4142, by decide, by decide, by decide +kernel⟩
theorem V.mdX17_1123 : MD RX17 1123 yX17_opensBlock cX17_opensBlock 5 none 1 := ⟨Or.inl q4135, q377, q4138, by decide, by decide, by decide +kernel⟩
/-! ModuleEngineModel.goesOn()V -/
def V.Mdl_goesOn_p30 (rec0 : HS → Nat → Option (Unit × HS)) (σ : HS) (x0 : Nat) (x1 : Int32) : Option (Unit × HS) :=
  ck (tg σ x0 = 18) <| cl (Mdl_opensBlock σ x0 x1) fun _ σ1 =>
  rec0 σ1 x0
theorem V.gX17_goesOn_p30 {X : CX} (rec0 : HS → Nat → Option (Unit × HS)) (hrec0 : ∀ (σ : HS) (x0 : Nat), G X RX17 "goesOn" cX17_goesOn 2 none 4 90 enV 0 [(0, av x0)] [] σ (rec0 σ x0)) (σ : HS) (x0 : Nat) (x1 : Int32) : G X RX17 "goesOn" cX17_goesOn 2 none 4 90 enV 30 [(0, av x0), (1, iv x1)] [] σ (Mdl_goesOn_p30 rec0 σ x0 x1) := by
  unfold Mdl_goesOn_p30
  refine g_aload_n 0 0 dX17_goesOn_30 rfl rfl ?_
  refine g_iload_n 1 1 dX17_goesOn_31 rfl rfl ?_
  refine g_callV (fc := fun sς => Mdl_opensBlock sς x0 x1) (ci := 17) (as := [iv x1]) rfl rfl rfl q4137 qs320 mdX17_1123 (ctX17_opensBlock x0 x1) rfl (Nat.le_of_ble_eq_true rfl) (Nat.le_of_ble_eq_true rfl) (Nat.le_of_ble_eq_true rfl) pu_V dX17_goesOn_32 (fun _ σ1 => ?_)
  refine g_goto 76 dX17_goesOn_35 (by decide) ?_
  refine g_goto 0 dX17_goesOn_76 (by decide) ?_
  refine G.sub [0] rfl ?_
  exact hrec0 _ _
def V.Mdl_goesOn_p0  : Nat → HS → Nat → Option (Unit × HS)
  | 0, _, _ => none
  | n + 1, σ, x0 =>
    ck (tg σ x0 = 18) <|
    if (gI σ x0 76) = (1 : Int32) then (
      ck (tg σ x0 = 18) <|
      ck (tg σ x0 = 18) <|
      ck (tg σ (gR σ x0 10) = 21) <| cl (Pln_at σ (gR σ x0 10) (gI σ x0 94)) fun r2 σ1 =>
      if r2 = (2 : Int32) then (
        Mdl_goesOn_p30 (Mdl_goesOn_p0 n) σ1 x0 r2)
      else (
        if r2 = (3 : Int32) then (
          Mdl_goesOn_p30 (Mdl_goesOn_p0 n) σ1 x0 r2)
        else (
          if r2 = (5 : Int32) then (
            ck (tg σ1 x0 = 18) <|
            ck (tg σ1 (gR σ1 x0 10) = 21) <|
            ck (tg σ1 x0 = 18) <|
            ck (tg σ1 (gR σ1 (gR σ1 x0 10) 56) = 100 ∧ inb (gI σ1 x0 94) (ln σ1 (gR σ1 (gR σ1 x0 10) 56))) <|
            ck (tg σ1 x0 = 18) <| bn (sI σ1 x0 94 (gI σ1 (gR σ1 (gR σ1 x0 10) 56) (ix (gI σ1 x0 94)))) fun σ4 =>
            Mdl_goesOn_p0 n σ4 x0)
          else (
            if r2 = (11 : Int32) then (
              ck (tg σ1 x0 = 18) <| cl (Mdl_closes σ1 x0 ) fun _ σ3 =>
              Mdl_goesOn_p0 n σ3 x0)
            else (
              some ((), σ1))))))
    else (
      some ((), σ))
theorem V.gX17_goesOn_p0 {X : CX}  : ∀ (n : Nat) (σ : HS) (x0 : Nat), G X RX17 "goesOn" cX17_goesOn 2 none 4 90 enV 0 [(0, av x0)] [] σ (Mdl_goesOn_p0 n σ x0)
  | 0, σ, x0 => by rw [Mdl_goesOn_p0]; exact G.nul
  | n + 1, σ, x0 => by
    rw [Mdl_goesOn_p0]
    refine g_aload_n 0 0 dX17_goesOn_0 rfl rfl ?_
    refine g_getI fdX17_970 dX17_goesOn_1 ?_
    refine g_iconst (v := 1) dX17_goesOn_4 (by decide) ?_
    refine g_icmp_ne 79 dX17_goesOn_5 (by decide) ?_ ?_
    · exact g_return rfl dX17_goesOn_79
    · refine g_aload_n 0 0 dX17_goesOn_8 rfl rfl ?_
      refine g_getR fdX17_221 dX17_goesOn_9 ?_
      refine g_aload_n 0 0 dX17_goesOn_12 rfl rfl ?_
      refine g_getI fdX17_1107 dX17_goesOn_13 ?_
      refine g_callV (fc := fun sς => Pln_at sς (gR σ x0 10) (gI σ x0 94)) (ci := 20) (as := [iv (gI σ x0 94)]) rfl rfl rfl q3609 q3610 mdX17_261 (ctX20_at (gR σ x0 10) (gI σ x0 94)) rfl (Nat.le_of_ble_eq_true rfl) (Nat.le_of_ble_eq_true rfl) (Nat.le_of_ble_eq_true rfl) pu_I dX17_goesOn_16 (fun r2 σ1 => ?_)
      refine g_istore_n 1 dX17_goesOn_19 rfl (by decide) rfl ?_
      refine g_iload_n 1 0 dX17_goesOn_20 rfl rfl ?_
      refine g_iconst (v := 2) dX17_goesOn_21 (by decide) ?_
      refine g_icmp_eq 30 dX17_goesOn_22 (by decide) ?_ ?_
      · refine G.sub [1, 0] rfl ?_
        exact gX17_goesOn_p30 (Mdl_goesOn_p0 n) (gX17_goesOn_p0 n) _ _ _
      · refine g_iload_n 1 0 dX17_goesOn_25 rfl rfl ?_
        refine g_iconst (v := 3) dX17_goesOn_26 (by decide) ?_
        refine g_icmp_ne 38 dX17_goesOn_27 (by decide) ?_ ?_
        · refine g_iload_n 1 0 dX17_goesOn_38 rfl rfl ?_
          refine g_iconst (v := 5) dX17_goesOn_39 (by decide) ?_
          refine g_icmp_ne 62 dX17_goesOn_40 (by decide) ?_ ?_
          · refine g_iload_n 1 0 dX17_goesOn_62 rfl rfl ?_
            refine g_bipush (v := 11) dX17_goesOn_63 (by decide) ?_
            refine g_icmp_ne 75 dX17_goesOn_65 (by decide) ?_ ?_
            · exact g_return rfl dX17_goesOn_75
            · refine g_aload_n 0 1 dX17_goesOn_68 rfl rfl ?_
              refine g_callV (fc := fun sς => Mdl_closes sς x0 ) (ci := 17) (as := []) rfl rfl rfl q4141 qs321 mdX17_1126 (ctX17_closes x0 ) rfl (Nat.le_of_ble_eq_true rfl) (Nat.le_of_ble_eq_true rfl) (Nat.le_of_ble_eq_true rfl) pu_V dX17_goesOn_69 (fun _ σ3 => ?_)
              refine g_goto 76 dX17_goesOn_72 (by decide) ?_
              refine g_goto 0 dX17_goesOn_76 (by decide) ?_
              refine G.sub [1] rfl ?_
              exact gX17_goesOn_p0 n _ _
          · refine g_aload_n 0 1 dX17_goesOn_43 rfl rfl ?_
            refine g_aload_n 0 1 dX17_goesOn_44 rfl rfl ?_
            refine g_getR fdX17_221 dX17_goesOn_45 ?_
            refine g_getR fdX17_549 dX17_goesOn_48 ?_
            refine g_aload_n 0 1 dX17_goesOn_51 rfl rfl ?_
            refine g_getI fdX17_1107 dX17_goesOn_52 ?_
            refine g_iaload dX17_goesOn_55 ?_
            refine g_putI fpX17_1107 dX17_goesOn_56 (fun σ4 => ?_)
            refine g_goto 76 dX17_goesOn_59 (by decide) ?_
            refine g_goto 0 dX17_goesOn_76 (by decide) ?_
            refine G.sub [1] rfl ?_
            exact gX17_goesOn_p0 n _ _
        · refine G.sub [1, 0] rfl ?_
          exact gX17_goesOn_p30 (Mdl_goesOn_p0 n) (gX17_goesOn_p0 n) _ _ _
def V.Mdl_goesOn (σ : HS) (x0 : Nat) : Option (Unit × HS) :=
  Mdl_goesOn_p0 FU σ x0
theorem V.ctX17_goesOn (x0 : Nat) : Ct yX17_goesOn  cX17_goesOn 2 none 4 90 eV [av x0] (fun σ => Mdl_goesOn σ x0) := by
  refine Ct.of (own := RX17) (nm := "goesOn") (desc := "()V") rfl (by decide) (Nat.le_of_ble_eq_true rfl) (by decide) (fun X σ => ?_)
  show G X RX17 "goesOn" cX17_goesOn 2 none 4 90 enV 0 [(0, av x0)] [] σ (Mdl_goesOn σ x0)
  unfold Mdl_goesOn
  exact gX17_goesOn_p0 FU _ _
theorem V.dX17_calls_0 : decode cX17_calls 0 = .ok (.aload_n 0, 1) := by decide +kernel
theorem V.dX17_calls_1 : decode cX17_calls 1 = .ok (.iconst 1, 1) := by decide +kernel
theorem V.dX17_calls_2 : decode cX17_calls 2 = .ok (.putfield 970, 3) := by decide +kernel
theorem V.dX17_calls_5 : decode cX17_calls 5 = .ok (.aload_n 0, 1) := by decide +kernel
theorem V.dX17_calls_6 : decode cX17_calls 6 = .ok (.iconst 0, 1) := by decide +kernel
theorem V.dX17_calls_7 : decode cX17_calls 7 = .ok (.putfield 1049, 3) := by decide +kernel
theorem V.dX17_calls_10 : decode cX17_calls 10 = .ok (.aload_n 0, 1) := by decide +kernel
theorem V.dX17_calls_11 : decode cX17_calls 11 = .ok (.iconst 0, 1) := by decide +kernel
theorem V.dX17_calls_12 : decode cX17_calls 12 = .ok (.putfield 1052, 3) := by decide +kernel
theorem V.dX17_calls_15 : decode cX17_calls 15 = .ok (.aload_n 0, 1) := by decide +kernel
theorem V.dX17_calls_16 : decode cX17_calls 16 = .ok (.iconst 0, 1) := by decide +kernel
theorem V.dX17_calls_17 : decode cX17_calls 17 = .ok (.putfield 1086, 3) := by decide +kernel
theorem V.dX17_calls_20 : decode cX17_calls 20 = .ok (.aload_n 0, 1) := by decide +kernel
theorem V.dX17_calls_21 : decode cX17_calls 21 = .ok (.iload_n 1, 1) := by decide +kernel
theorem V.dX17_calls_22 : decode cX17_calls 22 = .ok (.invokevirtual 1089, 3) := by decide +kernel
theorem V.dX17_calls_25 : decode cX17_calls 25 = .ok (.aload_n 0, 1) := by decide +kernel
theorem V.dX17_calls_26 : decode cX17_calls 26 = .ok (.invokevirtual 1092, 3) := by decide +kernel
theorem V.dX17_calls_29 : decode cX17_calls 29 = .ok (.return_, 1) := by decide +kernel
theorem V.mdX17_1089 : MD RX17 1089 yX17_enters cX17_enters 13 none 1 := ⟨Or.inl q4111, q377, q4114, by decide, by decide, by decide +kernel⟩
theorem V.mdX17_1092 : MD RX17 1092 yX17_goesOn cX17_goesOn 2 none 0 := ⟨Or.inl q4131, q377, q4134, by decide, by decide, by decide +kernel⟩
/-! ModuleEngineModel.calls(I)V -/
def V.Mdl_calls (σ : HS) (x0 : Nat) (x1 : Int32) : Option (Unit × HS) :=
  ck (tg σ x0 = 18) <| bn (sI σ x0 76 (1 : Int32)) fun σ1 =>
  ck (tg σ1 x0 = 18) <| bn (sI σ1 x0 78 (0 : Int32)) fun σ2 =>
  ck (tg σ2 x0 = 18) <| bn (sI σ2 x0 85 (0 : Int32)) fun σ3 =>
  ck (tg σ3 x0 = 18) <| bn (sI σ3 x0 96 (0 : Int32)) fun σ4 =>
  ck (tg σ4 x0 = 18) <| cl (Mdl_enters σ4 x0 x1) fun _ σ5 =>
  ck (tg σ5 x0 = 18) <| cl (Mdl_goesOn σ5 x0 ) fun _ σ6 =>
  some ((), σ6)
theorem V.ctX17_calls (x0 : Nat) (x1 : Int32) : Ct yX17_calls  cX17_calls 2 none 5 111 eV [av x0, iv x1] (fun σ => Mdl_calls σ x0 x1) := by
  refine Ct.of (own := RX17) (nm := "calls") (desc := "(I)V") rfl (by decide) (Nat.le_of_ble_eq_true rfl) (by decide) (fun X σ => ?_)
  show G X RX17 "calls" cX17_calls 2 none 5 111 enV 0 [(0, av x0), (1, iv x1)] [] σ (Mdl_calls σ x0 x1)
  unfold Mdl_calls
  refine g_aload_n 0 0 dX17_calls_0 rfl rfl ?_
  refine g_iconst (v := 1) dX17_calls_1 (by decide) ?_
  refine g_putI fpX17_970 dX17_calls_2 (fun σ1 => ?_)
  refine g_aload_n 0 0 dX17_calls_5 rfl rfl ?_
  refine g_iconst (v := 0) dX17_calls_6 (by decide) ?_
  refine g_putI fpX17_1049 dX17_calls_7 (fun σ2 => ?_)
  refine g_aload_n 0 0 dX17_calls_10 rfl rfl ?_
  refine g_iconst (v := 0) dX17_calls_11 (by decide) ?_
  refine g_putI fpX17_1052 dX17_calls_12 (fun σ3 => ?_)
  refine g_aload_n 0 0 dX17_calls_15 rfl rfl ?_
  refine g_iconst (v := 0) dX17_calls_16 (by decide) ?_
  refine g_putI fpX17_1086 dX17_calls_17 (fun σ4 => ?_)
  refine g_aload_n 0 0 dX17_calls_20 rfl rfl ?_
  refine g_iload_n 1 1 dX17_calls_21 rfl rfl ?_
  refine g_callV (fc := fun sς => Mdl_enters sς x0 x1) (ci := 17) (as := [iv x1]) rfl rfl rfl q4113 qs314 mdX17_1089 (ctX17_enters x0 x1) rfl (Nat.le_of_ble_eq_true rfl) (Nat.le_of_ble_eq_true rfl) (Nat.le_of_ble_eq_true rfl) pu_V dX17_calls_22 (fun _ σ5 => ?_)
  refine g_aload_n 0 0 dX17_calls_25 rfl rfl ?_
  refine g_callV (fc := fun sς => Mdl_goesOn sς x0 ) (ci := 17) (as := []) rfl rfl rfl q4133 qs319 mdX17_1092 (ctX17_goesOn x0 ) rfl (Nat.le_of_ble_eq_true rfl) (Nat.le_of_ble_eq_true rfl) (Nat.le_of_ble_eq_true rfl) pu_V dX17_calls_26 (fun _ σ6 => ?_)
  exact g_return rfl dX17_calls_29
theorem V.dX17_startsUp_0 : decode cX17_startsUp 0 = .ok (.iconst 0, 1) := by decide +kernel
theorem V.dX17_startsUp_1 : decode cX17_startsUp 1 = .ok (.istore_n 2, 1) := by decide +kernel
theorem V.dX17_startsUp_2 : decode cX17_startsUp 2 = .ok (.iload_n 2, 1) := by decide +kernel
theorem V.dX17_startsUp_3 : decode cX17_startsUp 3 = .ok (.aload_n 0, 1) := by decide +kernel
theorem V.dX17_startsUp_4 : decode cX17_startsUp 4 = .ok (.getfield 221, 3) := by decide +kernel
theorem V.dX17_startsUp_7 : decode cX17_startsUp 7 = .ok (.getfield 481, 3) := by decide +kernel
theorem V.dX17_startsUp_10 : decode cX17_startsUp 10 = .ok (.if_icmp .ge 104, 3) := by decide +kernel
theorem V.dX17_startsUp_13 : decode cX17_startsUp 13 = .ok (.aload_n 0, 1) := by decide +kernel
theorem V.dX17_startsUp_14 : decode cX17_startsUp 14 = .ok (.getfield 221, 3) := by decide +kernel
theorem V.dX17_startsUp_17 : decode cX17_startsUp 17 = .ok (.getfield 489, 3) := by decide +kernel
theorem V.dX17_startsUp_20 : decode cX17_startsUp 20 = .ok (.iload_n 2, 1) := by decide +kernel
theorem V.dX17_startsUp_21 : decode cX17_startsUp 21 = .ok (.iaload, 1) := by decide +kernel
theorem V.dX17_startsUp_22 : decode cX17_startsUp 22 = .ok (.ifCond .ne 67, 3) := by decide +kernel
theorem V.dX17_startsUp_25 : decode cX17_startsUp 25 = .ok (.aload_n 0, 1) := by decide +kernel
theorem V.dX17_startsUp_26 : decode cX17_startsUp 26 = .ok (.iload_n 1, 1) := by decide +kernel
theorem V.dX17_startsUp_27 : decode cX17_startsUp 27 = .ok (.aload_n 0, 1) := by decide +kernel
theorem V.dX17_startsUp_28 : decode cX17_startsUp 28 = .ok (.getfield 221, 3) := by decide +kernel
theorem V.dX17_startsUp_31 : decode cX17_startsUp 31 = .ok (.getfield 495, 3) := by decide +kernel
theorem V.dX17_startsUp_34 : decode cX17_startsUp 34 = .ok (.iload_n 2, 1) := by decide +kernel
theorem V.dX17_startsUp_35 : decode cX17_startsUp 35 = .ok (.iaload, 1) := by decide +kernel
theorem V.dX17_startsUp_36 : decode cX17_startsUp 36 = .ok (.invokevirtual 1020, 3) := by decide +kernel
theorem V.dX17_startsUp_39 : decode cX17_startsUp 39 = .ok (.lstore_n 3, 1) := by decide +kernel
theorem V.dX17_startsUp_40 : decode cX17_startsUp 40 = .ok (.aload_n 0, 1) := by decide +kernel
theorem V.dX17_startsUp_41 : decode cX17_startsUp 41 = .ok (.iload_n 1, 1) := by decide +kernel
theorem V.dX17_startsUp_42 : decode cX17_startsUp 42 = .ok (.iload_n 2, 1) := by decide +kernel
theorem V.dX17_startsUp_43 : decode cX17_startsUp 43 = .ok (.aload_n 0, 1) := by decide +kernel
theorem V.dX17_startsUp_44 : decode cX17_startsUp 44 = .ok (.getfield 137, 3) := by decide +kernel
theorem V.dX17_startsUp_47 : decode cX17_startsUp 47 = .ok (.sipush 128, 3) := by decide +kernel
theorem V.dX17_startsUp_50 : decode cX17_startsUp 50 = .ok (.iload_n 1, 1) := by decide +kernel
theorem V.dX17_startsUp_51 : decode cX17_startsUp 51 = .ok (.imul, 1) := by decide +kernel
theorem V.dX17_startsUp_52 : decode cX17_startsUp 52 = .ok (.aload_n 0, 1) := by decide +kernel
theorem V.dX17_startsUp_53 : decode cX17_startsUp 53 = .ok (.getfield 221, 3) := by decide +kernel
theorem V.dX17_startsUp_56 : decode cX17_startsUp 56 = .ok (.getfield 492, 3) := by decide +kernel
theorem V.dX17_startsUp_59 : decode cX17_startsUp 59 = .ok (.iload_n 2, 1) := by decide +kernel
theorem V.dX17_startsUp_60 : decode cX17_startsUp 60 = .ok (.laload, 1) := by decide +kernel
theorem V.dX17_startsUp_61 : decode cX17_startsUp 61 = .ok (.l2i, 1) := by decide +kernel
theorem V.dX17_startsUp_62 : decode cX17_startsUp 62 = .ok (.iadd, 1) := by decide +kernel
theorem V.dX17_startsUp_63 : decode cX17_startsUp 63 = .ok (.iaload, 1) := by decide +kernel
theorem V.dX17_startsUp_64 : decode cX17_startsUp 64 = .ok (.lload_n 3, 1) := by decide +kernel
theorem V.dX17_startsUp_65 : decode cX17_startsUp 65 = .ok (.lconst 0, 1) := by decide +kernel
theorem V.dX17_startsUp_66 : decode cX17_startsUp 66 = .ok (.aload_n 0, 1) := by decide +kernel
theorem V.dX17_startsUp_67 : decode cX17_startsUp 67 = .ok (.getfield 221, 3) := by decide +kernel
theorem V.dX17_startsUp_70 : decode cX17_startsUp 70 = .ok (.getfield 507, 3) := by decide +kernel
theorem V.dX17_startsUp_73 : decode cX17_startsUp 73 = .ok (.iload_n 2, 1) := by decide +kernel
theorem V.dX17_startsUp_74 : decode cX17_startsUp 74 = .ok (.iaload, 1) := by decide +kernel
theorem V.dX17_startsUp_75 : decode cX17_startsUp 75 = .ok (.i2l, 1) := by decide +kernel
theorem V.dX17_startsUp_76 : decode cX17_startsUp 76 = .ok (.invokevirtual 1030, 3) := by decide +kernel
theorem V.dX17_startsUp_79 : decode cX17_startsUp 79 = .ok (.ifCond .ne 10, 3) := by decide +kernel
theorem V.dX17_startsUp_82 : decode cX17_startsUp 82 = .ok (.aload_n 0, 1) := by decide +kernel
theorem V.dX17_startsUp_83 : decode cX17_startsUp 83 = .ok (.bipush 6, 2) := by decide +kernel
theorem V.dX17_startsUp_85 : decode cX17_startsUp 85 = .ok (.invokevirtual 1034, 3) := by decide +kernel
theorem V.dX17_startsUp_88 : decode cX17_startsUp 88 = .ok (.return_, 1) := by decide +kernel
theorem V.dX17_startsUp_89 : decode cX17_startsUp 89 = .ok (.aload_n 0, 1) := by decide +kernel
theorem V.dX17_startsUp_90 : decode cX17_startsUp 90 = .ok (.getfield 221, 3) := by decide +kernel
theorem V.dX17_startsUp_93 : decode cX17_startsUp 93 = .ok (.getfield 489, 3) := by decide +kernel
theorem V.dX17_startsUp_96 : decode cX17_startsUp 96 = .ok (.iload_n 2, 1) := by decide +kernel
theorem V.dX17_startsUp_97 : decode cX17_startsUp 97 = .ok (.iaload, 1) := by decide +kernel
theorem V.dX17_startsUp_98 : decode cX17_startsUp 98 = .ok (.iconst 1, 1) := by decide +kernel
theorem V.dX17_startsUp_99 : decode cX17_startsUp 99 = .ok (.if_icmp .eq 9, 3) := by decide +kernel
theorem V.dX17_startsUp_102 : decode cX17_startsUp 102 = .ok (.aload_n 0, 1) := by decide +kernel
theorem V.dX17_startsUp_103 : decode cX17_startsUp 103 = .ok (.iload_n 1, 1) := by decide +kernel
theorem V.dX17_startsUp_104 : decode cX17_startsUp 104 = .ok (.iload_n 2, 1) := by decide +kernel
theorem V.dX17_startsUp_105 : decode cX17_startsUp 105 = .ok (.invokevirtual 1037, 3) := by decide +kernel
theorem V.dX17_startsUp_108 : decode cX17_startsUp 108 = .ok (.iinc 2 1, 3) := by decide +kernel
theorem V.dX17_startsUp_111 : decode cX17_startsUp 111 = .ok (.goto (-109), 3) := by decide +kernel
theorem V.dX17_startsUp_114 : decode cX17_startsUp 114 = .ok (.iconst 0, 1) := by decide +kernel
theorem V.dX17_startsUp_115 : decode cX17_startsUp 115 = .ok (.istore_n 2, 1) := by decide +kernel
theorem V.dX17_startsUp_116 : decode cX17_startsUp 116 = .ok (.iload_n 2, 1) := by decide +kernel
theorem V.dX17_startsUp_117 : decode cX17_startsUp 117 = .ok (.aload_n 0, 1) := by decide +kernel
theorem V.dX17_startsUp_118 : decode cX17_startsUp 118 = .ok (.getfield 221, 3) := by decide +kernel
theorem V.dX17_startsUp_121 : decode cX17_startsUp 121 = .ok (.getfield 529, 3) := by decide +kernel
theorem V.dX17_startsUp_124 : decode cX17_startsUp 124 = .ok (.if_icmp .ge 85, 3) := by decide +kernel
theorem V.dX17_startsUp_127 : decode cX17_startsUp 127 = .ok (.aload_n 0, 1) := by decide +kernel
theorem V.dX17_startsUp_128 : decode cX17_startsUp 128 = .ok (.getfield 221, 3) := by decide +kernel
theorem V.dX17_startsUp_131 : decode cX17_startsUp 131 = .ok (.getfield 534, 3) := by decide +kernel
theorem V.dX17_startsUp_134 : decode cX17_startsUp 134 = .ok (.iload_n 2, 1) := by decide +kernel
theorem V.dX17_startsUp_135 : decode cX17_startsUp 135 = .ok (.baload, 1) := by decide +kernel
theorem V.dX17_startsUp_136 : decode cX17_startsUp 136 = .ok (.ifCond .eq 67, 3) := by decide +kernel
theorem V.dX17_startsUp_139 : decode cX17_startsUp 139 = .ok (.aload_n 0, 1) := by decide +kernel
theorem V.dX17_startsUp_140 : decode cX17_startsUp 140 = .ok (.iload_n 1, 1) := by decide +kernel
theorem V.dX17_startsUp_141 : decode cX17_startsUp 141 = .ok (.aload_n 0, 1) := by decide +kernel
theorem V.dX17_startsUp_142 : decode cX17_startsUp 142 = .ok (.getfield 221, 3) := by decide +kernel
theorem V.dX17_startsUp_145 : decode cX17_startsUp 145 = .ok (.getfield 540, 3) := by decide +kernel
theorem V.dX17_startsUp_148 : decode cX17_startsUp 148 = .ok (.iload_n 2, 1) := by decide +kernel
theorem V.dX17_startsUp_149 : decode cX17_startsUp 149 = .ok (.iaload, 1) := by decide +kernel
theorem V.dX17_startsUp_150 : decode cX17_startsUp 150 = .ok (.invokevirtual 1020, 3) := by decide +kernel
theorem V.dX17_startsUp_153 : decode cX17_startsUp 153 = .ok (.lstore_n 3, 1) := by decide +kernel
theorem V.dX17_startsUp_154 : decode cX17_startsUp 154 = .ok (.aload_n 0, 1) := by decide +kernel
theorem V.dX17_startsUp_155 : decode cX17_startsUp 155 = .ok (.iload_n 1, 1) := by decide +kernel
theorem V.dX17_startsUp_156 : decode cX17_startsUp 156 = .ok (.iload_n 2, 1) := by decide +kernel
theorem V.dX17_startsUp_157 : decode cX17_startsUp 157 = .ok (.aload_n 0, 1) := by decide +kernel
theorem V.dX17_startsUp_158 : decode cX17_startsUp 158 = .ok (.getfield 140, 3) := by decide +kernel
theorem V.dX17_startsUp_161 : decode cX17_startsUp 161 = .ok (.sipush 128, 3) := by decide +kernel
theorem V.dX17_startsUp_164 : decode cX17_startsUp 164 = .ok (.iload_n 1, 1) := by decide +kernel
theorem V.dX17_startsUp_165 : decode cX17_startsUp 165 = .ok (.imul, 1) := by decide +kernel
theorem V.dX17_startsUp_166 : decode cX17_startsUp 166 = .ok (.iaload, 1) := by decide +kernel
theorem V.dX17_startsUp_167 : decode cX17_startsUp 167 = .ok (.lload_n 3, 1) := by decide +kernel
theorem V.dX17_startsUp_168 : decode cX17_startsUp 168 = .ok (.lconst 0, 1) := by decide +kernel
theorem V.dX17_startsUp_169 : decode cX17_startsUp 169 = .ok (.aload_n 0, 1) := by decide +kernel
theorem V.dX17_startsUp_170 : decode cX17_startsUp 170 = .ok (.getfield 221, 3) := by decide +kernel
theorem V.dX17_startsUp_173 : decode cX17_startsUp 173 = .ok (.getfield 546, 3) := by decide +kernel
theorem V.dX17_startsUp_176 : decode cX17_startsUp 176 = .ok (.iload_n 2, 1) := by decide +kernel
theorem V.dX17_startsUp_177 : decode cX17_startsUp 177 = .ok (.iaload, 1) := by decide +kernel
theorem V.dX17_startsUp_178 : decode cX17_startsUp 178 = .ok (.i2l, 1) := by decide +kernel
theorem V.dX17_startsUp_179 : decode cX17_startsUp 179 = .ok (.invokevirtual 1040, 3) := by decide +kernel
theorem V.dX17_startsUp_182 : decode cX17_startsUp 182 = .ok (.ifCond .ne 9, 3) := by decide +kernel
theorem V.dX17_startsUp_185 : decode cX17_startsUp 185 = .ok (.aload_n 0, 1) := by decide +kernel
theorem V.dX17_startsUp_186 : decode cX17_startsUp 186 = .ok (.iconst 5, 1) := by decide +kernel
theorem V.dX17_startsUp_187 : decode cX17_startsUp 187 = .ok (.invokevirtual 1034, 3) := by decide +kernel
theorem V.dX17_startsUp_190 : decode cX17_startsUp 190 = .ok (.return_, 1) := by decide +kernel
theorem V.dX17_startsUp_191 : decode cX17_startsUp 191 = .ok (.aload_n 0, 1) := by decide +kernel
theorem V.dX17_startsUp_192 : decode cX17_startsUp 192 = .ok (.getfield 152, 3) := by decide +kernel
theorem V.dX17_startsUp_195 : decode cX17_startsUp 195 = .ok (.bipush 64, 2) := by decide +kernel
theorem V.dX17_startsUp_197 : decode cX17_startsUp 197 = .ok (.iload_n 1, 1) := by decide +kernel
theorem V.dX17_startsUp_198 : decode cX17_startsUp 198 = .ok (.imul, 1) := by decide +kernel
theorem V.dX17_startsUp_199 : decode cX17_startsUp 199 = .ok (.iload_n 2, 1) := by decide +kernel
theorem V.dX17_startsUp_200 : decode cX17_startsUp 200 = .ok (.iadd, 1) := by decide +kernel
theorem V.dX17_startsUp_201 : decode cX17_startsUp 201 = .ok (.iconst 0, 1) := by decide +kernel
theorem V.dX17_startsUp_202 : decode cX17_startsUp 202 = .ok (.bastore, 1) := by decide +kernel
theorem V.dX17_startsUp_203 : decode cX17_startsUp 203 = .ok (.iinc 2 1, 3) := by decide +kernel
theorem V.dX17_startsUp_206 : decode cX17_startsUp 206 = .ok (.goto (-90), 3) := by decide +kernel
theorem V.dX17_startsUp_209 : decode cX17_startsUp 209 = .ok (.aload_n 0, 1) := by decide +kernel
theorem V.dX17_startsUp_210 : decode cX17_startsUp 210 = .ok (.getfield 221, 3) := by decide +kernel
theorem V.dX17_startsUp_213 : decode cX17_startsUp 213 = .ok (.getfield 348, 3) := by decide +kernel
theorem V.dX17_startsUp_216 : decode cX17_startsUp 216 = .ok (.lconst 0, 1) := by decide +kernel
theorem V.dX17_startsUp_217 : decode cX17_startsUp 217 = .ok (.lcmp, 1) := by decide +kernel
theorem V.dX17_startsUp_218 : decode cX17_startsUp 218 = .ok (.ifCond .lt 26, 3) := by decide +kernel
theorem V.dX17_startsUp_221 : decode cX17_startsUp 221 = .ok (.aload_n 0, 1) := by decide +kernel
theorem V.dX17_startsUp_222 : decode cX17_startsUp 222 = .ok (.aload_n 0, 1) := by decide +kernel
theorem V.dX17_startsUp_223 : decode cX17_startsUp 223 = .ok (.getfield 134, 3) := by decide +kernel
theorem V.dX17_startsUp_226 : decode cX17_startsUp 226 = .ok (.sipush 128, 3) := by decide +kernel
theorem V.dX17_startsUp_229 : decode cX17_startsUp 229 = .ok (.iload_n 1, 1) := by decide +kernel
theorem V.dX17_startsUp_230 : decode cX17_startsUp 230 = .ok (.imul, 1) := by decide +kernel
theorem V.dX17_startsUp_231 : decode cX17_startsUp 231 = .ok (.aload_n 0, 1) := by decide +kernel
theorem V.dX17_startsUp_232 : decode cX17_startsUp 232 = .ok (.getfield 221, 3) := by decide +kernel
theorem V.dX17_startsUp_235 : decode cX17_startsUp 235 = .ok (.getfield 348, 3) := by decide +kernel
theorem V.dX17_startsUp_238 : decode cX17_startsUp 238 = .ok (.l2i, 1) := by decide +kernel
theorem V.dX17_startsUp_239 : decode cX17_startsUp 239 = .ok (.iadd, 1) := by decide +kernel
theorem V.dX17_startsUp_240 : decode cX17_startsUp 240 = .ok (.iaload, 1) := by decide +kernel
theorem V.dX17_startsUp_241 : decode cX17_startsUp 241 = .ok (.invokevirtual 1043, 3) := by decide +kernel
theorem V.dX17_startsUp_244 : decode cX17_startsUp 244 = .ok (.return_, 1) := by decide +kernel
theorem V.mdX17_1030 : MD RX17 1030 yX17_copiesElement cX17_copiesElement 11 (some .boolean) 6 := ⟨Or.inl q4082, q377, q4085, by decide, by decide, by decide +kernel⟩
theorem V.mdX17_1034 : MD RX17 1034 yX17_failsAtOnce cX17_failsAtOnce 2 none 1 := ⟨Or.inl q4086, q377, q4089, by decide, by decide, by decide +kernel⟩
theorem V.mdX17_1043 : MD RX17 1043 yX17_calls cX17_calls 2 none 1 := ⟨Or.inl q4107, q377, q4110, by decide, by decide, by decide +kernel⟩
theorem V.mdX17_1040 : MD RX17 1040 yX17_copiesData cX17_copiesData 13 (some .boolean) 6 := ⟨Or.inl q4094, q377, q4097, by decide, by decide, by decide +kernel⟩
theorem V.mdX17_1037 : MD RX17 1037 yX17_dropped cX17_dropped 3 none 2 := ⟨Or.inl q4090, q377, q4093, by decide, by decide, by decide +kernel⟩
/-! ModuleEngineModel.startsUp(I)V -/
def V.Mdl_startsUp_p203 (rec116 : HS → Nat → Int32 → Int32 → Option (Unit × HS)) (σ : HS) (x0 : Nat) (x1 : Int32) (x2 : Int32) : Option (Unit × HS) :=
  bn (x2 + (1 : Int32)) fun y1 =>
  rec116 σ x0 x1 y1
theorem V.gX17_startsUp_p203 {X : CX} (rec116 : HS → Nat → Int32 → Int32 → Option (Unit × HS)) (hrec116 : ∀ (σ : HS) (x0 : Nat) (x1 : Int32) (x2 : Int32), G X RX17 "startsUp" cX17_startsUp 5 none 6 132 enV 116 [(0, av x0), (1, iv x1), (2, iv x2)] [] σ (rec116 σ x0 x1 x2)) (σ : HS) (x0 : Nat) (x1 : Int32) (x2 : Int32) : G X RX17 "startsUp" cX17_startsUp 5 none 6 132 enV 203 [(0, av x0), (1, iv x1), (2, iv x2)] [] σ (Mdl_startsUp_p203 rec116 σ x0 x1 x2) := by
  unfold Mdl_startsUp_p203
  refine g_iincB (w := 1) 2 dX17_startsUp_203 rfl (by decide) (by decide) (fun _ => rfl) (fun y1 => ?_)
  refine g_goto 116 dX17_startsUp_206 (by decide) ?_
  refine G.sub [1, 2, 0] rfl ?_
  exact hrec116 _ _ _ _
def V.Mdl_startsUp_p116  : Nat → HS → Nat → Int32 → Int32 → Option (Unit × HS)
  | 0, _, _, _, _ => none
  | n + 1, σ, x0, x1, x2 =>
    ck (tg σ x0 = 18) <|
    ck (tg σ (gR σ x0 10) = 21) <|
    if (gI σ (gR σ x0 10) 44) ≤ x2 then (
      ck (tg σ x0 = 18) <|
      ck (tg σ (gR σ x0 10) = 21) <|
      if (gJ σ (gR σ x0 10) 33) < (0 : Int64) then (
        some ((), σ))
      else (
        ck (tg σ x0 = 18) <|
        ck (tg σ x0 = 18) <|
        ck (tg σ (gR σ x0 10) = 21) <|
        ck (tg σ (gR σ x0 64) = 100 ∧ inb (((128 : Int32) * x1) + ((gJ σ (gR σ x0 10) 33).toInt32)) (ln σ (gR σ x0 64))) <|
        ck (tg σ x0 = 18) <| cl (Mdl_calls σ x0 (gI σ (gR σ x0 64) (ix (((128 : Int32) * x1) + ((gJ σ (gR σ x0 10) 33).toInt32))))) fun _ σ1 =>
        some ((), σ1)))
    else (
      ck (tg σ x0 = 18) <|
      ck (tg σ (gR σ x0 10) = 21) <|
      ck (tg σ (gR σ (gR σ x0 10) 45) = 103 ∧ inb x2 (ln σ (gR σ (gR σ x0 10) 45))) <|
      if (gI σ (gR σ (gR σ x0 10) 45) (ix x2)) = 0 then (
        Mdl_startsUp_p203 (Mdl_startsUp_p116 n) σ x0 x1 x2)
      else (
        ck (tg σ x0 = 18) <|
        ck (tg σ (gR σ x0 10) = 21) <|
        ck (tg σ (gR σ (gR σ x0 10) 47) = 100 ∧ inb x2 (ln σ (gR σ (gR σ x0 10) 47))) <|
        ck (tg σ x0 = 18) <| cl (Mdl_constant σ x0 x1 (gI σ (gR σ (gR σ x0 10) 47) (ix x2))) fun r3 σ2 =>
        ck (tg σ2 x0 = 18) <|
        ck (tg σ2 (gR σ2 x0 66) = 100 ∧ inb ((128 : Int32) * x1) (ln σ2 (gR σ2 x0 66))) <|
        ck (tg σ2 x0 = 18) <|
        ck (tg σ2 (gR σ2 x0 10) = 21) <|
        ck (tg σ2 (gR σ2 (gR σ2 x0 10) 49) = 100 ∧ inb x2 (ln σ2 (gR σ2 (gR σ2 x0 10) 49))) <|
        ck (tg σ2 x0 = 18) <| cl (Mdl_copiesData σ2 x0 x1 x2 (gI σ2 (gR σ2 x0 66) (ix ((128 : Int32) * x1))) r3 (0 : Int64) ((gI σ2 (gR σ2 (gR σ2 x0 10) 49) (ix x2)).toInt64)) fun r5 σ4 =>
        if r5 = 0 then (
          ck (tg σ4 x0 = 18) <| cl (Mdl_failsAtOnce σ4 x0 (5 : Int32)) fun _ σ7 =>
          some ((), σ7))
        else (
          ck (tg σ4 x0 = 18) <|
          ck (tg σ4 (gR σ4 x0 70) = 103 ∧ inb (((64 : Int32) * x1) + x2) (ln σ4 (gR σ4 x0 70)) ∧ zb (0 : Int32)) <| bn (sI σ4 (gR σ4 x0 70) (ix (((64 : Int32) * x1) + x2)) (0 : Int32)) fun σ6 =>
          Mdl_startsUp_p203 (Mdl_startsUp_p116 n) σ6 x0 x1 x2)))
theorem V.gX17_startsUp_p116 {X : CX}  : ∀ (n : Nat) (σ : HS) (x0 : Nat) (x1 : Int32) (x2 : Int32), G X RX17 "startsUp" cX17_startsUp 5 none 6 132 enV 116 [(0, av x0), (1, iv x1), (2, iv x2)] [] σ (Mdl_startsUp_p116 n σ x0 x1 x2)
  | 0, σ, x0, x1, x2 => by rw [Mdl_startsUp_p116]; exact G.nul
  | n + 1, σ, x0, x1, x2 => by
    rw [Mdl_startsUp_p116]
    refine g_iload_n 2 2 dX17_startsUp_116 rfl rfl ?_
    refine g_aload_n 0 0 dX17_startsUp_117 rfl rfl ?_
    refine g_getR fdX17_221 dX17_startsUp_118 ?_
    refine g_getI fdX17_529 dX17_startsUp_121 ?_
    refine g_icmp_ge 209 dX17_startsUp_124 (by decide) ?_ ?_
    · refine g_aload_n 0 0 dX17_startsUp_209 rfl rfl ?_
      refine g_getR fdX17_221 dX17_startsUp_210 ?_
      refine g_getJ fdX17_348 dX17_startsUp_213 ?_
      refine g_lconst (v := 0) dX17_startsUp_216 (by decide) ?_
      refine g_lcmp_lt 244 dX17_startsUp_217 dX17_startsUp_218 (by decide) ?_ ?_
      · exact g_return rfl dX17_startsUp_244
      · refine g_aload_n 0 0 dX17_startsUp_221 rfl rfl ?_
        refine g_aload_n 0 0 dX17_startsUp_222 rfl rfl ?_
        refine g_getR fdX17_134 dX17_startsUp_223 ?_
        refine g_sipush (v := 128) dX17_startsUp_226 (by decide) ?_
        refine g_iload_n 1 1 dX17_startsUp_229 rfl rfl ?_
        refine g_imul dX17_startsUp_230 ?_
        refine g_aload_n 0 0 dX17_startsUp_231 rfl rfl ?_
        refine g_getR fdX17_221 dX17_startsUp_232 ?_
        refine g_getJ fdX17_348 dX17_startsUp_235 ?_
        refine g_l2i dX17_startsUp_238 ?_
        refine g_iadd dX17_startsUp_239 ?_
        refine g_iaload dX17_startsUp_240 ?_
        refine g_callV (fc := fun sς => Mdl_calls sς x0 (gI σ (gR σ x0 64) (ix (((128 : Int32) * x1) + ((gJ σ (gR σ x0 10) 33).toInt32))))) (ci := 17) (as := [iv (gI σ (gR σ x0 64) (ix (((128 : Int32) * x1) + ((gJ σ (gR σ x0 10) 33).toInt32))))]) rfl rfl rfl q4109 qs313 mdX17_1043 (ctX17_calls x0 (gI σ (gR σ x0 64) (ix (((128 : Int32) * x1) + ((gJ σ (gR σ x0 10) 33).toInt32))))) rfl (Nat.le_of_ble_eq_true rfl) (Nat.le_of_ble_eq_true rfl) (Nat.le_of_ble_eq_true rfl) pu_V dX17_startsUp_241 (fun _ σ1 => ?_)
        exact g_return rfl dX17_startsUp_244
    · refine g_aload_n 0 0 dX17_startsUp_127 rfl rfl ?_
      refine g_getR fdX17_221 dX17_startsUp_128 ?_
      refine g_getR fdX17_534 dX17_startsUp_131 ?_
      refine g_iload_n 2 2 dX17_startsUp_134 rfl rfl ?_
      refine g_zaload dX17_startsUp_135 ?_
      refine g_if_eq 203 dX17_startsUp_136 (by decide) ?_ ?_
      · exact gX17_startsUp_p203 (Mdl_startsUp_p116 n) (gX17_startsUp_p116 n) _ _ _ _
      · refine g_aload_n 0 0 dX17_startsUp_139 rfl rfl ?_
        refine g_iload_n 1 1 dX17_startsUp_140 rfl rfl ?_
        refine g_aload_n 0 0 dX17_startsUp_141 rfl rfl ?_
        refine g_getR fdX17_221 dX17_startsUp_142 ?_
        refine g_getR fdX17_540 dX17_startsUp_145 ?_
        refine g_iload_n 2 2 dX17_startsUp_148 rfl rfl ?_
        refine g_iaload dX17_startsUp_149 ?_
        refine g_callV (fc := fun sς => Mdl_constant sς x0 x1 (gI σ (gR σ (gR σ x0 10) 47) (ix x2))) (ci := 17) (as := [iv x1, iv (gI σ (gR σ (gR σ x0 10) 47) (ix x2))]) rfl rfl rfl q4068 qs303 mdX17_1020 (ctX17_constant x0 x1 (gI σ (gR σ (gR σ x0 10) 47) (ix x2))) rfl (Nat.le_of_ble_eq_true rfl) (Nat.le_of_ble_eq_true rfl) (Nat.le_of_ble_eq_true rfl) pu_J dX17_startsUp_150 (fun r3 σ2 => ?_)
        refine g_lstore_n 3 dX17_startsUp_153 rfl (by decide) rfl ?_
        refine g_aload_n 0 1 dX17_startsUp_154 rfl rfl ?_
        refine g_iload_n 1 2 dX17_startsUp_155 rfl rfl ?_
        refine g_iload_n 2 3 dX17_startsUp_156 rfl rfl ?_
        refine g_aload_n 0 1 dX17_startsUp_157 rfl rfl ?_
        refine g_getR fdX17_140 dX17_startsUp_158 ?_
        refine g_sipush (v := 128) dX17_startsUp_161 (by decide) ?_
        refine g_iload_n 1 2 dX17_startsUp_164 rfl rfl ?_
        refine g_imul dX17_startsUp_165 ?_
        refine g_iaload dX17_startsUp_166 ?_
        refine g_lload_n 3 0 dX17_startsUp_167 rfl rfl ?_
        refine g_lconst (v := 0) dX17_startsUp_168 (by decide) ?_
        refine g_aload_n 0 1 dX17_startsUp_169 rfl rfl ?_
        refine g_getR fdX17_221 dX17_startsUp_170 ?_
        refine g_getR fdX17_546 dX17_startsUp_173 ?_
        refine g_iload_n 2 3 dX17_startsUp_176 rfl rfl ?_
        refine g_iaload dX17_startsUp_177 ?_
        refine g_i2l dX17_startsUp_178 ?_
        refine g_callV (fc := fun sς => Mdl_copiesData sς x0 x1 x2 (gI σ2 (gR σ2 x0 66) (ix ((128 : Int32) * x1))) r3 (0 : Int64) ((gI σ2 (gR σ2 (gR σ2 x0 10) 49) (ix x2)).toInt64)) (ci := 17) (as := [iv x1, iv x2, iv (gI σ2 (gR σ2 x0 66) (ix ((128 : Int32) * x1))), jv r3, jv (0 : Int64), jv ((gI σ2 (gR σ2 (gR σ2 x0 10) 49) (ix x2)).toInt64)]) rfl rfl rfl q4096 qs310 mdX17_1040 (ctX17_copiesData x0 x1 x2 (gI σ2 (gR σ2 x0 66) (ix ((128 : Int32) * x1))) r3 (0 : Int64) ((gI σ2 (gR σ2 (gR σ2 x0 10) 49) (ix x2)).toInt64)) rfl (Nat.le_of_ble_eq_true rfl) (Nat.le_of_ble_eq_true rfl) (Nat.le_of_ble_eq_true rfl) pu_I dX17_startsUp_179 (fun r5 σ4 => ?_)
        refine g_if_ne 191 dX17_startsUp_182 (by decide) ?_ ?_
        · refine g_aload_n 0 1 dX17_startsUp_191 rfl rfl ?_
          refine g_getR fdX17_152 dX17_startsUp_192 ?_
          refine g_bipush (v := 64) dX17_startsUp_195 (by decide) ?_
          refine g_iload_n 1 2 dX17_startsUp_197 rfl rfl ?_
          refine g_imul dX17_startsUp_198 ?_
          refine g_iload_n 2 3 dX17_startsUp_199 rfl rfl ?_
          refine g_iadd dX17_startsUp_200 ?_
          refine g_iconst (v := 0) dX17_startsUp_201 (by decide) ?_
          refine g_zastore dX17_startsUp_202 (fun σ6 => ?_)
          refine G.sub [1, 2, 3] rfl ?_
          exact gX17_startsUp_p203 (Mdl_startsUp_p116 n) (gX17_startsUp_p116 n) _ _ _ _
        · refine g_aload_n 0 1 dX17_startsUp_185 rfl rfl ?_
          refine g_iconst (v := 5) dX17_startsUp_186 (by decide) ?_
          refine g_callV (fc := fun sς => Mdl_failsAtOnce sς x0 (5 : Int32)) (ci := 17) (as := [iv (5 : Int32)]) rfl rfl rfl q4088 qs308 mdX17_1034 (ctX17_failsAtOnce x0 (5 : Int32)) rfl (Nat.le_of_ble_eq_true rfl) (Nat.le_of_ble_eq_true rfl) (Nat.le_of_ble_eq_true rfl) pu_V dX17_startsUp_187 (fun _ σ7 => ?_)
          exact g_return rfl dX17_startsUp_190
def V.Mdl_startsUp_p108 (rec2 : HS → Nat → Int32 → Int32 → Option (Unit × HS)) (σ : HS) (x0 : Nat) (x1 : Int32) (x2 : Int32) : Option (Unit × HS) :=
  bn (x2 + (1 : Int32)) fun y1 =>
  rec2 σ x0 x1 y1
theorem V.gX17_startsUp_p108 {X : CX} (rec2 : HS → Nat → Int32 → Int32 → Option (Unit × HS)) (hrec2 : ∀ (σ : HS) (x0 : Nat) (x1 : Int32) (x2 : Int32), G X RX17 "startsUp" cX17_startsUp 5 none 6 132 enV 2 [(0, av x0), (1, iv x1), (2, iv x2)] [] σ (rec2 σ x0 x1 x2)) (σ : HS) (x0 : Nat) (x1 : Int32) (x2 : Int32) : G X RX17 "startsUp" cX17_startsUp 5 none 6 132 enV 108 [(0, av x0), (1, iv x1), (2, iv x2)] [] σ (Mdl_startsUp_p108 rec2 σ x0 x1 x2) := by
  unfold Mdl_startsUp_p108
  refine g_iincB (w := 1) 2 dX17_startsUp_108 rfl (by decide) (by decide) (fun _ => rfl) (fun y1 => ?_)
  refine g_goto 2 dX17_startsUp_111 (by decide) ?_
  refine G.sub [1, 2, 0] rfl ?_
  exact hrec2 _ _ _ _
def V.Mdl_startsUp_p89 (rec2 : HS → Nat → Int32 → Int32 → Option (Unit × HS)) (σ : HS) (x0 : Nat) (x1 : Int32) (x2 : Int32) : Option (Unit × HS) :=
  ck (tg σ x0 = 18) <|
  ck (tg σ (gR σ x0 10) = 21) <|
  ck (tg σ (gR σ (gR σ x0 10) 35) = 100 ∧ inb x2 (ln σ (gR σ (gR σ x0 10) 35))) <|
  if (gI σ (gR σ (gR σ x0 10) 35) (ix x2)) = (1 : Int32) then (
    Mdl_startsUp_p108 rec2 σ x0 x1 x2)
  else (
    ck (tg σ x0 = 18) <| cl (Mdl_dropped σ x0 x1 x2) fun _ σ1 =>
    Mdl_startsUp_p108 rec2 σ1 x0 x1 x2)
theorem V.gX17_startsUp_p89 {X : CX} (rec2 : HS → Nat → Int32 → Int32 → Option (Unit × HS)) (hrec2 : ∀ (σ : HS) (x0 : Nat) (x1 : Int32) (x2 : Int32), G X RX17 "startsUp" cX17_startsUp 5 none 6 132 enV 2 [(0, av x0), (1, iv x1), (2, iv x2)] [] σ (rec2 σ x0 x1 x2)) (σ : HS) (x0 : Nat) (x1 : Int32) (x2 : Int32) : G X RX17 "startsUp" cX17_startsUp 5 none 6 132 enV 89 [(0, av x0), (1, iv x1), (2, iv x2)] [] σ (Mdl_startsUp_p89 rec2 σ x0 x1 x2) := by
  unfold Mdl_startsUp_p89
  refine g_aload_n 0 0 dX17_startsUp_89 rfl rfl ?_
  refine g_getR fdX17_221 dX17_startsUp_90 ?_
  refine g_getR fdX17_489 dX17_startsUp_93 ?_
  refine g_iload_n 2 2 dX17_startsUp_96 rfl rfl ?_
  refine g_iaload dX17_startsUp_97 ?_
  refine g_iconst (v := 1) dX17_startsUp_98 (by decide) ?_
  refine g_icmp_eq 108 dX17_startsUp_99 (by decide) ?_ ?_
  · exact gX17_startsUp_p108 rec2 hrec2 _ _ _ _
  · refine g_aload_n 0 0 dX17_startsUp_102 rfl rfl ?_
    refine g_iload_n 1 1 dX17_startsUp_103 rfl rfl ?_
    refine g_iload_n 2 2 dX17_startsUp_104 rfl rfl ?_
    refine g_callV (fc := fun sς => Mdl_dropped sς x0 x1 x2) (ci := 17) (as := [iv x1, iv x2]) rfl rfl rfl q4092 qs309 mdX17_1037 (ctX17_dropped x0 x1 x2) rfl (Nat.le_of_ble_eq_true rfl) (Nat.le_of_ble_eq_true rfl) (Nat.le_of_ble_eq_true rfl) pu_V dX17_startsUp_105 (fun _ σ1 => ?_)
    exact gX17_startsUp_p108 rec2 hrec2 _ _ _ _
def V.Mdl_startsUp_p2  : Nat → HS → Nat → Int32 → Int32 → Option (Unit × HS)
  | 0, _, _, _, _ => none
  | n + 1, σ, x0, x1, x2 =>
    ck (tg σ x0 = 18) <|
    ck (tg σ (gR σ x0 10) = 21) <|
    if (gI σ (gR σ x0 10) 34) ≤ x2 then (
      Mdl_startsUp_p116 FU σ x0 x1 (0 : Int32))
    else (
      ck (tg σ x0 = 18) <|
      ck (tg σ (gR σ x0 10) = 21) <|
      ck (tg σ (gR σ (gR σ x0 10) 35) = 100 ∧ inb x2 (ln σ (gR σ (gR σ x0 10) 35))) <|
      if (gI σ (gR σ (gR σ x0 10) 35) (ix x2)) = 0 then (
        ck (tg σ x0 = 18) <|
        ck (tg σ (gR σ x0 10) = 21) <|
        ck (tg σ (gR σ (gR σ x0 10) 37) = 100 ∧ inb x2 (ln σ (gR σ (gR σ x0 10) 37))) <|
        ck (tg σ x0 = 18) <| cl (Mdl_constant σ x0 x1 (gI σ (gR σ (gR σ x0 10) 37) (ix x2))) fun r2 σ1 =>
        ck (tg σ1 x0 = 18) <|
        ck (tg σ1 x0 = 18) <|
        ck (tg σ1 (gR σ1 x0 10) = 21) <|
        ck (tg σ1 (gR σ1 (gR σ1 x0 10) 36) = 101 ∧ inb x2 (ln σ1 (gR σ1 (gR σ1 x0 10) 36))) <|
        ck (tg σ1 (gR σ1 x0 65) = 100 ∧ inb (((128 : Int32) * x1) + ((gJ σ1 (gR σ1 (gR σ1 x0 10) 36) (ix x2)).toInt32)) (ln σ1 (gR σ1 x0 65))) <|
        ck (tg σ1 x0 = 18) <|
        ck (tg σ1 (gR σ1 x0 10) = 21) <|
        ck (tg σ1 (gR σ1 (gR σ1 x0 10) 40) = 100 ∧ inb x2 (ln σ1 (gR σ1 (gR σ1 x0 10) 40))) <|
        ck (tg σ1 x0 = 18) <| cl (Mdl_copiesElement σ1 x0 x1 x2 (gI σ1 (gR σ1 x0 65) (ix (((128 : Int32) * x1) + ((gJ σ1 (gR σ1 (gR σ1 x0 10) 36) (ix x2)).toInt32)))) r2 (0 : Int64) ((gI σ1 (gR σ1 (gR σ1 x0 10) 40) (ix x2)).toInt64)) fun r4 σ3 =>
        if r4 = 0 then (
          ck (tg σ3 x0 = 18) <| cl (Mdl_failsAtOnce σ3 x0 (6 : Int32)) fun _ σ5 =>
          some ((), σ5))
        else (
          Mdl_startsUp_p89 (Mdl_startsUp_p2 n) σ3 x0 x1 x2))
      else (
        Mdl_startsUp_p89 (Mdl_startsUp_p2 n) σ x0 x1 x2))
theorem V.gX17_startsUp_p2 {X : CX}  : ∀ (n : Nat) (σ : HS) (x0 : Nat) (x1 : Int32) (x2 : Int32), G X RX17 "startsUp" cX17_startsUp 5 none 6 132 enV 2 [(0, av x0), (1, iv x1), (2, iv x2)] [] σ (Mdl_startsUp_p2 n σ x0 x1 x2)
  | 0, σ, x0, x1, x2 => by rw [Mdl_startsUp_p2]; exact G.nul
  | n + 1, σ, x0, x1, x2 => by
    rw [Mdl_startsUp_p2]
    refine g_iload_n 2 2 dX17_startsUp_2 rfl rfl ?_
    refine g_aload_n 0 0 dX17_startsUp_3 rfl rfl ?_
    refine g_getR fdX17_221 dX17_startsUp_4 ?_
    refine g_getI fdX17_481 dX17_startsUp_7 ?_
    refine g_icmp_ge 114 dX17_startsUp_10 (by decide) ?_ ?_
    · refine g_iconst (v := 0) dX17_startsUp_114 (by decide) ?_
      refine g_istore_n 2 dX17_startsUp_115 rfl (by decide) rfl ?_
      refine G.sub [1, 2, 0] rfl ?_
      exact gX17_startsUp_p116 FU _ _ _ _
    · refine g_aload_n 0 0 dX17_startsUp_13 rfl rfl ?_
      refine g_getR fdX17_221 dX17_startsUp_14 ?_
      refine g_getR fdX17_489 dX17_startsUp_17 ?_
      refine g_iload_n 2 2 dX17_startsUp_20 rfl rfl ?_
      refine g_iaload dX17_startsUp_21 ?_
      refine g_if_ne 89 dX17_startsUp_22 (by decide) ?_ ?_
      · exact gX17_startsUp_p89 (Mdl_startsUp_p2 n) (gX17_startsUp_p2 n) _ _ _ _
      · refine g_aload_n 0 0 dX17_startsUp_25 rfl rfl ?_
        refine g_iload_n 1 1 dX17_startsUp_26 rfl rfl ?_
        refine g_aload_n 0 0 dX17_startsUp_27 rfl rfl ?_
        refine g_getR fdX17_221 dX17_startsUp_28 ?_
        refine g_getR fdX17_495 dX17_startsUp_31 ?_
        refine g_iload_n 2 2 dX17_startsUp_34 rfl rfl ?_
        refine g_iaload dX17_startsUp_35 ?_
        refine g_callV (fc := fun sς => Mdl_constant sς x0 x1 (gI σ (gR σ (gR σ x0 10) 37) (ix x2))) (ci := 17) (as := [iv x1, iv (gI σ (gR σ (gR σ x0 10) 37) (ix x2))]) rfl rfl rfl q4068 qs303 mdX17_1020 (ctX17_constant x0 x1 (gI σ (gR σ (gR σ x0 10) 37) (ix x2))) rfl (Nat.le_of_ble_eq_true rfl) (Nat.le_of_ble_eq_true rfl) (Nat.le_of_ble_eq_true rfl) pu_J dX17_startsUp_36 (fun r2 σ1 => ?_)
        refine g_lstore_n 3 dX17_startsUp_39 rfl (by decide) rfl ?_
        refine g_aload_n 0 1 dX17_startsUp_40 rfl rfl ?_
        refine g_iload_n 1 2 dX17_startsUp_41 rfl rfl ?_
        refine g_iload_n 2 3 dX17_startsUp_42 rfl rfl ?_
        refine g_aload_n 0 1 dX17_startsUp_43 rfl rfl ?_
        refine g_getR fdX17_137 dX17_startsUp_44 ?_
        refine g_sipush (v := 128) dX17_startsUp_47 (by decide) ?_
        refine g_iload_n 1 2 dX17_startsUp_50 rfl rfl ?_
        refine g_imul dX17_startsUp_51 ?_
        refine g_aload_n 0 1 dX17_startsUp_52 rfl rfl ?_
        refine g_getR fdX17_221 dX17_startsUp_53 ?_
        refine g_getR fdX17_492 dX17_startsUp_56 ?_
        refine g_iload_n 2 3 dX17_startsUp_59 rfl rfl ?_
        refine g_laload dX17_startsUp_60 ?_
        refine g_l2i dX17_startsUp_61 ?_
        refine g_iadd dX17_startsUp_62 ?_
        refine g_iaload dX17_startsUp_63 ?_
        refine g_lload_n 3 0 dX17_startsUp_64 rfl rfl ?_
        refine g_lconst (v := 0) dX17_startsUp_65 (by decide) ?_
        refine g_aload_n 0 1 dX17_startsUp_66 rfl rfl ?_
        refine g_getR fdX17_221 dX17_startsUp_67 ?_
        refine g_getR fdX17_507 dX17_startsUp_70 ?_
        refine g_iload_n 2 3 dX17_startsUp_73 rfl rfl ?_
        refine g_iaload dX17_startsUp_74 ?_
        refine g_i2l dX17_startsUp_75 ?_
        refine g_callV (fc := fun sς => Mdl_copiesElement sς x0 x1 x2 (gI σ1 (gR σ1 x0 65) (ix (((128 : Int32) * x1) + ((gJ σ1 (gR σ1 (gR σ1 x0 10) 36) (ix x2)).toInt32)))) r2 (0 : Int64) ((gI σ1 (gR σ1 (gR σ1 x0 10) 40) (ix x2)).toInt64)) (ci := 17) (as := [iv x1, iv x2, iv (gI σ1 (gR σ1 x0 65) (ix (((128 : Int32) * x1) + ((gJ σ1 (gR σ1 (gR σ1 x0 10) 36) (ix x2)).toInt32)))), jv r2, jv (0 : Int64), jv ((gI σ1 (gR σ1 (gR σ1 x0 10) 40) (ix x2)).toInt64)]) rfl rfl rfl q4084 qs307 mdX17_1030 (ctX17_copiesElement x0 x1 x2 (gI σ1 (gR σ1 x0 65) (ix (((128 : Int32) * x1) + ((gJ σ1 (gR σ1 (gR σ1 x0 10) 36) (ix x2)).toInt32)))) r2 (0 : Int64) ((gI σ1 (gR σ1 (gR σ1 x0 10) 40) (ix x2)).toInt64)) rfl (Nat.le_of_ble_eq_true rfl) (Nat.le_of_ble_eq_true rfl) (Nat.le_of_ble_eq_true rfl) pu_I dX17_startsUp_76 (fun r4 σ3 => ?_)
        refine g_if_ne 89 dX17_startsUp_79 (by decide) ?_ ?_
        · refine G.sub [1, 2, 3] rfl ?_
          exact gX17_startsUp_p89 (Mdl_startsUp_p2 n) (gX17_startsUp_p2 n) _ _ _ _
        · refine g_aload_n 0 1 dX17_startsUp_82 rfl rfl ?_
          refine g_bipush (v := 6) dX17_startsUp_83 (by decide) ?_
          refine g_callV (fc := fun sς => Mdl_failsAtOnce sς x0 (6 : Int32)) (ci := 17) (as := [iv (6 : Int32)]) rfl rfl rfl q4088 qs308 mdX17_1034 (ctX17_failsAtOnce x0 (6 : Int32)) rfl (Nat.le_of_ble_eq_true rfl) (Nat.le_of_ble_eq_true rfl) (Nat.le_of_ble_eq_true rfl) pu_V dX17_startsUp_85 (fun _ σ5 => ?_)
          exact g_return rfl dX17_startsUp_88
def V.Mdl_startsUp (σ : HS) (x0 : Nat) (x1 : Int32) : Option (Unit × HS) :=
  Mdl_startsUp_p2 FU σ x0 x1 (0 : Int32)
theorem V.ctX17_startsUp (x0 : Nat) (x1 : Int32) : Ct yX17_startsUp  cX17_startsUp 5 none 6 132 eV [av x0, iv x1] (fun σ => Mdl_startsUp σ x0 x1) := by
  refine Ct.of (own := RX17) (nm := "startsUp") (desc := "(I)V") rfl (by decide) (Nat.le_of_ble_eq_true rfl) (by decide) (fun X σ => ?_)
  show G X RX17 "startsUp" cX17_startsUp 5 none 6 132 enV 0 [(0, av x0), (1, iv x1)] [] σ (Mdl_startsUp σ x0 x1)
  unfold Mdl_startsUp
  refine g_iconst (v := 0) dX17_startsUp_0 (by decide) ?_
  refine g_istore_n 2 dX17_startsUp_1 rfl (by decide) rfl ?_
  refine G.sub [1, 2, 0] rfl ?_
  exact gX17_startsUp_p2 FU _ _ _ _
theorem V.dX17_make_0 : decode cX17_make 0 = .ok (.iload_n 1, 1) := by decide +kernel
theorem V.dX17_make_1 : decode cX17_make 1 = .ok (.ifCond .lt 11, 3) := by decide +kernel
theorem V.dX17_make_4 : decode cX17_make 4 = .ok (.iload_n 1, 1) := by decide +kernel
theorem V.dX17_make_5 : decode cX17_make 5 = .ok (.aload_n 0, 1) := by decide +kernel
theorem V.dX17_make_6 : decode cX17_make 6 = .ok (.getfield 218, 3) := by decide +kernel
theorem V.dX17_make_9 : decode cX17_make 9 = .ok (.if_icmp .lt 5, 3) := by decide +kernel
theorem V.dX17_make_12 : decode cX17_make 12 = .ok (.iconst (-1), 1) := by decide +kernel
theorem V.dX17_make_13 : decode cX17_make 13 = .ok (.ireturn, 1) := by decide +kernel
theorem V.dX17_make_14 : decode cX17_make 14 = .ok (.aload_n 0, 1) := by decide +kernel
theorem V.dX17_make_15 : decode cX17_make 15 = .ok (.invokevirtual 986, 3) := by decide +kernel
theorem V.dX17_make_18 : decode cX17_make 18 = .ok (.ifCond .eq 6, 3) := by decide +kernel
theorem V.dX17_make_21 : decode cX17_make 21 = .ok (.bipush (-10), 2) := by decide +kernel
theorem V.dX17_make_23 : decode cX17_make 23 = .ok (.ireturn, 1) := by decide +kernel
theorem V.dX17_make_24 : decode cX17_make 24 = .ok (.aload_n 0, 1) := by decide +kernel
theorem V.dX17_make_25 : decode cX17_make 25 = .ok (.getfield 16, 3) := by decide +kernel
theorem V.dX17_make_28 : decode cX17_make 28 = .ok (.iload_n 1, 1) := by decide +kernel
theorem V.dX17_make_29 : decode cX17_make 29 = .ok (.aaload, 1) := by decide +kernel
theorem V.dX17_make_30 : decode cX17_make 30 = .ok (.astore_n 2, 1) := by decide +kernel
theorem V.dX17_make_31 : decode cX17_make 31 = .ok (.aload_n 0, 1) := by decide +kernel
theorem V.dX17_make_32 : decode cX17_make 32 = .ok (.getfield 967, 3) := by decide +kernel
theorem V.dX17_make_35 : decode cX17_make 35 = .ok (.istore_n 3, 1) := by decide +kernel
theorem V.dX17_make_36 : decode cX17_make 36 = .ok (.aload_n 0, 1) := by decide +kernel
theorem V.dX17_make_37 : decode cX17_make 37 = .ok (.iconst 0, 1) := by decide +kernel
theorem V.dX17_make_38 : decode cX17_make 38 = .ok (.putfield 967, 3) := by decide +kernel
theorem V.dX17_make_41 : decode cX17_make 41 = .ok (.iload_n 3, 1) := by decide +kernel
theorem V.dX17_make_42 : decode cX17_make 42 = .ok (.aload_n 2, 1) := by decide +kernel
theorem V.dX17_make_43 : decode cX17_make 43 = .ok (.getfield 402, 3) := by decide +kernel
theorem V.dX17_make_46 : decode cX17_make 46 = .ok (.if_icmp .eq 6, 3) := by decide +kernel
theorem V.dX17_make_49 : decode cX17_make 49 = .ok (.bipush (-2), 2) := by decide +kernel
theorem V.dX17_make_51 : decode cX17_make 51 = .ok (.ireturn, 1) := by decide +kernel
theorem V.dX17_make_52 : decode cX17_make 52 = .ok (.iconst 0, 1) := by decide +kernel
theorem V.dX17_make_53 : decode cX17_make 53 = .ok (.istore 4, 2) := by decide +kernel
theorem V.dX17_make_55 : decode cX17_make 55 = .ok (.iconst 0, 1) := by decide +kernel
theorem V.dX17_make_56 : decode cX17_make 56 = .ok (.istore 5, 2) := by decide +kernel
theorem V.dX17_make_58 : decode cX17_make 58 = .ok (.iload 5, 2) := by decide +kernel
theorem V.dX17_make_60 : decode cX17_make 60 = .ok (.aload_n 2, 1) := by decide +kernel
theorem V.dX17_make_61 : decode cX17_make 61 = .ok (.getfield 402, 3) := by decide +kernel
theorem V.dX17_make_64 : decode cX17_make 64 = .ok (.if_icmp .ge 51, 3) := by decide +kernel
theorem V.dX17_make_67 : decode cX17_make 67 = .ok (.aload_n 0, 1) := by decide +kernel
theorem V.dX17_make_68 : decode cX17_make 68 = .ok (.iload_n 1, 1) := by decide +kernel
theorem V.dX17_make_69 : decode cX17_make 69 = .ok (.iload 5, 2) := by decide +kernel
theorem V.dX17_make_71 : decode cX17_make 71 = .ok (.invokevirtual 989, 3) := by decide +kernel
theorem V.dX17_make_74 : decode cX17_make 74 = .ok (.ifCond .ne 14, 3) := by decide +kernel
theorem V.dX17_make_77 : decode cX17_make 77 = .ok (.bipush (-3), 2) := by decide +kernel
theorem V.dX17_make_79 : decode cX17_make 79 = .ok (.aload_n 2, 1) := by decide +kernel
theorem V.dX17_make_80 : decode cX17_make 80 = .ok (.getfield 411, 3) := by decide +kernel
theorem V.dX17_make_83 : decode cX17_make 83 = .ok (.iload 5, 2) := by decide +kernel
theorem V.dX17_make_85 : decode cX17_make 85 = .ok (.iaload, 1) := by decide +kernel
theorem V.dX17_make_86 : decode cX17_make 86 = .ok (.isub, 1) := by decide +kernel
theorem V.dX17_make_87 : decode cX17_make 87 = .ok (.ireturn, 1) := by decide +kernel
theorem V.dX17_make_88 : decode cX17_make 88 = .ok (.iload 4, 2) := by decide +kernel
theorem V.dX17_make_90 : decode cX17_make 90 = .ok (.aload_n 0, 1) := by decide +kernel
theorem V.dX17_make_91 : decode cX17_make 91 = .ok (.getfield 158, 3) := by decide +kernel
theorem V.dX17_make_94 : decode cX17_make 94 = .ok (.iload 5, 2) := by decide +kernel
theorem V.dX17_make_96 : decode cX17_make 96 = .ok (.iaload, 1) := by decide +kernel
theorem V.dX17_make_97 : decode cX17_make 97 = .ok (.iconst (-1), 1) := by decide +kernel
theorem V.dX17_make_98 : decode cX17_make 98 = .ok (.if_icmp .ne 7, 3) := by decide +kernel
theorem V.dX17_make_101 : decode cX17_make 101 = .ok (.iconst 1, 1) := by decide +kernel
theorem V.dX17_make_102 : decode cX17_make 102 = .ok (.goto 4, 3) := by decide +kernel
theorem V.dX17_make_105 : decode cX17_make 105 = .ok (.iconst 0, 1) := by decide +kernel
theorem V.dX17_make_106 : decode cX17_make 106 = .ok (.iadd, 1) := by decide +kernel
theorem V.dX17_make_107 : decode cX17_make 107 = .ok (.istore 4, 2) := by decide +kernel
theorem V.dX17_make_109 : decode cX17_make 109 = .ok (.iinc 5 1, 3) := by decide +kernel
theorem V.dX17_make_112 : decode cX17_make 112 = .ok (.goto (-54), 3) := by decide +kernel
theorem V.dX17_make_115 : decode cX17_make 115 = .ok (.aload_n 0, 1) := by decide +kernel
theorem V.dX17_make_116 : decode cX17_make 116 = .ok (.aload_n 2, 1) := by decide +kernel
theorem V.dX17_make_117 : decode cX17_make 117 = .ok (.iload 4, 2) := by decide +kernel
theorem V.dX17_make_119 : decode cX17_make 119 = .ok (.invokevirtual 992, 3) := by decide +kernel
theorem V.dX17_make_122 : decode cX17_make 122 = .ok (.ifCond .ne 6, 3) := by decide +kernel
theorem V.dX17_make_125 : decode cX17_make 125 = .ok (.bipush (-9), 2) := by decide +kernel
theorem V.dX17_make_127 : decode cX17_make 127 = .ok (.ireturn, 1) := by decide +kernel
theorem V.dX17_make_128 : decode cX17_make 128 = .ok (.aload_n 0, 1) := by decide +kernel
theorem V.dX17_make_129 : decode cX17_make 129 = .ok (.getfield 949, 3) := by decide +kernel
theorem V.dX17_make_132 : decode cX17_make 132 = .ok (.istore 5, 2) := by decide +kernel
theorem V.dX17_make_134 : decode cX17_make 134 = .ok (.aload_n 0, 1) := by decide +kernel
theorem V.dX17_make_135 : decode cX17_make 135 = .ok (.dup, 1) := by decide +kernel
theorem V.dX17_make_136 : decode cX17_make 136 = .ok (.getfield 949, 3) := by decide +kernel
theorem V.dX17_make_139 : decode cX17_make 139 = .ok (.iconst 1, 1) := by decide +kernel
theorem V.dX17_make_140 : decode cX17_make 140 = .ok (.iadd, 1) := by decide +kernel
theorem V.dX17_make_141 : decode cX17_make 141 = .ok (.putfield 949, 3) := by decide +kernel
theorem V.dX17_make_144 : decode cX17_make 144 = .ok (.aload_n 0, 1) := by decide +kernel
theorem V.dX17_make_145 : decode cX17_make 145 = .ok (.getfield 131, 3) := by decide +kernel
theorem V.dX17_make_148 : decode cX17_make 148 = .ok (.iload 5, 2) := by decide +kernel
theorem V.dX17_make_150 : decode cX17_make 150 = .ok (.iload_n 1, 1) := by decide +kernel
theorem V.dX17_make_151 : decode cX17_make 151 = .ok (.iastore, 1) := by decide +kernel
theorem V.dX17_make_152 : decode cX17_make 152 = .ok (.aload_n 0, 1) := by decide +kernel
theorem V.dX17_make_153 : decode cX17_make 153 = .ok (.aload_n 2, 1) := by decide +kernel
theorem V.dX17_make_154 : decode cX17_make 154 = .ok (.putfield 221, 3) := by decide +kernel
theorem V.dX17_make_157 : decode cX17_make 157 = .ok (.aload_n 0, 1) := by decide +kernel
theorem V.dX17_make_158 : decode cX17_make 158 = .ok (.iload 5, 2) := by decide +kernel
theorem V.dX17_make_160 : decode cX17_make 160 = .ok (.iload_n 1, 1) := by decide +kernel
theorem V.dX17_make_161 : decode cX17_make 161 = .ok (.invokevirtual 996, 3) := by decide +kernel
theorem V.dX17_make_164 : decode cX17_make 164 = .ok (.aload_n 0, 1) := by decide +kernel
theorem V.dX17_make_165 : decode cX17_make 165 = .ok (.iload 5, 2) := by decide +kernel
theorem V.dX17_make_167 : decode cX17_make 167 = .ok (.iload_n 1, 1) := by decide +kernel
theorem V.dX17_make_168 : decode cX17_make 168 = .ok (.invokevirtual 999, 3) := by decide +kernel
theorem V.dX17_make_171 : decode cX17_make 171 = .ok (.aload_n 0, 1) := by decide +kernel
theorem V.dX17_make_172 : decode cX17_make 172 = .ok (.iload 5, 2) := by decide +kernel
theorem V.dX17_make_174 : decode cX17_make 174 = .ok (.invokevirtual 1002, 3) := by decide +kernel
theorem V.dX17_make_177 : decode cX17_make 177 = .ok (.iload 5, 2) := by decide +kernel
theorem V.dX17_make_179 : decode cX17_make 179 = .ok (.ireturn, 1) := by decide +kernel
theorem V.mdX17_986 : MD RX17 986 yX17_runs cX17_runs 1 (some .boolean) 0 := ⟨Or.inl q4025, q377, q4028, by decide, by decide, by decide +kernel⟩
theorem V.mdX17_992 : MD RX17 992 yX17_hasRoom cX17_hasRoom 10 (some .boolean) 2 := ⟨Or.inl q4037, q377, q4040, by decide, by decide, by decide +kernel⟩
theorem V.fpX17_949 {nm : String} : FP RX17 nm 949 17 62 (.int) := ⟨(RX17, TX17, 101), tyX17, rfl, rfl, in_X17, by decide, tyX17_ok, nmX17, rfl, Or.inl ⟨rfl, Or.inl q3098⟩⟩
theorem V.mdX17_996 : MD RX17 996 yX17_takesImports cX17_takesImports 7 none 2 := ⟨Or.inl q4042, q377, q4045, by decide, by decide, by decide +kernel⟩
theorem V.mdX17_999 : MD RX17 999 yX17_takesOwn cX17_takesOwn 4 none 2 := ⟨Or.inl q4054, q377, q4057, by decide, by decide, by decide +kernel⟩
theorem V.mdX17_1002 : MD RX17 1002 yX17_startsUp cX17_startsUp 5 none 1 := ⟨Or.inl q4078, q377, q4081, by decide, by decide, by decide +kernel⟩
theorem V.mdX17_989 : MD RX17 989 yX17_fits cX17_fits 10 (some .boolean) 2 := ⟨Or.inl q4029, q377, q4032, by decide, by decide, by decide +kernel⟩
/-! ModuleEngineModel.make(I)I -/
def V.Mdl_make_p106 (rec58 : HS → Nat → Int32 → Nat → Int32 → Int32 → Option (Int32 × HS)) (σ : HS) (x0 : Nat) (x1 : Int32) (x2 : Nat) (x5 : Int32) (s0 : Int32) (s1 : Int32) : Option (Int32 × HS) :=
  bn (s1 + s0) fun y1 =>
  bn (x5 + (1 : Int32)) fun y2 =>
  rec58 σ x0 x1 x2 y1 y2
theorem V.gX17_make_p106 {X : CX} (rec58 : HS → Nat → Int32 → Nat → Int32 → Int32 → Option (Int32 × HS)) (hrec58 : ∀ (σ : HS) (x0 : Nat) (x1 : Int32) (x2 : Nat) (x4 : Int32) (x5 : Int32), G X RX17 "make" cX17_make 6 (some .int) 7 156 enI 58 [(0, av x0), (1, iv x1), (2, av x2), (4, iv x4), (5, iv x5)] [] σ (rec58 σ x0 x1 x2 x4 x5)) (σ : HS) (x0 : Nat) (x1 : Int32) (x2 : Nat) (x5 : Int32) (s0 : Int32) (s1 : Int32) : G X RX17 "make" cX17_make 6 (some .int) 7 156 enI 106 [(0, av x0), (1, iv x1), (2, av x2), (5, iv x5)] [iv s0, iv s1] σ (Mdl_make_p106 rec58 σ x0 x1 x2 x5 s0 s1) := by
  unfold Mdl_make_p106
  refine g_iadd dX17_make_106 ?_
  refine g_nmI (fun y1 => ?_)
  refine g_istore dX17_make_107 (by decide) rfl ?_
  refine g_iincB (w := 1) 4 dX17_make_109 rfl (by decide) (by decide) (fun _ => rfl) (fun y2 => ?_)
  refine g_goto 58 dX17_make_112 (by decide) ?_
  refine G.sub [2, 3, 4, 1, 0] rfl ?_
  exact hrec58 _ _ _ _ _ _
def V.Mdl_make_p58  : Nat → HS → Nat → Int32 → Nat → Int32 → Int32 → Option (Int32 × HS)
  | 0, _, _, _, _, _, _ => none
  | n + 1, σ, x0, x1, x2, x4, x5 =>
    ck (tg σ x2 = 21) <|
    if (gI σ x2 8) ≤ x5 then (
      ck (tg σ x0 = 18) <| cl (Mdl_hasRoom σ x0 x2 x4) fun r2 σ1 =>
      if r2 = 0 then (
        some ((-9 : Int32), σ1))
      else (
        ck (tg σ1 x0 = 18) <|
        bn (gI σ1 x0 62) fun y3 =>
        ck (tg σ1 x0 = 18) <|
        ck (tg σ1 x0 = 18) <| bn (sI σ1 x0 62 ((gI σ1 x0 62) + (1 : Int32))) fun σ4 =>
        ck (tg σ4 x0 = 18) <|
        ck (tg σ4 (gR σ4 x0 63) = 100 ∧ inb y3 (ln σ4 (gR σ4 x0 63))) <| bn (sI σ4 (gR σ4 x0 63) (ix y3) x1) fun σ5 =>
        ck (tg σ5 x0 = 18) <| bn (sR σ5 x0 10 x2) fun σ6 =>
        ck (tg σ6 x0 = 18) <| cl (Mdl_takesImports σ6 x0 y3 x1) fun _ σ7 =>
        ck (tg σ7 x0 = 18) <| cl (Mdl_takesOwn σ7 x0 y3 x1) fun _ σ8 =>
        ck (tg σ8 x0 = 18) <| cl (Mdl_startsUp σ8 x0 y3) fun _ σ9 =>
        some (y3, σ9)))
    else (
      ck (tg σ x0 = 18) <| cl (Mdl_fits σ x0 x1 x5) fun r11 σ10 =>
      if r11 = 0 then (
        ck (tg σ10 x2 = 21) <|
        ck (tg σ10 (gR σ10 x2 9) = 100 ∧ inb x5 (ln σ10 (gR σ10 x2 9))) <|
        some ((-3 : Int32) - (gI σ10 (gR σ10 x2 9) (ix x5)), σ10))
      else (
        ck (tg σ10 x0 = 18) <|
        ck (tg σ10 (gR σ10 x0 74) = 100 ∧ inb x5 (ln σ10 (gR σ10 x0 74))) <|
        if (gI σ10 (gR σ10 x0 74) (ix x5)) = (-1 : Int32) then (
          Mdl_make_p106 (Mdl_make_p58 n) σ10 x0 x1 x2 x5 (1 : Int32) x4)
        else (
          Mdl_make_p106 (Mdl_make_p58 n) σ10 x0 x1 x2 x5 (0 : Int32) x4)))
theorem V.gX17_make_p58 {X : CX}  : ∀ (n : Nat) (σ : HS) (x0 : Nat) (x1 : Int32) (x2 : Nat) (x4 : Int32) (x5 : Int32), G X RX17 "make" cX17_make 6 (some .int) 7 156 enI 58 [(0, av x0), (1, iv x1), (2, av x2), (4, iv x4), (5, iv x5)] [] σ (Mdl_make_p58 n σ x0 x1 x2 x4 x5)
  | 0, σ, x0, x1, x2, x4, x5 => by rw [Mdl_make_p58]; exact G.nul
  | n + 1, σ, x0, x1, x2, x4, x5 => by
    rw [Mdl_make_p58]
    refine g_iload 4 dX17_make_58 rfl ?_
    refine g_aload_n 2 2 dX17_make_60 rfl rfl ?_
    refine g_getI fdX17_402 dX17_make_61 ?_
    refine g_icmp_ge 115 dX17_make_64 (by decide) ?_ ?_
    · refine g_aload_n 0 0 dX17_make_115 rfl rfl ?_
      refine g_aload_n 2 2 dX17_make_116 rfl rfl ?_
      refine g_iload 3 dX17_make_117 rfl ?_
      refine g_callV (fc := fun sς => Mdl_hasRoom sς x0 x2 x4) (ci := 17) (as := [av x2, iv x4]) rfl rfl rfl q4039 qs296 mdX17_992 (ctX17_hasRoom x0 x2 x4) rfl (Nat.le_of_ble_eq_true rfl) (Nat.le_of_ble_eq_true rfl) (Nat.le_of_ble_eq_true rfl) pu_I dX17_make_119 (fun r2 σ1 => ?_)
      refine g_if_ne 128 dX17_make_122 (by decide) ?_ ?_
      · refine g_aload_n 0 0 dX17_make_128 rfl rfl ?_
        refine g_getI fdX17_949 dX17_make_129 ?_
        refine g_nmI (fun y3 => ?_)
        refine g_istore dX17_make_132 (by decide) rfl ?_
        refine g_aload_n 0 1 dX17_make_134 rfl rfl ?_
        refine g_dup dX17_make_135 rfl ?_
        refine g_getI fdX17_949 dX17_make_136 ?_
        refine g_iconst (v := 1) dX17_make_139 (by decide) ?_
        refine g_iadd dX17_make_140 ?_
        refine g_putI fpX17_949 dX17_make_141 (fun σ4 => ?_)
        refine g_aload_n 0 1 dX17_make_144 rfl rfl ?_
        refine g_getR fdX17_131 dX17_make_145 ?_
        refine g_iload 0 dX17_make_148 rfl ?_
        refine g_iload_n 1 2 dX17_make_150 rfl rfl ?_
        refine g_iastore dX17_make_151 (fun σ5 => ?_)
        refine g_aload_n 0 1 dX17_make_152 rfl rfl ?_
        refine g_aload_n 2 3 dX17_make_153 rfl rfl ?_
        refine g_putR fpX17_221 rfl dX17_make_154 (fun σ6 => ?_)
        refine g_aload_n 0 1 dX17_make_157 rfl rfl ?_
        refine g_iload 0 dX17_make_158 rfl ?_
        refine g_iload_n 1 2 dX17_make_160 rfl rfl ?_
        refine g_callV (fc := fun sς => Mdl_takesImports sς x0 y3 x1) (ci := 17) (as := [iv y3, iv x1]) rfl rfl rfl q4044 qs297 mdX17_996 (ctX17_takesImports x0 y3 x1) rfl (Nat.le_of_ble_eq_true rfl) (Nat.le_of_ble_eq_true rfl) (Nat.le_of_ble_eq_true rfl) pu_V dX17_make_161 (fun _ σ7 => ?_)
        refine g_aload_n 0 1 dX17_make_164 rfl rfl ?_
        refine g_iload 0 dX17_make_165 rfl ?_
        refine g_iload_n 1 2 dX17_make_167 rfl rfl ?_
        refine g_callV (fc := fun sς => Mdl_takesOwn sς x0 y3 x1) (ci := 17) (as := [iv y3, iv x1]) rfl rfl rfl q4056 qs300 mdX17_999 (ctX17_takesOwn x0 y3 x1) rfl (Nat.le_of_ble_eq_true rfl) (Nat.le_of_ble_eq_true rfl) (Nat.le_of_ble_eq_true rfl) pu_V dX17_make_168 (fun _ σ8 => ?_)
        refine g_aload_n 0 1 dX17_make_171 rfl rfl ?_
        refine g_iload 0 dX17_make_172 rfl ?_
        refine g_callV (fc := fun sς => Mdl_startsUp sς x0 y3) (ci := 17) (as := [iv y3]) rfl rfl rfl q4080 qs306 mdX17_1002 (ctX17_startsUp x0 y3) rfl (Nat.le_of_ble_eq_true rfl) (Nat.le_of_ble_eq_true rfl) (Nat.le_of_ble_eq_true rfl) pu_V dX17_make_174 (fun _ σ9 => ?_)
        refine g_iload 0 dX17_make_177 rfl ?_
        exact g_ireturn rfl dX17_make_179
      · refine g_bipush (v := (-9)) dX17_make_125 (by decide) ?_
        exact g_ireturn rfl dX17_make_127
    · refine g_aload_n 0 0 dX17_make_67 rfl rfl ?_
      refine g_iload_n 1 1 dX17_make_68 rfl rfl ?_
      refine g_iload 4 dX17_make_69 rfl ?_
      refine g_callV (fc := fun sς => Mdl_fits sς x0 x1 x5) (ci := 17) (as := [iv x1, iv x5]) rfl rfl rfl q4031 qs294 mdX17_989 (ctX17_fits x0 x1 x5) rfl (Nat.le_of_ble_eq_true rfl) (Nat.le_of_ble_eq_true rfl) (Nat.le_of_ble_eq_true rfl) pu_I dX17_make_71 (fun r11 σ10 => ?_)
      refine g_if_ne 88 dX17_make_74 (by decide) ?_ ?_
      · refine g_iload 3 dX17_make_88 rfl ?_
        refine g_aload_n 0 0 dX17_make_90 rfl rfl ?_
        refine g_getR fdX17_158 dX17_make_91 ?_
        refine g_iload 4 dX17_make_94 rfl ?_
        refine g_iaload dX17_make_96 ?_
        refine g_iconst (v := (-1)) dX17_make_97 (by decide) ?_
        refine g_icmp_ne 105 dX17_make_98 (by decide) ?_ ?_
        · refine g_iconst (v := 0) dX17_make_105 (by decide) ?_
          refine G.sub [0, 1, 2, 4] rfl ?_
          exact gX17_make_p106 (Mdl_make_p58 n) (gX17_make_p58 n) _ _ _ _ _ _ _
        · refine g_iconst (v := 1) dX17_make_101 (by decide) ?_
          refine g_goto 106 dX17_make_102 (by decide) ?_
          refine G.sub [0, 1, 2, 4] rfl ?_
          exact gX17_make_p106 (Mdl_make_p58 n) (gX17_make_p58 n) _ _ _ _ _ _ _
      · refine g_bipush (v := (-3)) dX17_make_77 (by decide) ?_
        refine g_aload_n 2 2 dX17_make_79 rfl rfl ?_
        refine g_getR fdX17_411 dX17_make_80 ?_
        refine g_iload 4 dX17_make_83 rfl ?_
        refine g_iaload dX17_make_85 ?_
        refine g_isub dX17_make_86 ?_
        exact g_ireturn rfl dX17_make_87
def V.Mdl_make (σ : HS) (x0 : Nat) (x1 : Int32) : Option (Int32 × HS) :=
  if x1 < 0 then (
    some ((-1 : Int32), σ))
  else (
    ck (tg σ x0 = 18) <|
    if x1 < (gI σ x0 3) then (
      ck (tg σ x0 = 18) <| cl (Mdl_runs σ x0 ) fun r2 σ1 =>
      if r2 = 0 then (
        ck (tg σ1 x0 = 18) <|
        ck (tg σ1 (gR σ1 x0 4) = 107 ∧ inb x1 (ln σ1 (gR σ1 x0 4))) <|
        bn (gR σ1 (gR σ1 x0 4) (ix x1)) fun y3 =>
        ck (tg σ1 x0 = 18) <|
        bn (gI σ1 x0 73) fun y4 =>
        ck (tg σ1 x0 = 18) <| bn (sI σ1 x0 73 (0 : Int32)) fun σ5 =>
        ck (tg σ5 y3 = 21) <|
        if y4 = (gI σ5 y3 8) then (
          Mdl_make_p58 FU σ5 x0 x1 y3 (0 : Int32) (0 : Int32))
        else (
          some ((-2 : Int32), σ5)))
      else (
        some ((-10 : Int32), σ1)))
    else (
      some ((-1 : Int32), σ)))
theorem V.ctX17_make (x0 : Nat) (x1 : Int32) : Ct yX17_make  cX17_make 6 (some .int) 7 156 eI [av x0, iv x1] (fun σ => Mdl_make σ x0 x1) := by
  refine Ct.of (own := RX17) (nm := "make") (desc := "(I)I") rfl (by decide) (Nat.le_of_ble_eq_true rfl) (by decide) (fun X σ => ?_)
  show G X RX17 "make" cX17_make 6 (some .int) 7 156 enI 0 [(0, av x0), (1, iv x1)] [] σ (Mdl_make σ x0 x1)
  unfold Mdl_make
  refine g_iload_n 1 1 dX17_make_0 rfl rfl ?_
  refine g_if_lt 12 dX17_make_1 (by decide) ?_ ?_
  · refine g_iconst (v := (-1)) dX17_make_12 (by decide) ?_
    exact g_ireturn rfl dX17_make_13
  · refine g_iload_n 1 1 dX17_make_4 rfl rfl ?_
    refine g_aload_n 0 0 dX17_make_5 rfl rfl ?_
    refine g_getI fdX17_218 dX17_make_6 ?_
    refine g_icmp_lt 14 dX17_make_9 (by decide) ?_ ?_
    · refine g_aload_n 0 0 dX17_make_14 rfl rfl ?_
      refine g_callV (fc := fun sς => Mdl_runs sς x0 ) (ci := 17) (as := []) rfl rfl rfl q4027 qs293 mdX17_986 (ctX17_runs x0 ) rfl (Nat.le_of_ble_eq_true rfl) (Nat.le_of_ble_eq_true rfl) (Nat.le_of_ble_eq_true rfl) pu_I dX17_make_15 (fun r2 σ1 => ?_)
      refine g_if_eq 24 dX17_make_18 (by decide) ?_ ?_
      · refine g_aload_n 0 0 dX17_make_24 rfl rfl ?_
        refine g_getR fdX17_16 dX17_make_25 ?_
        refine g_iload_n 1 1 dX17_make_28 rfl rfl ?_
        refine g_aaload 7 rfl dX17_make_29 ?_
        refine g_nmA (fun y3 => ?_)
        refine g_astore_n 2 dX17_make_30 rfl (by decide) rfl ?_
        refine g_aload_n 0 1 dX17_make_31 rfl rfl ?_
        refine g_getI fdX17_967 dX17_make_32 ?_
        refine g_nmI (fun y4 => ?_)
        refine g_istore_n 3 dX17_make_35 rfl (by decide) rfl ?_
        refine g_aload_n 0 2 dX17_make_36 rfl rfl ?_
        refine g_iconst (v := 0) dX17_make_37 (by decide) ?_
        refine g_putI fpX17_967 dX17_make_38 (fun σ5 => ?_)
        refine g_iload_n 3 0 dX17_make_41 rfl rfl ?_
        refine g_aload_n 2 1 dX17_make_42 rfl rfl ?_
        refine g_getI fdX17_402 dX17_make_43 ?_
        refine g_icmp_eq 52 dX17_make_46 (by decide) ?_ ?_
        · refine g_iconst (v := 0) dX17_make_52 (by decide) ?_
          refine g_istore dX17_make_53 (by decide) rfl ?_
          refine g_iconst (v := 0) dX17_make_55 (by decide) ?_
          refine g_istore dX17_make_56 (by decide) rfl ?_
          refine G.sub [4, 5, 3, 1, 0] rfl ?_
          exact gX17_make_p58 FU _ _ _ _ _ _
        · refine g_bipush (v := (-2)) dX17_make_49 (by decide) ?_
          exact g_ireturn rfl dX17_make_51
      · refine g_bipush (v := (-10)) dX17_make_21 (by decide) ?_
        exact g_ireturn rfl dX17_make_23
    · refine g_iconst (v := (-1)) dX17_make_12 (by decide) ?_
      exact g_ireturn rfl dX17_make_13
theorem V.dX17_argument_0 : decode cX17_argument 0 = .ok (.aload_n 0, 1) := by decide +kernel
theorem V.dX17_argument_1 : decode cX17_argument 1 = .ok (.getfield 1069, 3) := by decide +kernel
theorem V.dX17_argument_4 : decode cX17_argument 4 = .ok (.bipush 16, 2) := by decide +kernel
theorem V.dX17_argument_6 : decode cX17_argument 6 = .ok (.if_icmp .ne 5, 3) := by decide +kernel
theorem V.dX17_argument_9 : decode cX17_argument 9 = .ok (.iconst (-1), 1) := by decide +kernel
theorem V.dX17_argument_10 : decode cX17_argument 10 = .ok (.ireturn, 1) := by decide +kernel
theorem V.dX17_argument_11 : decode cX17_argument 11 = .ok (.aload_n 0, 1) := by decide +kernel
theorem V.dX17_argument_12 : decode cX17_argument 12 = .ok (.getfield 167, 3) := by decide +kernel
theorem V.dX17_argument_15 : decode cX17_argument 15 = .ok (.aload_n 0, 1) := by decide +kernel
theorem V.dX17_argument_16 : decode cX17_argument 16 = .ok (.getfield 1069, 3) := by decide +kernel
theorem V.dX17_argument_19 : decode cX17_argument 19 = .ok (.lload_n 1, 1) := by decide +kernel
theorem V.dX17_argument_20 : decode cX17_argument 20 = .ok (.lastore, 1) := by decide +kernel
theorem V.dX17_argument_21 : decode cX17_argument 21 = .ok (.aload_n 0, 1) := by decide +kernel
theorem V.dX17_argument_22 : decode cX17_argument 22 = .ok (.dup, 1) := by decide +kernel
theorem V.dX17_argument_23 : decode cX17_argument 23 = .ok (.getfield 1069, 3) := by decide +kernel
theorem V.dX17_argument_26 : decode cX17_argument 26 = .ok (.iconst 1, 1) := by decide +kernel
theorem V.dX17_argument_27 : decode cX17_argument 27 = .ok (.iadd, 1) := by decide +kernel
theorem V.dX17_argument_28 : decode cX17_argument 28 = .ok (.putfield 1069, 3) := by decide +kernel
theorem V.dX17_argument_31 : decode cX17_argument 31 = .ok (.aload_n 0, 1) := by decide +kernel
theorem V.dX17_argument_32 : decode cX17_argument 32 = .ok (.getfield 1069, 3) := by decide +kernel
theorem V.dX17_argument_35 : decode cX17_argument 35 = .ok (.ireturn, 1) := by decide +kernel
theorem V.fdX17_1069 : FD RX17 1069 17 81 0 := ⟨(RX17, TX17, 101), tyX17, rfl, rfl, in_X17, by decide, Or.inl q3117, rfl⟩
theorem V.fdX17_167 : FD RX17 167 17 82 2 := ⟨(RX17, TX17, 101), tyX17, rfl, rfl, in_X17, by decide, Or.inl q3118, rfl⟩
theorem V.fpX17_1069 {nm : String} : FP RX17 nm 1069 17 81 (.int) := ⟨(RX17, TX17, 101), tyX17, rfl, rfl, in_X17, by decide, tyX17_ok, nmX17, rfl, Or.inl ⟨rfl, Or.inl q3117⟩⟩
/-! ModuleEngineModel.argument(J)I -/
def V.Mdl_argument (σ : HS) (x0 : Nat) (x1 : Int64) : Option (Int32 × HS) :=
  ck (tg σ x0 = 18) <|
  if (gI σ x0 81) = (16 : Int32) then (
    some ((-1 : Int32), σ))
  else (
    ck (tg σ x0 = 18) <|
    ck (tg σ x0 = 18) <|
    ck (tg σ (gR σ x0 82) = 101 ∧ inb (gI σ x0 81) (ln σ (gR σ x0 82))) <| bn (sJ σ (gR σ x0 82) (ix (gI σ x0 81)) x1) fun σ1 =>
    ck (tg σ1 x0 = 18) <|
    ck (tg σ1 x0 = 18) <| bn (sI σ1 x0 81 ((gI σ1 x0 81) + (1 : Int32))) fun σ2 =>
    ck (tg σ2 x0 = 18) <|
    some (gI σ2 x0 81, σ2))
theorem V.ctX17_argument (x0 : Nat) (x1 : Int64) : Ct yX17_argument  cX17_argument 3 (some .int) 0 0 eI [av x0, jv x1] (fun σ => Mdl_argument σ x0 x1) := by
  refine Ct.of (own := RX17) (nm := "argument") (desc := "(J)I") rfl (by decide) (Nat.le_of_ble_eq_true rfl) (by decide) (fun X σ => ?_)
  show G X RX17 "argument" cX17_argument 3 (some .int) 0 0 enI 0 [(0, av x0), (1, jv x1)] [] σ (Mdl_argument σ x0 x1)
  unfold Mdl_argument
  refine g_aload_n 0 0 dX17_argument_0 rfl rfl ?_
  refine g_getI fdX17_1069 dX17_argument_1 ?_
  refine g_bipush (v := 16) dX17_argument_4 (by decide) ?_
  refine g_icmp_ne 11 dX17_argument_6 (by decide) ?_ ?_
  · refine g_aload_n 0 0 dX17_argument_11 rfl rfl ?_
    refine g_getR fdX17_167 dX17_argument_12 ?_
    refine g_aload_n 0 0 dX17_argument_15 rfl rfl ?_
    refine g_getI fdX17_1069 dX17_argument_16 ?_
    refine g_lload_n 1 1 dX17_argument_19 rfl rfl ?_
    refine g_lastore dX17_argument_20 (fun σ1 => ?_)
    refine g_aload_n 0 0 dX17_argument_21 rfl rfl ?_
    refine g_dup dX17_argument_22 rfl ?_
    refine g_getI fdX17_1069 dX17_argument_23 ?_
    refine g_iconst (v := 1) dX17_argument_26 (by decide) ?_
    refine g_iadd dX17_argument_27 ?_
    refine g_putI fpX17_1069 dX17_argument_28 (fun σ2 => ?_)
    refine g_aload_n 0 0 dX17_argument_31 rfl rfl ?_
    refine g_getI fdX17_1069 dX17_argument_32 ?_
    exact g_ireturn rfl dX17_argument_35
  · refine g_iconst (v := (-1)) dX17_argument_9 (by decide) ?_
    exact g_ireturn rfl dX17_argument_10
theorem V.dX17_exportedAs_0 : decode cX17_exportedAs 0 = .ok (.aload_n 0, 1) := by decide +kernel
theorem V.dX17_exportedAs_1 : decode cX17_exportedAs 1 = .ok (.iload_n 2, 1) := by decide +kernel
theorem V.dX17_exportedAs_2 : decode cX17_exportedAs 2 = .ok (.iload_n 3, 1) := by decide +kernel
theorem V.dX17_exportedAs_3 : decode cX17_exportedAs 3 = .ok (.invokevirtual 961, 3) := by decide +kernel
theorem V.dX17_exportedAs_6 : decode cX17_exportedAs 6 = .ok (.ifCond .eq 22, 3) := by decide +kernel
theorem V.dX17_exportedAs_9 : decode cX17_exportedAs 9 = .ok (.aload_n 0, 1) := by decide +kernel
theorem V.dX17_exportedAs_10 : decode cX17_exportedAs 10 = .ok (.iload_n 2, 1) := by decide +kernel
theorem V.dX17_exportedAs_11 : decode cX17_exportedAs 11 = .ok (.iload_n 3, 1) := by decide +kernel
theorem V.dX17_exportedAs_12 : decode cX17_exportedAs 12 = .ok (.invokevirtual 955, 3) := by decide +kernel
theorem V.dX17_exportedAs_15 : decode cX17_exportedAs 15 = .ok (.iload_n 1, 1) := by decide +kernel
theorem V.dX17_exportedAs_16 : decode cX17_exportedAs 16 = .ok (.if_icmp .ne 12, 3) := by decide +kernel
theorem V.dX17_exportedAs_19 : decode cX17_exportedAs 19 = .ok (.aload_n 0, 1) := by decide +kernel
theorem V.dX17_exportedAs_20 : decode cX17_exportedAs 20 = .ok (.iload_n 2, 1) := by decide +kernel
theorem V.dX17_exportedAs_21 : decode cX17_exportedAs 21 = .ok (.iload_n 3, 1) := by decide +kernel
theorem V.dX17_exportedAs_22 : decode cX17_exportedAs 22 = .ok (.invokevirtual 964, 3) := by decide +kernel
theorem V.dX17_exportedAs_25 : decode cX17_exportedAs 25 = .ok (.goto 4, 3) := by decide +kernel
theorem V.dX17_exportedAs_28 : decode cX17_exportedAs 28 = .ok (.iconst (-1), 1) := by decide +kernel
theorem V.dX17_exportedAs_29 : decode cX17_exportedAs 29 = .ok (.ireturn, 1) := by decide +kernel
/-! ModuleEngineModel.exportedAs(III)I -/
def V.Mdl_exportedAs (σ : HS) (x0 : Nat) (x1 : Int32) (x2 : Int32) (x3 : Int32) : Option (Int32 × HS) :=
  ck (tg σ x0 = 18) <| cl (Mdl_isExport σ x0 x2 x3) fun r2 σ1 =>
  if r2 = 0 then (
    some ((-1 : Int32), σ1))
  else (
    ck (tg σ1 x0 = 18) <| cl (Mdl_exportKind σ1 x0 x2 x3) fun r4 σ3 =>
    if r4 = x1 then (
      ck (tg σ3 x0 = 18) <| cl (Mdl_exported σ3 x0 x2 x3) fun r6 σ5 =>
      some (r6, σ5))
    else (
      some ((-1 : Int32), σ3)))
theorem V.ctX17_exportedAs (x0 : Nat) (x1 : Int32) (x2 : Int32) (x3 : Int32) : Ct yX17_exportedAs  cX17_exportedAs 4 (some .int) 2 46 eI [av x0, iv x1, iv x2, iv x3] (fun σ => Mdl_exportedAs σ x0 x1 x2 x3) := by
  refine Ct.of (own := RX17) (nm := "exportedAs") (desc := "(III)I") rfl (by decide) (Nat.le_of_ble_eq_true rfl) (by decide) (fun X σ => ?_)
  show G X RX17 "exportedAs" cX17_exportedAs 4 (some .int) 2 46 enI 0 [(0, av x0), (1, iv x1), (2, iv x2), (3, iv x3)] [] σ (Mdl_exportedAs σ x0 x1 x2 x3)
  unfold Mdl_exportedAs
  refine g_aload_n 0 0 dX17_exportedAs_0 rfl rfl ?_
  refine g_iload_n 2 2 dX17_exportedAs_1 rfl rfl ?_
  refine g_iload_n 3 3 dX17_exportedAs_2 rfl rfl ?_
  refine g_callV (fc := fun sς => Mdl_isExport sς x0 x2 x3) (ci := 17) (as := [iv x2, iv x3]) rfl rfl rfl q4003 qs288 mdX17_961 (ctX17_isExport x0 x2 x3) rfl (Nat.le_of_ble_eq_true rfl) (Nat.le_of_ble_eq_true rfl) (Nat.le_of_ble_eq_true rfl) pu_I dX17_exportedAs_3 (fun r2 σ1 => ?_)
  refine g_if_eq 28 dX17_exportedAs_6 (by decide) ?_ ?_
  · refine g_iconst (v := (-1)) dX17_exportedAs_28 (by decide) ?_
    exact g_ireturn rfl dX17_exportedAs_29
  · refine g_aload_n 0 0 dX17_exportedAs_9 rfl rfl ?_
    refine g_iload_n 2 2 dX17_exportedAs_10 rfl rfl ?_
    refine g_iload_n 3 3 dX17_exportedAs_11 rfl rfl ?_
    refine g_callV (fc := fun sς => Mdl_exportKind sς x0 x2 x3) (ci := 17) (as := [iv x2, iv x3]) rfl rfl rfl q4011 qs290 mdX17_955 (ctX17_exportKind x0 x2 x3) rfl (Nat.le_of_ble_eq_true rfl) (Nat.le_of_ble_eq_true rfl) (Nat.le_of_ble_eq_true rfl) pu_I dX17_exportedAs_12 (fun r4 σ3 => ?_)
    refine g_iload_n 1 1 dX17_exportedAs_15 rfl rfl ?_
    refine g_icmp_ne 28 dX17_exportedAs_16 (by decide) ?_ ?_
    · refine g_iconst (v := (-1)) dX17_exportedAs_28 (by decide) ?_
      exact g_ireturn rfl dX17_exportedAs_29
    · refine g_aload_n 0 0 dX17_exportedAs_19 rfl rfl ?_
      refine g_iload_n 2 2 dX17_exportedAs_20 rfl rfl ?_
      refine g_iload_n 3 3 dX17_exportedAs_21 rfl rfl ?_
      refine g_callV (fc := fun sς => Mdl_exported sς x0 x2 x3) (ci := 17) (as := [iv x2, iv x3]) rfl rfl rfl q4015 qs291 mdX17_964 (ctX17_exported x0 x2 x3) rfl (Nat.le_of_ble_eq_true rfl) (Nat.le_of_ble_eq_true rfl) (Nat.le_of_ble_eq_true rfl) pu_I dX17_exportedAs_22 (fun r6 σ5 => ?_)
      refine g_goto 29 dX17_exportedAs_25 (by decide) ?_
      exact g_ireturn rfl dX17_exportedAs_29
theorem V.dX17_areSuch_0 : decode cX17_areSuch 0 = .ok (.iconst 1, 1) := by decide +kernel
theorem V.dX17_areSuch_1 : decode cX17_areSuch 1 = .ok (.istore_n 3, 1) := by decide +kernel
theorem V.dX17_areSuch_2 : decode cX17_areSuch 2 = .ok (.iconst 0, 1) := by decide +kernel
theorem V.dX17_areSuch_3 : decode cX17_areSuch 3 = .ok (.istore 4, 2) := by decide +kernel
theorem V.dX17_areSuch_5 : decode cX17_areSuch 5 = .ok (.iload 4, 2) := by decide +kernel
theorem V.dX17_areSuch_7 : decode cX17_areSuch 7 = .ok (.aload_n 0, 1) := by decide +kernel
theorem V.dX17_areSuch_8 : decode cX17_areSuch 8 = .ok (.getfield 1069, 3) := by decide +kernel
theorem V.dX17_areSuch_11 : decode cX17_areSuch 11 = .ok (.if_icmp .ge 97, 3) := by decide +kernel
theorem V.dX17_areSuch_14 : decode cX17_areSuch 14 = .ok (.iload_n 3, 1) := by decide +kernel
theorem V.dX17_areSuch_15 : decode cX17_areSuch 15 = .ok (.ifCond .eq 93, 3) := by decide +kernel
theorem V.dX17_areSuch_18 : decode cX17_areSuch 18 = .ok (.aload_n 0, 1) := by decide +kernel
theorem V.dX17_areSuch_19 : decode cX17_areSuch 19 = .ok (.iload_n 1, 1) := by decide +kernel
theorem V.dX17_areSuch_20 : decode cX17_areSuch 20 = .ok (.invokevirtual 1065, 3) := by decide +kernel
theorem V.dX17_areSuch_23 : decode cX17_areSuch 23 = .ok (.getfield 374, 3) := by decide +kernel
theorem V.dX17_areSuch_26 : decode cX17_areSuch 26 = .ok (.bipush 32, 2) := by decide +kernel
theorem V.dX17_areSuch_28 : decode cX17_areSuch 28 = .ok (.aload_n 0, 1) := by decide +kernel
theorem V.dX17_areSuch_29 : decode cX17_areSuch 29 = .ok (.getfield 71, 3) := by decide +kernel
theorem V.dX17_areSuch_32 : decode cX17_areSuch 32 = .ok (.iload_n 1, 1) := by decide +kernel
theorem V.dX17_areSuch_33 : decode cX17_areSuch 33 = .ok (.iaload, 1) := by decide +kernel
theorem V.dX17_areSuch_34 : decode cX17_areSuch 34 = .ok (.imul, 1) := by decide +kernel
theorem V.dX17_areSuch_35 : decode cX17_areSuch 35 = .ok (.iload_n 2, 1) := by decide +kernel
theorem V.dX17_areSuch_36 : decode cX17_areSuch 36 = .ok (.iadd, 1) := by decide +kernel
theorem V.dX17_areSuch_37 : decode cX17_areSuch 37 = .ok (.iload 4, 2) := by decide +kernel
theorem V.dX17_areSuch_39 : decode cX17_areSuch 39 = .ok (.iadd, 1) := by decide +kernel
theorem V.dX17_areSuch_40 : decode cX17_areSuch 40 = .ok (.iaload, 1) := by decide +kernel
theorem V.dX17_areSuch_41 : decode cX17_areSuch 41 = .ok (.istore 5, 2) := by decide +kernel
theorem V.dX17_areSuch_43 : decode cX17_areSuch 43 = .ok (.aload_n 0, 1) := by decide +kernel
theorem V.dX17_areSuch_44 : decode cX17_areSuch 44 = .ok (.getfield 167, 3) := by decide +kernel
theorem V.dX17_areSuch_47 : decode cX17_areSuch 47 = .ok (.iload 4, 2) := by decide +kernel
theorem V.dX17_areSuch_49 : decode cX17_areSuch 49 = .ok (.laload, 1) := by decide +kernel
theorem V.dX17_areSuch_50 : decode cX17_areSuch 50 = .ok (.lstore 6, 2) := by decide +kernel
theorem V.dX17_areSuch_52 : decode cX17_areSuch 52 = .ok (.iload 5, 2) := by decide +kernel
theorem V.dX17_areSuch_54 : decode cX17_areSuch 54 = .ok (.invokestatic 270, 3) := by decide +kernel
theorem V.dX17_areSuch_57 : decode cX17_areSuch 57 = .ok (.ifCond .eq 39, 3) := by decide +kernel
theorem V.dX17_areSuch_60 : decode cX17_areSuch 60 = .ok (.lload 6, 2) := by decide +kernel
theorem V.dX17_areSuch_62 : decode cX17_areSuch 62 = .ok (.ldc2_w 268, 3) := by decide +kernel
theorem V.dX17_areSuch_65 : decode cX17_areSuch 65 = .ok (.lcmp, 1) := by decide +kernel
theorem V.dX17_areSuch_66 : decode cX17_areSuch 66 = .ok (.ifCond .lt 34, 3) := by decide +kernel
theorem V.dX17_areSuch_69 : decode cX17_areSuch 69 = .ok (.lload 6, 2) := by decide +kernel
theorem V.dX17_areSuch_71 : decode cX17_areSuch 71 = .ok (.ldc2_w 1072, 3) := by decide +kernel
theorem V.dX17_areSuch_74 : decode cX17_areSuch 74 = .ok (.lcmp, 1) := by decide +kernel
theorem V.dX17_areSuch_75 : decode cX17_areSuch 75 = .ok (.ifCond .gt 25, 3) := by decide +kernel
theorem V.dX17_areSuch_78 : decode cX17_areSuch 78 = .ok (.iload 5, 2) := by decide +kernel
theorem V.dX17_areSuch_80 : decode cX17_areSuch 80 = .ok (.bipush 111, 2) := by decide +kernel
theorem V.dX17_areSuch_82 : decode cX17_areSuch 82 = .ok (.if_icmp .eq 14, 3) := by decide +kernel
theorem V.dX17_areSuch_85 : decode cX17_areSuch 85 = .ok (.lload 6, 2) := by decide +kernel
theorem V.dX17_areSuch_87 : decode cX17_areSuch 87 = .ok (.aload_n 0, 1) := by decide +kernel
theorem V.dX17_areSuch_88 : decode cX17_areSuch 88 = .ok (.getfield 977, 3) := by decide +kernel
theorem V.dX17_areSuch_91 : decode cX17_areSuch 91 = .ok (.i2l, 1) := by decide +kernel
theorem V.dX17_areSuch_92 : decode cX17_areSuch 92 = .ok (.lcmp, 1) := by decide +kernel
theorem V.dX17_areSuch_93 : decode cX17_areSuch 93 = .ok (.ifCond .ge 7, 3) := by decide +kernel
theorem V.dX17_areSuch_96 : decode cX17_areSuch 96 = .ok (.iconst 1, 1) := by decide +kernel
theorem V.dX17_areSuch_97 : decode cX17_areSuch 97 = .ok (.goto 4, 3) := by decide +kernel
theorem V.dX17_areSuch_100 : decode cX17_areSuch 100 = .ok (.iconst 0, 1) := by decide +kernel
theorem V.dX17_areSuch_101 : decode cX17_areSuch 101 = .ok (.istore_n 3, 1) := by decide +kernel
theorem V.dX17_areSuch_102 : decode cX17_areSuch 102 = .ok (.iinc 4 1, 3) := by decide +kernel
theorem V.dX17_areSuch_105 : decode cX17_areSuch 105 = .ok (.goto (-100), 3) := by decide +kernel
theorem V.dX17_areSuch_108 : decode cX17_areSuch 108 = .ok (.iload_n 3, 1) := by decide +kernel
theorem V.dX17_areSuch_109 : decode cX17_areSuch 109 = .ok (.ireturn, 1) := by decide +kernel
/-! ModuleEngineModel.areSuch(II)Z -/
def V.Mdl_areSuch_p101 (rec5 : HS → Nat → Int32 → Int32 → Int32 → Int32 → Option (Int32 × HS)) (σ : HS) (x0 : Nat) (x1 : Int32) (x2 : Int32) (x4 : Int32) (s0 : Int32) : Option (Int32 × HS) :=
  bn (x4 + (1 : Int32)) fun y1 =>
  rec5 σ x0 x1 x2 s0 y1
theorem V.gX17_areSuch_p101 {X : CX} (rec5 : HS → Nat → Int32 → Int32 → Int32 → Int32 → Option (Int32 × HS)) (hrec5 : ∀ (σ : HS) (x0 : Nat) (x1 : Int32) (x2 : Int32) (x3 : Int32) (x4 : Int32), G X RX17 "areSuch" cX17_areSuch 8 (some .boolean) 1 21 enI 5 [(0, av x0), (1, iv x1), (2, iv x2), (3, iv x3), (4, iv x4)] [] σ (rec5 σ x0 x1 x2 x3 x4)) (σ : HS) (x0 : Nat) (x1 : Int32) (x2 : Int32) (x4 : Int32) (s0 : Int32) : G X RX17 "areSuch" cX17_areSuch 8 (some .boolean) 1 21 enI 101 [(0, av x0), (1, iv x1), (2, iv x2), (4, iv x4)] [iv s0] σ (Mdl_areSuch_p101 rec5 σ x0 x1 x2 x4 s0) := by
  unfold Mdl_areSuch_p101
  refine g_istore_n 3 dX17_areSuch_101 rfl (by decide) rfl ?_
  refine g_iincB (w := 1) 4 dX17_areSuch_102 rfl (by decide) (by decide) (fun _ => rfl) (fun y1 => ?_)
  refine g_goto 5 dX17_areSuch_105 (by decide) ?_
  refine G.sub [2, 3, 4, 1, 0] rfl ?_
  exact hrec5 _ _ _ _ _ _
def V.Mdl_areSuch_p96 (rec5 : HS → Nat → Int32 → Int32 → Int32 → Int32 → Option (Int32 × HS)) (σ : HS) (x0 : Nat) (x1 : Int32) (x2 : Int32) (x4 : Int32) : Option (Int32 × HS) :=
  Mdl_areSuch_p101 rec5 σ x0 x1 x2 x4 (1 : Int32)
theorem V.gX17_areSuch_p96 {X : CX} (rec5 : HS → Nat → Int32 → Int32 → Int32 → Int32 → Option (Int32 × HS)) (hrec5 : ∀ (σ : HS) (x0 : Nat) (x1 : Int32) (x2 : Int32) (x3 : Int32) (x4 : Int32), G X RX17 "areSuch" cX17_areSuch 8 (some .boolean) 1 21 enI 5 [(0, av x0), (1, iv x1), (2, iv x2), (3, iv x3), (4, iv x4)] [] σ (rec5 σ x0 x1 x2 x3 x4)) (σ : HS) (x0 : Nat) (x1 : Int32) (x2 : Int32) (x4 : Int32) : G X RX17 "areSuch" cX17_areSuch 8 (some .boolean) 1 21 enI 96 [(0, av x0), (1, iv x1), (2, iv x2), (4, iv x4)] [] σ (Mdl_areSuch_p96 rec5 σ x0 x1 x2 x4) := by
  unfold Mdl_areSuch_p96
  refine g_iconst (v := 1) dX17_areSuch_96 (by decide) ?_
  refine g_goto 101 dX17_areSuch_97 (by decide) ?_
  exact gX17_areSuch_p101 rec5 hrec5 _ _ _ _ _ _
def V.Mdl_areSuch_p100 (rec5 : HS → Nat → Int32 → Int32 → Int32 → Int32 → Option (Int32 × HS)) (σ : HS) (x0 : Nat) (x1 : Int32) (x2 : Int32) (x4 : Int32) : Option (Int32 × HS) :=
  Mdl_areSuch_p101 rec5 σ x0 x1 x2 x4 (0 : Int32)
theorem V.gX17_areSuch_p100 {X : CX} (rec5 : HS → Nat → Int32 → Int32 → Int32 → Int32 → Option (Int32 × HS)) (hrec5 : ∀ (σ : HS) (x0 : Nat) (x1 : Int32) (x2 : Int32) (x3 : Int32) (x4 : Int32), G X RX17 "areSuch" cX17_areSuch 8 (some .boolean) 1 21 enI 5 [(0, av x0), (1, iv x1), (2, iv x2), (3, iv x3), (4, iv x4)] [] σ (rec5 σ x0 x1 x2 x3 x4)) (σ : HS) (x0 : Nat) (x1 : Int32) (x2 : Int32) (x4 : Int32) : G X RX17 "areSuch" cX17_areSuch 8 (some .boolean) 1 21 enI 100 [(0, av x0), (1, iv x1), (2, iv x2), (4, iv x4)] [] σ (Mdl_areSuch_p100 rec5 σ x0 x1 x2 x4) := by
  unfold Mdl_areSuch_p100
  refine g_iconst (v := 0) dX17_areSuch_100 (by decide) ?_
  exact gX17_areSuch_p101 rec5 hrec5 _ _ _ _ _ _
def V.Mdl_areSuch_p5  : Nat → HS → Nat → Int32 → Int32 → Int32 → Int32 → Option (Int32 × HS)
  | 0, _, _, _, _, _, _ => none
  | n + 1, σ, x0, x1, x2, x3, x4 =>
    ck (tg σ x0 = 18) <|
    if (gI σ x0 81) ≤ x4 then (
      ck (zb x3) (some (x3, σ)))
    else (
      if x3 = 0 then (
        ck (zb x3) (some (x3, σ)))
      else (
        ck (tg σ x0 = 18) <| cl (Mdl_planOf σ x0 x1) fun r2 σ1 =>
        ck (tg σ1 r2 = 21) <|
        ck (tg σ1 x0 = 18) <|
        ck (tg σ1 (gR σ1 x0 38) = 100 ∧ inb x1 (ln σ1 (gR σ1 x0 38))) <|
        ck (tg σ1 (gR σ1 r2 7) = 100 ∧ inb ((((32 : Int32) * (gI σ1 (gR σ1 x0 38) (ix x1))) + x2) + x4) (ln σ1 (gR σ1 r2 7))) <|
        bn (gI σ1 (gR σ1 r2 7) (ix ((((32 : Int32) * (gI σ1 (gR σ1 x0 38) (ix x1))) + x2) + x4))) fun y3 =>
        ck (tg σ1 x0 = 18) <|
        ck (tg σ1 (gR σ1 x0 82) = 101 ∧ inb x4 (ln σ1 (gR σ1 x0 82))) <|
        bn (gJ σ1 (gR σ1 x0 82) (ix x4)) fun y4 =>
        cl (Mdl_isReference σ1 y3) fun r6 σ5 =>
        if r6 = 0 then (
          Mdl_areSuch_p96 (Mdl_areSuch_p5 n) σ5 x0 x1 x2 x4)
        else (
          if y4 < (-1 : Int64) then (
            Mdl_areSuch_p100 (Mdl_areSuch_p5 n) σ5 x0 x1 x2 x4)
          else (
            if (2147483647 : Int64) < y4 then (
              Mdl_areSuch_p100 (Mdl_areSuch_p5 n) σ5 x0 x1 x2 x4)
            else (
              if y3 = (111 : Int32) then (
                Mdl_areSuch_p96 (Mdl_areSuch_p5 n) σ5 x0 x1 x2 x4)
              else (
                ck (tg σ5 x0 = 18) <|
                if ((gI σ5 x0 36).toInt64) ≤ y4 then (
                  Mdl_areSuch_p100 (Mdl_areSuch_p5 n) σ5 x0 x1 x2 x4)
                else (
                  Mdl_areSuch_p96 (Mdl_areSuch_p5 n) σ5 x0 x1 x2 x4)))))))
theorem V.gX17_areSuch_p5 {X : CX}  : ∀ (n : Nat) (σ : HS) (x0 : Nat) (x1 : Int32) (x2 : Int32) (x3 : Int32) (x4 : Int32), G X RX17 "areSuch" cX17_areSuch 8 (some .boolean) 1 21 enI 5 [(0, av x0), (1, iv x1), (2, iv x2), (3, iv x3), (4, iv x4)] [] σ (Mdl_areSuch_p5 n σ x0 x1 x2 x3 x4)
  | 0, σ, x0, x1, x2, x3, x4 => by rw [Mdl_areSuch_p5]; exact G.nul
  | n + 1, σ, x0, x1, x2, x3, x4 => by
    rw [Mdl_areSuch_p5]
    refine g_iload 4 dX17_areSuch_5 rfl ?_
    refine g_aload_n 0 0 dX17_areSuch_7 rfl rfl ?_
    refine g_getI fdX17_1069 dX17_areSuch_8 ?_
    refine g_icmp_ge 108 dX17_areSuch_11 (by decide) ?_ ?_
    · refine g_iload_n 3 3 dX17_areSuch_108 rfl rfl ?_
      exact g_zreturnc rfl dX17_areSuch_109
    · refine g_iload_n 3 3 dX17_areSuch_14 rfl rfl ?_
      refine g_if_eq 108 dX17_areSuch_15 (by decide) ?_ ?_
      · refine g_iload_n 3 3 dX17_areSuch_108 rfl rfl ?_
        exact g_zreturnc rfl dX17_areSuch_109
      · refine g_aload_n 0 0 dX17_areSuch_18 rfl rfl ?_
        refine g_iload_n 1 1 dX17_areSuch_19 rfl rfl ?_
        refine g_callV (fc := fun sς => Mdl_planOf sς x0 x1) (ci := 17) (as := [iv x1]) rfl rfl rfl q4121 qs316 mdX17_1065 (ctX17_planOf x0 x1) rfl (Nat.le_of_ble_eq_true rfl) (Nat.le_of_ble_eq_true rfl) (Nat.le_of_ble_eq_true rfl) pu_R dX17_areSuch_20 (fun r2 σ1 => ?_)
        refine g_getR fdX17_374 dX17_areSuch_23 ?_
        refine g_bipush (v := 32) dX17_areSuch_26 (by decide) ?_
        refine g_aload_n 0 0 dX17_areSuch_28 rfl rfl ?_
        refine g_getR fdX17_71 dX17_areSuch_29 ?_
        refine g_iload_n 1 1 dX17_areSuch_32 rfl rfl ?_
        refine g_iaload dX17_areSuch_33 ?_
        refine g_imul dX17_areSuch_34 ?_
        refine g_iload_n 2 2 dX17_areSuch_35 rfl rfl ?_
        refine g_iadd dX17_areSuch_36 ?_
        refine g_iload 4 dX17_areSuch_37 rfl ?_
        refine g_iadd dX17_areSuch_39 ?_
        refine g_iaload dX17_areSuch_40 ?_
        refine g_nmI (fun y3 => ?_)
        refine g_istore dX17_areSuch_41 (by decide) rfl ?_
        refine g_aload_n 0 1 dX17_areSuch_43 rfl rfl ?_
        refine g_getR fdX17_167 dX17_areSuch_44 ?_
        refine g_iload 5 dX17_areSuch_47 rfl ?_
        refine g_laload dX17_areSuch_49 ?_
        refine g_nmJ (fun y4 => ?_)
        refine g_lstore dX17_areSuch_50 (by decide) rfl ?_
        refine g_iload 1 dX17_areSuch_52 rfl ?_
        refine g_callS (fc := fun sς => Mdl_isReference sς y3) (as := [iv y3]) q3663 mdX17_270 (ctX17_isReference y3) rfl (Nat.le_of_ble_eq_true rfl) (Nat.le_of_ble_eq_true rfl) (Nat.le_of_ble_eq_true rfl) pu_I dX17_areSuch_54 (fun r6 σ5 => ?_)
        refine g_if_eq 96 dX17_areSuch_57 (by decide) ?_ ?_
        · refine G.sub [2, 3, 4, 6] rfl ?_
          exact gX17_areSuch_p96 (Mdl_areSuch_p5 n) (gX17_areSuch_p5 n) _ _ _ _ _
        · refine g_lload 0 dX17_areSuch_60 rfl ?_
          refine g_ldc2 q3673 dX17_areSuch_62 ?_
          refine g_lcmp_lt 100 dX17_areSuch_65 dX17_areSuch_66 (by decide) ?_ ?_
          · refine G.sub [2, 3, 4, 6] rfl ?_
            exact gX17_areSuch_p100 (Mdl_areSuch_p5 n) (gX17_areSuch_p5 n) _ _ _ _ _
          · refine g_lload 0 dX17_areSuch_69 rfl ?_
            refine g_ldc2 q4163 dX17_areSuch_71 ?_
            refine g_lcmp_gt 100 dX17_areSuch_74 dX17_areSuch_75 (by decide) ?_ ?_
            · refine G.sub [2, 3, 4, 6] rfl ?_
              exact gX17_areSuch_p100 (Mdl_areSuch_p5 n) (gX17_areSuch_p5 n) _ _ _ _ _
            · refine g_iload 1 dX17_areSuch_78 rfl ?_
              refine g_bipush (v := 111) dX17_areSuch_80 (by decide) ?_
              refine g_icmp_eq 96 dX17_areSuch_82 (by decide) ?_ ?_
              · refine G.sub [2, 3, 4, 6] rfl ?_
                exact gX17_areSuch_p96 (Mdl_areSuch_p5 n) (gX17_areSuch_p5 n) _ _ _ _ _
              · refine g_lload 0 dX17_areSuch_85 rfl ?_
                refine g_aload_n 0 2 dX17_areSuch_87 rfl rfl ?_
                refine g_getI fdX17_977 dX17_areSuch_88 ?_
                refine g_i2l dX17_areSuch_91 ?_
                refine g_lcmp_ge 100 dX17_areSuch_92 dX17_areSuch_93 (by decide) ?_ ?_
                · refine G.sub [2, 3, 4, 6] rfl ?_
                  exact gX17_areSuch_p100 (Mdl_areSuch_p5 n) (gX17_areSuch_p5 n) _ _ _ _ _
                · refine G.sub [2, 3, 4, 6] rfl ?_
                  exact gX17_areSuch_p96 (Mdl_areSuch_p5 n) (gX17_areSuch_p5 n) _ _ _ _ _
def V.Mdl_areSuch (σ : HS) (x0 : Nat) (x1 : Int32) (x2 : Int32) : Option (Int32 × HS) :=
  Mdl_areSuch_p5 FU σ x0 x1 x2 (1 : Int32) (0 : Int32)
theorem V.ctX17_areSuch (x0 : Nat) (x1 : Int32) (x2 : Int32) : Ct yX17_areSuch  cX17_areSuch 8 (some .boolean) 1 21 eI [av x0, iv x1, iv x2] (fun σ => Mdl_areSuch σ x0 x1 x2) := by
  refine Ct.of (own := RX17) (nm := "areSuch") (desc := "(II)Z") rfl (by decide) (Nat.le_of_ble_eq_true rfl) (by decide) (fun X σ => ?_)
  show G X RX17 "areSuch" cX17_areSuch 8 (some .boolean) 1 21 enI 0 [(0, av x0), (1, iv x1), (2, iv x2)] [] σ (Mdl_areSuch σ x0 x1 x2)
  unfold Mdl_areSuch
  refine g_iconst (v := 1) dX17_areSuch_0 (by decide) ?_
  refine g_istore_n 3 dX17_areSuch_1 rfl (by decide) rfl ?_
  refine g_iconst (v := 0) dX17_areSuch_2 (by decide) ?_
  refine g_istore dX17_areSuch_3 (by decide) rfl ?_
  refine G.sub [2, 3, 4, 1, 0] rfl ?_
  exact gX17_areSuch_p5 FU _ _ _ _ _ _
theorem V.dX17_held_0 : decode cX17_held 0 = .ok (.iload_n 0, 1) := by decide +kernel
theorem V.dX17_held_1 : decode cX17_held 1 = .ok (.bipush 127, 2) := by decide +kernel
theorem V.dX17_held_3 : decode cX17_held 3 = .ok (.if_icmp .eq 9, 3) := by decide +kernel
theorem V.dX17_held_6 : decode cX17_held 6 = .ok (.iload_n 0, 1) := by decide +kernel
theorem V.dX17_held_7 : decode cX17_held 7 = .ok (.bipush 125, 2) := by decide +kernel
theorem V.dX17_held_9 : decode cX17_held 9 = .ok (.if_icmp .ne 11, 3) := by decide +kernel
theorem V.dX17_held_12 : decode cX17_held 12 = .ok (.lload_n 1, 1) := by decide +kernel
theorem V.dX17_held_13 : decode cX17_held 13 = .ok (.ldc2_w 513, 3) := by decide +kernel
theorem V.dX17_held_16 : decode cX17_held 16 = .ok (.land, 1) := by decide +kernel
theorem V.dX17_held_17 : decode cX17_held 17 = .ok (.goto 4, 3) := by decide +kernel
theorem V.dX17_held_20 : decode cX17_held 20 = .ok (.lload_n 1, 1) := by decide +kernel
theorem V.dX17_held_21 : decode cX17_held 21 = .ok (.lreturn, 1) := by decide +kernel
/-! ModuleEngineModel.held(IJ)J -/
def V.Mdl_held_p12  (σ : HS) (x1 : Int64) : Option (Int64 × HS) :=
  some (x1 &&& (4294967295 : Int64), σ)
theorem V.gX17_held_p12 {X : CX}  (σ : HS) (x1 : Int64) : G X RX17 "held" cX17_held 3 (some .long) 0 0 enJ 12 [(1, jv x1)] [] σ (Mdl_held_p12 σ x1) := by
  unfold Mdl_held_p12
  refine g_lload_n 1 0 dX17_held_12 rfl rfl ?_
  refine g_ldc2 q3756 dX17_held_13 ?_
  refine g_land dX17_held_16 ?_
  refine g_goto 21 dX17_held_17 (by decide) ?_
  exact g_lreturn rfl dX17_held_21
def V.Mdl_held (σ : HS) (x0 : Int32) (x1 : Int64) : Option (Int64 × HS) :=
  if x0 = (127 : Int32) then (
    Mdl_held_p12 σ x1)
  else (
    if x0 = (125 : Int32) then (
      Mdl_held_p12 σ x1)
    else (
      some (x1, σ)))
theorem V.ctX17_held (x0 : Int32) (x1 : Int64) : Ct yX17_held  cX17_held 3 (some .long) 0 0 eJ [iv x0, jv x1] (fun σ => Mdl_held σ x0 x1) := by
  refine Ct.of (own := RX17) (nm := "held") (desc := "(IJ)J") rfl (by decide) (Nat.le_of_ble_eq_true rfl) (by decide) (fun X σ => ?_)
  show G X RX17 "held" cX17_held 3 (some .long) 0 0 enJ 0 [(0, iv x0), (1, jv x1)] [] σ (Mdl_held σ x0 x1)
  unfold Mdl_held
  refine g_iload_n 0 0 dX17_held_0 rfl rfl ?_
  refine g_bipush (v := 127) dX17_held_1 (by decide) ?_
  refine g_icmp_eq 12 dX17_held_3 (by decide) ?_ ?_
  · refine G.sub [1] rfl ?_
    exact gX17_held_p12 _ _
  · refine g_iload_n 0 0 dX17_held_6 rfl rfl ?_
    refine g_bipush (v := 125) dX17_held_7 (by decide) ?_
    refine g_icmp_ne 20 dX17_held_9 (by decide) ?_ ?_
    · refine g_lload_n 1 1 dX17_held_20 rfl rfl ?_
      exact g_lreturn rfl dX17_held_21
    · refine G.sub [1] rfl ?_
      exact gX17_held_p12 _ _
theorem V.dX17_call_0 : decode cX17_call 0 = .ok (.aload_n 0, 1) := by decide +kernel
theorem V.dX17_call_1 : decode cX17_call 1 = .ok (.invokevirtual 986, 3) := by decide +kernel
theorem V.dX17_call_4 : decode cX17_call 4 = .ok (.ifCond .eq 7, 3) := by decide +kernel
theorem V.dX17_call_7 : decode cX17_call 7 = .ok (.iconst (-1), 1) := by decide +kernel
theorem V.dX17_call_8 : decode cX17_call 8 = .ok (.goto 10, 3) := by decide +kernel
theorem V.dX17_call_11 : decode cX17_call 11 = .ok (.aload_n 0, 1) := by decide +kernel
theorem V.dX17_call_12 : decode cX17_call 12 = .ok (.iconst 0, 1) := by decide +kernel
theorem V.dX17_call_13 : decode cX17_call 13 = .ok (.iload_n 1, 1) := by decide +kernel
theorem V.dX17_call_14 : decode cX17_call 14 = .ok (.iload_n 2, 1) := by decide +kernel
theorem V.dX17_call_15 : decode cX17_call 15 = .ok (.invokevirtual 1074, 3) := by decide +kernel
theorem V.dX17_call_18 : decode cX17_call 18 = .ok (.istore_n 3, 1) := by decide +kernel
theorem V.dX17_call_19 : decode cX17_call 19 = .ok (.iload_n 3, 1) := by decide +kernel
theorem V.dX17_call_20 : decode cX17_call 20 = .ok (.ifCond .lt 24, 3) := by decide +kernel
theorem V.dX17_call_23 : decode cX17_call 23 = .ok (.aload_n 0, 1) := by decide +kernel
theorem V.dX17_call_24 : decode cX17_call 24 = .ok (.iload_n 3, 1) := by decide +kernel
theorem V.dX17_call_25 : decode cX17_call 25 = .ok (.invokevirtual 1077, 3) := by decide +kernel
theorem V.dX17_call_28 : decode cX17_call 28 = .ok (.aload_n 0, 1) := by decide +kernel
theorem V.dX17_call_29 : decode cX17_call 29 = .ok (.getfield 1069, 3) := by decide +kernel
theorem V.dX17_call_32 : decode cX17_call 32 = .ok (.if_icmp .ne 12, 3) := by decide +kernel
theorem V.dX17_call_35 : decode cX17_call 35 = .ok (.aload_n 0, 1) := by decide +kernel
theorem V.dX17_call_36 : decode cX17_call 36 = .ok (.iload_n 3, 1) := by decide +kernel
theorem V.dX17_call_37 : decode cX17_call 37 = .ok (.iconst 0, 1) := by decide +kernel
theorem V.dX17_call_38 : decode cX17_call 38 = .ok (.invokevirtual 1080, 3) := by decide +kernel
theorem V.dX17_call_41 : decode cX17_call 41 = .ok (.ifCond .ne 5, 3) := by decide +kernel
theorem V.dX17_call_44 : decode cX17_call 44 = .ok (.iconst 0, 1) := by decide +kernel
theorem V.dX17_call_45 : decode cX17_call 45 = .ok (.ireturn, 1) := by decide +kernel
theorem V.dX17_call_46 : decode cX17_call 46 = .ok (.iconst 0, 1) := by decide +kernel
theorem V.dX17_call_47 : decode cX17_call 47 = .ok (.istore 4, 2) := by decide +kernel
theorem V.dX17_call_49 : decode cX17_call 49 = .ok (.iload 4, 2) := by decide +kernel
theorem V.dX17_call_51 : decode cX17_call 51 = .ok (.aload_n 0, 1) := by decide +kernel
theorem V.dX17_call_52 : decode cX17_call 52 = .ok (.getfield 1069, 3) := by decide +kernel
theorem V.dX17_call_55 : decode cX17_call 55 = .ok (.if_icmp .ge 47, 3) := by decide +kernel
theorem V.dX17_call_58 : decode cX17_call 58 = .ok (.aload_n 0, 1) := by decide +kernel
theorem V.dX17_call_59 : decode cX17_call 59 = .ok (.getfield 170, 3) := by decide +kernel
theorem V.dX17_call_62 : decode cX17_call 62 = .ok (.iload 4, 2) := by decide +kernel
theorem V.dX17_call_64 : decode cX17_call 64 = .ok (.aload_n 0, 1) := by decide +kernel
theorem V.dX17_call_65 : decode cX17_call 65 = .ok (.iload_n 3, 1) := by decide +kernel
theorem V.dX17_call_66 : decode cX17_call 66 = .ok (.invokevirtual 1065, 3) := by decide +kernel
theorem V.dX17_call_69 : decode cX17_call 69 = .ok (.getfield 374, 3) := by decide +kernel
theorem V.dX17_call_72 : decode cX17_call 72 = .ok (.bipush 32, 2) := by decide +kernel
theorem V.dX17_call_74 : decode cX17_call 74 = .ok (.aload_n 0, 1) := by decide +kernel
theorem V.dX17_call_75 : decode cX17_call 75 = .ok (.getfield 71, 3) := by decide +kernel
theorem V.dX17_call_78 : decode cX17_call 78 = .ok (.iload_n 3, 1) := by decide +kernel
theorem V.dX17_call_79 : decode cX17_call 79 = .ok (.iaload, 1) := by decide +kernel
theorem V.dX17_call_80 : decode cX17_call 80 = .ok (.imul, 1) := by decide +kernel
theorem V.dX17_call_81 : decode cX17_call 81 = .ok (.iload 4, 2) := by decide +kernel
theorem V.dX17_call_83 : decode cX17_call 83 = .ok (.iadd, 1) := by decide +kernel
theorem V.dX17_call_84 : decode cX17_call 84 = .ok (.iaload, 1) := by decide +kernel
theorem V.dX17_call_85 : decode cX17_call 85 = .ok (.aload_n 0, 1) := by decide +kernel
theorem V.dX17_call_86 : decode cX17_call 86 = .ok (.getfield 167, 3) := by decide +kernel
theorem V.dX17_call_89 : decode cX17_call 89 = .ok (.iload 4, 2) := by decide +kernel
theorem V.dX17_call_91 : decode cX17_call 91 = .ok (.laload, 1) := by decide +kernel
theorem V.dX17_call_92 : decode cX17_call 92 = .ok (.invokestatic 1083, 3) := by decide +kernel
theorem V.dX17_call_95 : decode cX17_call 95 = .ok (.lastore, 1) := by decide +kernel
theorem V.dX17_call_96 : decode cX17_call 96 = .ok (.iinc 4 1, 3) := by decide +kernel
theorem V.dX17_call_99 : decode cX17_call 99 = .ok (.goto (-50), 3) := by decide +kernel
theorem V.dX17_call_102 : decode cX17_call 102 = .ok (.aload_n 0, 1) := by decide +kernel
theorem V.dX17_call_103 : decode cX17_call 103 = .ok (.iconst 0, 1) := by decide +kernel
theorem V.dX17_call_104 : decode cX17_call 104 = .ok (.putfield 1069, 3) := by decide +kernel
theorem V.dX17_call_107 : decode cX17_call 107 = .ok (.aload_n 0, 1) := by decide +kernel
theorem V.dX17_call_108 : decode cX17_call 108 = .ok (.iload_n 3, 1) := by decide +kernel
theorem V.dX17_call_109 : decode cX17_call 109 = .ok (.invokevirtual 1043, 3) := by decide +kernel
theorem V.dX17_call_112 : decode cX17_call 112 = .ok (.iconst 1, 1) := by decide +kernel
theorem V.dX17_call_113 : decode cX17_call 113 = .ok (.ireturn, 1) := by decide +kernel
theorem V.mdX17_1074 : MD RX17 1074 yX17_exportedAs cX17_exportedAs 4 (some .int) 3 := ⟨Or.inl q4155, q377, q4158, by decide, by decide, by decide +kernel⟩
theorem V.mdX17_1080 : MD RX17 1080 yX17_areSuch cX17_areSuch 8 (some .boolean) 2 := ⟨Or.inl q4159, q377, q4162, by decide, by decide, by decide +kernel⟩
theorem V.mdX17_1083 : MD RX17 1083 yX17_held cX17_held 3 (some .long) 2 := ⟨Or.inl q4164, q377, q4166, by decide, by decide, by decide +kernel⟩
/-! ModuleEngineModel.call(II)Z -/
def V.Mdl_call_p49  : Nat → HS → Nat → Int32 → Int32 → Option (Int32 × HS)
  | 0, _, _, _, _ => none
  | n + 1, σ, x0, x3, x4 =>
    ck (tg σ x0 = 18) <|
    if (gI σ x0 81) ≤ x4 then (
      ck (tg σ x0 = 18) <| bn (sI σ x0 81 (0 : Int32)) fun σ1 =>
      ck (tg σ1 x0 = 18) <| cl (Mdl_calls σ1 x0 x3) fun _ σ2 =>
      some ((1 : Int32), σ2))
    else (
      ck (tg σ x0 = 18) <|
      ck (tg σ x0 = 18) <| cl (Mdl_planOf σ x0 x3) fun r4 σ3 =>
      ck (tg σ3 r4 = 21) <|
      ck (tg σ3 x0 = 18) <|
      ck (tg σ3 (gR σ3 x0 38) = 100 ∧ inb x3 (ln σ3 (gR σ3 x0 38))) <|
      ck (tg σ3 (gR σ3 r4 7) = 100 ∧ inb (((32 : Int32) * (gI σ3 (gR σ3 x0 38) (ix x3))) + x4) (ln σ3 (gR σ3 r4 7))) <|
      ck (tg σ3 x0 = 18) <|
      ck (tg σ3 (gR σ3 x0 82) = 101 ∧ inb x4 (ln σ3 (gR σ3 x0 82))) <|
      cl (Mdl_held σ3 (gI σ3 (gR σ3 r4 7) (ix (((32 : Int32) * (gI σ3 (gR σ3 x0 38) (ix x3))) + x4))) (gJ σ3 (gR σ3 x0 82) (ix x4))) fun r6 σ5 =>
      ck (tg σ5 (gR σ x0 84) = 101 ∧ inb x4 (ln σ5 (gR σ x0 84))) <| bn (sJ σ5 (gR σ x0 84) (ix x4) r6) fun σ7 =>
      bn (x4 + (1 : Int32)) fun y8 =>
      Mdl_call_p49 n σ7 x0 x3 y8)
theorem V.gX17_call_p49 {X : CX}  : ∀ (n : Nat) (σ : HS) (x0 : Nat) (x3 : Int32) (x4 : Int32), G X RX17 "call" cX17_call 5 (some .boolean) 6 132 enI 49 [(0, av x0), (3, iv x3), (4, iv x4)] [] σ (Mdl_call_p49 n σ x0 x3 x4)
  | 0, σ, x0, x3, x4 => by rw [Mdl_call_p49]; exact G.nul
  | n + 1, σ, x0, x3, x4 => by
    rw [Mdl_call_p49]
    refine g_iload 2 dX17_call_49 rfl ?_
    refine g_aload_n 0 0 dX17_call_51 rfl rfl ?_
    refine g_getI fdX17_1069 dX17_call_52 ?_
    refine g_icmp_ge 102 dX17_call_55 (by decide) ?_ ?_
    · refine g_aload_n 0 0 dX17_call_102 rfl rfl ?_
      refine g_iconst (v := 0) dX17_call_103 (by decide) ?_
      refine g_putI fpX17_1069 dX17_call_104 (fun σ1 => ?_)
      refine g_aload_n 0 0 dX17_call_107 rfl rfl ?_
      refine g_iload_n 3 1 dX17_call_108 rfl rfl ?_
      refine g_callV (fc := fun sς => Mdl_calls sς x0 x3) (ci := 17) (as := [iv x3]) rfl rfl rfl q4109 qs313 mdX17_1043 (ctX17_calls x0 x3) rfl (Nat.le_of_ble_eq_true rfl) (Nat.le_of_ble_eq_true rfl) (Nat.le_of_ble_eq_true rfl) pu_V dX17_call_109 (fun _ σ2 => ?_)
      refine g_iconst (v := 1) dX17_call_112 (by decide) ?_
      exact g_zreturn rfl (by decide +kernel) dX17_call_113
    · refine g_aload_n 0 0 dX17_call_58 rfl rfl ?_
      refine g_getR fdX17_170 dX17_call_59 ?_
      refine g_iload 2 dX17_call_62 rfl ?_
      refine g_aload_n 0 0 dX17_call_64 rfl rfl ?_
      refine g_iload_n 3 1 dX17_call_65 rfl rfl ?_
      refine g_callV (fc := fun sς => Mdl_planOf sς x0 x3) (ci := 17) (as := [iv x3]) rfl rfl rfl q4121 qs316 mdX17_1065 (ctX17_planOf x0 x3) rfl (Nat.le_of_ble_eq_true rfl) (Nat.le_of_ble_eq_true rfl) (Nat.le_of_ble_eq_true rfl) pu_R dX17_call_66 (fun r4 σ3 => ?_)
      refine g_getR fdX17_374 dX17_call_69 ?_
      refine g_bipush (v := 32) dX17_call_72 (by decide) ?_
      refine g_aload_n 0 0 dX17_call_74 rfl rfl ?_
      refine g_getR fdX17_71 dX17_call_75 ?_
      refine g_iload_n 3 1 dX17_call_78 rfl rfl ?_
      refine g_iaload dX17_call_79 ?_
      refine g_imul dX17_call_80 ?_
      refine g_iload 2 dX17_call_81 rfl ?_
      refine g_iadd dX17_call_83 ?_
      refine g_iaload dX17_call_84 ?_
      refine g_aload_n 0 0 dX17_call_85 rfl rfl ?_
      refine g_getR fdX17_167 dX17_call_86 ?_
      refine g_iload 2 dX17_call_89 rfl ?_
      refine g_laload dX17_call_91 ?_
      refine g_callS (fc := fun sς => Mdl_held sς (gI σ3 (gR σ3 r4 7) (ix (((32 : Int32) * (gI σ3 (gR σ3 x0 38) (ix x3))) + x4))) (gJ σ3 (gR σ3 x0 82) (ix x4))) (as := [iv (gI σ3 (gR σ3 r4 7) (ix (((32 : Int32) * (gI σ3 (gR σ3 x0 38) (ix x3))) + x4))), jv (gJ σ3 (gR σ3 x0 82) (ix x4))]) q4165 mdX17_1083 (ctX17_held (gI σ3 (gR σ3 r4 7) (ix (((32 : Int32) * (gI σ3 (gR σ3 x0 38) (ix x3))) + x4))) (gJ σ3 (gR σ3 x0 82) (ix x4))) rfl (Nat.le_of_ble_eq_true rfl) (Nat.le_of_ble_eq_true rfl) (Nat.le_of_ble_eq_true rfl) pu_J dX17_call_92 (fun r6 σ5 => ?_)
      refine g_lastore dX17_call_95 (fun σ7 => ?_)
      refine g_iincB (w := 1) 2 dX17_call_96 rfl (by decide) (by decide) (fun _ => rfl) (fun y8 => ?_)
      refine g_goto 49 dX17_call_99 (by decide) ?_
      refine G.sub [1, 2, 0] rfl ?_
      exact gX17_call_p49 n _ _ _ _
def V.Mdl_call_p18  (σ : HS) (x0 : Nat) (s0 : Int32) : Option (Int32 × HS) :=
  if s0 < 0 then (
    some ((0 : Int32), σ))
  else (
    ck (tg σ x0 = 18) <| cl (Mdl_parametersIn σ x0 s0) fun r2 σ1 =>
    ck (tg σ1 x0 = 18) <|
    if r2 = (gI σ1 x0 81) then (
      ck (tg σ1 x0 = 18) <| cl (Mdl_areSuch σ1 x0 s0 (0 : Int32)) fun r4 σ3 =>
      if r4 = 0 then (
        some ((0 : Int32), σ3))
      else (
        Mdl_call_p49 FU σ3 x0 s0 (0 : Int32)))
    else (
      some ((0 : Int32), σ1)))
theorem V.gX17_call_p18 {X : CX}  (σ : HS) (x0 : Nat) (s0 : Int32) : G X RX17 "call" cX17_call 5 (some .boolean) 6 132 enI 18 [(0, av x0)] [iv s0] σ (Mdl_call_p18 σ x0 s0) := by
  unfold Mdl_call_p18
  refine g_istore_n 3 dX17_call_18 rfl (by decide) rfl ?_
  refine g_iload_n 3 0 dX17_call_19 rfl rfl ?_
  refine g_if_lt 44 dX17_call_20 (by decide) ?_ ?_
  · refine g_iconst (v := 0) dX17_call_44 (by decide) ?_
    exact g_zreturn rfl (by decide +kernel) dX17_call_45
  · refine g_aload_n 0 1 dX17_call_23 rfl rfl ?_
    refine g_iload_n 3 0 dX17_call_24 rfl rfl ?_
    refine g_callV (fc := fun sς => Mdl_parametersIn sς x0 s0) (ci := 17) (as := [iv s0]) rfl rfl rfl q4117 qs315 mdX17_1077 (ctX17_parametersIn x0 s0) rfl (Nat.le_of_ble_eq_true rfl) (Nat.le_of_ble_eq_true rfl) (Nat.le_of_ble_eq_true rfl) pu_I dX17_call_25 (fun r2 σ1 => ?_)
    refine g_aload_n 0 1 dX17_call_28 rfl rfl ?_
    refine g_getI fdX17_1069 dX17_call_29 ?_
    refine g_icmp_ne 44 dX17_call_32 (by decide) ?_ ?_
    · refine g_iconst (v := 0) dX17_call_44 (by decide) ?_
      exact g_zreturn rfl (by decide +kernel) dX17_call_45
    · refine g_aload_n 0 1 dX17_call_35 rfl rfl ?_
      refine g_iload_n 3 0 dX17_call_36 rfl rfl ?_
      refine g_iconst (v := 0) dX17_call_37 (by decide) ?_
      refine g_callV (fc := fun sς => Mdl_areSuch sς x0 s0 (0 : Int32)) (ci := 17) (as := [iv s0, iv (0 : Int32)]) rfl rfl rfl q4161 qs324 mdX17_1080 (ctX17_areSuch x0 s0 (0 : Int32)) rfl (Nat.le_of_ble_eq_true rfl) (Nat.le_of_ble_eq_true rfl) (Nat.le_of_ble_eq_true rfl) pu_I dX17_call_38 (fun r4 σ3 => ?_)
      refine g_if_ne 46 dX17_call_41 (by decide) ?_ ?_
      · refine g_iconst (v := 0) dX17_call_46 (by decide) ?_
        refine g_istore dX17_call_47 (by decide) rfl ?_
        refine G.sub [2, 1, 0] rfl ?_
        exact gX17_call_p49 FU _ _ _ _
      · refine g_iconst (v := 0) dX17_call_44 (by decide) ?_
        exact g_zreturn rfl (by decide +kernel) dX17_call_45
def V.Mdl_call (σ : HS) (x0 : Nat) (x1 : Int32) (x2 : Int32) : Option (Int32 × HS) :=
  ck (tg σ x0 = 18) <| cl (Mdl_runs σ x0 ) fun r2 σ1 =>
  if r2 = 0 then (
    ck (tg σ1 x0 = 18) <| cl (Mdl_exportedAs σ1 x0 (0 : Int32) x1 x2) fun r4 σ3 =>
    Mdl_call_p18 σ3 x0 r4)
  else (
    Mdl_call_p18 σ1 x0 (-1 : Int32))
theorem V.ctX17_call (x0 : Nat) (x1 : Int32) (x2 : Int32) : Ct yX17_call  cX17_call 5 (some .boolean) 6 132 eI [av x0, iv x1, iv x2] (fun σ => Mdl_call σ x0 x1 x2) := by
  refine Ct.of (own := RX17) (nm := "call") (desc := "(II)Z") rfl (by decide) (Nat.le_of_ble_eq_true rfl) (by decide) (fun X σ => ?_)
  show G X RX17 "call" cX17_call 5 (some .boolean) 6 132 enI 0 [(0, av x0), (1, iv x1), (2, iv x2)] [] σ (Mdl_call σ x0 x1 x2)
  unfold Mdl_call
  refine g_aload_n 0 0 dX17_call_0 rfl rfl ?_
  refine g_callV (fc := fun sς => Mdl_runs sς x0 ) (ci := 17) (as := []) rfl rfl rfl q4027 qs293 mdX17_986 (ctX17_runs x0 ) rfl (Nat.le_of_ble_eq_true rfl) (Nat.le_of_ble_eq_true rfl) (Nat.le_of_ble_eq_true rfl) pu_I dX17_call_1 (fun r2 σ1 => ?_)
  refine g_if_eq 11 dX17_call_4 (by decide) ?_ ?_
  · refine g_aload_n 0 0 dX17_call_11 rfl rfl ?_
    refine g_iconst (v := 0) dX17_call_12 (by decide) ?_
    refine g_iload_n 1 1 dX17_call_13 rfl rfl ?_
    refine g_iload_n 2 2 dX17_call_14 rfl rfl ?_
    refine g_callV (fc := fun sς => Mdl_exportedAs sς x0 (0 : Int32) x1 x2) (ci := 17) (as := [iv (0 : Int32), iv x1, iv x2]) rfl rfl rfl q4157 qs323 mdX17_1074 (ctX17_exportedAs x0 (0 : Int32) x1 x2) rfl (Nat.le_of_ble_eq_true rfl) (Nat.le_of_ble_eq_true rfl) (Nat.le_of_ble_eq_true rfl) pu_I dX17_call_15 (fun r4 σ3 => ?_)
    refine G.sub [0] rfl ?_
    exact gX17_call_p18 _ _ _
  · refine g_iconst (v := (-1)) dX17_call_7 (by decide) ?_
    refine g_goto 18 dX17_call_8 (by decide) ?_
    refine G.sub [0] rfl ?_
    exact gX17_call_p18 _ _ _
theorem V.dX17_pop_0 : decode cX17_pop 0 = .ok (.aload_n 0, 1) := by decide +kernel
theorem V.dX17_pop_1 : decode cX17_pop 1 = .ok (.dup, 1) := by decide +kernel
theorem V.dX17_pop_2 : decode cX17_pop 2 = .ok (.getfield 1104, 3) := by decide +kernel
theorem V.dX17_pop_5 : decode cX17_pop 5 = .ok (.iconst 1, 1) := by decide +kernel
theorem V.dX17_pop_6 : decode cX17_pop 6 = .ok (.isub, 1) := by decide +kernel
theorem V.dX17_pop_7 : decode cX17_pop 7 = .ok (.putfield 1104, 3) := by decide +kernel
theorem V.dX17_pop_10 : decode cX17_pop 10 = .ok (.aload_n 0, 1) := by decide +kernel
theorem V.dX17_pop_11 : decode cX17_pop 11 = .ok (.getfield 191, 3) := by decide +kernel
theorem V.dX17_pop_14 : decode cX17_pop 14 = .ok (.aload_n 0, 1) := by decide +kernel
theorem V.dX17_pop_15 : decode cX17_pop 15 = .ok (.getfield 1104, 3) := by decide +kernel
theorem V.dX17_pop_18 : decode cX17_pop 18 = .ok (.laload, 1) := by decide +kernel
theorem V.dX17_pop_19 : decode cX17_pop 19 = .ok (.lreturn, 1) := by decide +kernel
/-! ModuleEngineModel.pop()J -/
def V.Mdl_pop (σ : HS) (x0 : Nat) : Option (Int64 × HS) :=
  ck (tg σ x0 = 18) <|
  ck (tg σ x0 = 18) <| bn (sI σ x0 93 ((gI σ x0 93) - (1 : Int32))) fun σ1 =>
  ck (tg σ1 x0 = 18) <|
  ck (tg σ1 x0 = 18) <|
  ck (tg σ1 (gR σ1 x0 92) = 101 ∧ inb (gI σ1 x0 93) (ln σ1 (gR σ1 x0 92))) <|
  some (gJ σ1 (gR σ1 x0 92) (ix (gI σ1 x0 93)), σ1)
theorem V.ctX17_pop (x0 : Nat) : Ct yX17_pop  cX17_pop 1 (some .long) 0 0 eJ [av x0] (fun σ => Mdl_pop σ x0) := by
  refine Ct.of (own := RX17) (nm := "pop") (desc := "()J") rfl (by decide) (Nat.le_of_ble_eq_true rfl) (by decide) (fun X σ => ?_)
  show G X RX17 "pop" cX17_pop 1 (some .long) 0 0 enJ 0 [(0, av x0)] [] σ (Mdl_pop σ x0)
  unfold Mdl_pop
  refine g_aload_n 0 0 dX17_pop_0 rfl rfl ?_
  refine g_dup dX17_pop_1 rfl ?_
  refine g_getI fdX17_1104 dX17_pop_2 ?_
  refine g_iconst (v := 1) dX17_pop_5 (by decide) ?_
  refine g_isub dX17_pop_6 ?_
  refine g_putI fpX17_1104 dX17_pop_7 (fun σ1 => ?_)
  refine g_aload_n 0 0 dX17_pop_10 rfl rfl ?_
  refine g_getR fdX17_191 dX17_pop_11 ?_
  refine g_aload_n 0 0 dX17_pop_14 rfl rfl ?_
  refine g_getI fdX17_1104 dX17_pop_15 ?_
  refine g_laload dX17_pop_18 ?_
  exact g_lreturn rfl dX17_pop_19
theorem V.dX17_isBelow_0 : decode cX17_isBelow 0 = .ok (.lload_n 0, 1) := by decide +kernel
theorem V.dX17_isBelow_1 : decode cX17_isBelow 1 = .ok (.ldc2_w 798, 3) := by decide +kernel
theorem V.dX17_isBelow_4 : decode cX17_isBelow 4 = .ok (.ladd, 1) := by decide +kernel
theorem V.dX17_isBelow_5 : decode cX17_isBelow 5 = .ok (.lload_n 2, 1) := by decide +kernel
theorem V.dX17_isBelow_6 : decode cX17_isBelow 6 = .ok (.ldc2_w 798, 3) := by decide +kernel
theorem V.dX17_isBelow_9 : decode cX17_isBelow 9 = .ok (.ladd, 1) := by decide +kernel
theorem V.dX17_isBelow_10 : decode cX17_isBelow 10 = .ok (.lcmp, 1) := by decide +kernel
theorem V.dX17_isBelow_11 : decode cX17_isBelow 11 = .ok (.ifCond .ge 7, 3) := by decide +kernel
theorem V.dX17_isBelow_14 : decode cX17_isBelow 14 = .ok (.iconst 1, 1) := by decide +kernel
theorem V.dX17_isBelow_15 : decode cX17_isBelow 15 = .ok (.goto 4, 3) := by decide +kernel
theorem V.dX17_isBelow_18 : decode cX17_isBelow 18 = .ok (.iconst 0, 1) := by decide +kernel
theorem V.dX17_isBelow_19 : decode cX17_isBelow 19 = .ok (.ireturn, 1) := by decide +kernel
/-! ModuleEngineModel.isBelow(JJ)Z -/
def V.Mdl_isBelow (σ : HS) (x0 : Int64) (x2 : Int64) : Option (Int32 × HS) :=
  if (x2 + (-9223372036854775808 : Int64)) ≤ (x0 + (-9223372036854775808 : Int64)) then (
    some ((0 : Int32), σ))
  else (
    some ((1 : Int32), σ))
theorem V.ctX17_isBelow (x0 : Int64) (x2 : Int64) : Ct yX17_isBelow  cX17_isBelow 4 (some .boolean) 0 0 eI [jv x0, jv x2] (fun σ => Mdl_isBelow σ x0 x2) := by
  refine Ct.of (own := RX17) (nm := "isBelow") (desc := "(JJ)Z") rfl (by decide) (Nat.le_of_ble_eq_true rfl) (by decide) (fun X σ => ?_)
  show G X RX17 "isBelow" cX17_isBelow 4 (some .boolean) 0 0 enI 0 [(0, jv x0), (2, jv x2)] [] σ (Mdl_isBelow σ x0 x2)
  unfold Mdl_isBelow
  refine g_lload_n 0 0 dX17_isBelow_0 rfl rfl ?_
  refine g_ldc2 q4194 dX17_isBelow_1 ?_
  refine g_ladd dX17_isBelow_4 ?_
  refine g_lload_n 2 1 dX17_isBelow_5 rfl rfl ?_
  refine g_ldc2 q4194 dX17_isBelow_6 ?_
  refine g_ladd dX17_isBelow_9 ?_
  refine g_lcmp_ge 18 dX17_isBelow_10 dX17_isBelow_11 (by decide) ?_ ?_
  · refine g_iconst (v := 0) dX17_isBelow_18 (by decide) ?_
    exact g_zreturn rfl (by decide +kernel) dX17_isBelow_19
  · refine g_iconst (v := 1) dX17_isBelow_14 (by decide) ?_
    refine g_goto 19 dX17_isBelow_15 (by decide) ?_
    exact g_zreturn rfl (by decide +kernel) dX17_isBelow_19
theorem V.dX17_isWhole_0 : decode cX17_isWhole 0 = .ok (.iload_n 0, 1) := by decide +kernel
theorem V.dX17_isWhole_1 : decode cX17_isWhole 1 = .ok (.tableswitch 159 0 8 #[51, 65, 79, 91, 99, 111, 119, 131, 147], 51) := by decide +kernel
theorem V.dX17_isWhole_52 : decode cX17_isWhole 52 = .ok (.lload 5, 2) := by decide +kernel
theorem V.dX17_isWhole_54 : decode cX17_isWhole 54 = .ok (.lload 7, 2) := by decide +kernel
theorem V.dX17_isWhole_56 : decode cX17_isWhole 56 = .ok (.lcmp, 1) := by decide +kernel
theorem V.dX17_isWhole_57 : decode cX17_isWhole 57 = .ok (.ifCond .ne 7, 3) := by decide +kernel
theorem V.dX17_isWhole_60 : decode cX17_isWhole 60 = .ok (.iconst 1, 1) := by decide +kernel
theorem V.dX17_isWhole_61 : decode cX17_isWhole 61 = .ok (.goto 4, 3) := by decide +kernel
theorem V.dX17_isWhole_64 : decode cX17_isWhole 64 = .ok (.iconst 0, 1) := by decide +kernel
theorem V.dX17_isWhole_65 : decode cX17_isWhole 65 = .ok (.ireturn, 1) := by decide +kernel
theorem V.dX17_isWhole_66 : decode cX17_isWhole 66 = .ok (.lload 5, 2) := by decide +kernel
theorem V.dX17_isWhole_68 : decode cX17_isWhole 68 = .ok (.lload 7, 2) := by decide +kernel
theorem V.dX17_isWhole_70 : decode cX17_isWhole 70 = .ok (.lcmp, 1) := by decide +kernel
theorem V.dX17_isWhole_71 : decode cX17_isWhole 71 = .ok (.ifCond .eq 7, 3) := by decide +kernel
theorem V.dX17_isWhole_74 : decode cX17_isWhole 74 = .ok (.iconst 1, 1) := by decide +kernel
theorem V.dX17_isWhole_75 : decode cX17_isWhole 75 = .ok (.goto 4, 3) := by decide +kernel
theorem V.dX17_isWhole_78 : decode cX17_isWhole 78 = .ok (.iconst 0, 1) := by decide +kernel
theorem V.dX17_isWhole_79 : decode cX17_isWhole 79 = .ok (.ireturn, 1) := by decide +kernel
theorem V.dX17_isWhole_80 : decode cX17_isWhole 80 = .ok (.lload_n 1, 1) := by decide +kernel
theorem V.dX17_isWhole_81 : decode cX17_isWhole 81 = .ok (.lload_n 3, 1) := by decide +kernel
theorem V.dX17_isWhole_82 : decode cX17_isWhole 82 = .ok (.lcmp, 1) := by decide +kernel
theorem V.dX17_isWhole_83 : decode cX17_isWhole 83 = .ok (.ifCond .ge 7, 3) := by decide +kernel
theorem V.dX17_isWhole_86 : decode cX17_isWhole 86 = .ok (.iconst 1, 1) := by decide +kernel
theorem V.dX17_isWhole_87 : decode cX17_isWhole 87 = .ok (.goto 4, 3) := by decide +kernel
theorem V.dX17_isWhole_90 : decode cX17_isWhole 90 = .ok (.iconst 0, 1) := by decide +kernel
theorem V.dX17_isWhole_91 : decode cX17_isWhole 91 = .ok (.ireturn, 1) := by decide +kernel
theorem V.dX17_isWhole_92 : decode cX17_isWhole 92 = .ok (.lload 5, 2) := by decide +kernel
theorem V.dX17_isWhole_94 : decode cX17_isWhole 94 = .ok (.lload 7, 2) := by decide +kernel
theorem V.dX17_isWhole_96 : decode cX17_isWhole 96 = .ok (.invokestatic 827, 3) := by decide +kernel
theorem V.dX17_isWhole_99 : decode cX17_isWhole 99 = .ok (.ireturn, 1) := by decide +kernel
theorem V.dX17_isWhole_100 : decode cX17_isWhole 100 = .ok (.lload_n 1, 1) := by decide +kernel
theorem V.dX17_isWhole_101 : decode cX17_isWhole 101 = .ok (.lload_n 3, 1) := by decide +kernel
theorem V.dX17_isWhole_102 : decode cX17_isWhole 102 = .ok (.lcmp, 1) := by decide +kernel
theorem V.dX17_isWhole_103 : decode cX17_isWhole 103 = .ok (.ifCond .le 7, 3) := by decide +kernel
theorem V.dX17_isWhole_106 : decode cX17_isWhole 106 = .ok (.iconst 1, 1) := by decide +kernel
theorem V.dX17_isWhole_107 : decode cX17_isWhole 107 = .ok (.goto 4, 3) := by decide +kernel
theorem V.dX17_isWhole_110 : decode cX17_isWhole 110 = .ok (.iconst 0, 1) := by decide +kernel
theorem V.dX17_isWhole_111 : decode cX17_isWhole 111 = .ok (.ireturn, 1) := by decide +kernel
theorem V.dX17_isWhole_112 : decode cX17_isWhole 112 = .ok (.lload 7, 2) := by decide +kernel
theorem V.dX17_isWhole_114 : decode cX17_isWhole 114 = .ok (.lload 5, 2) := by decide +kernel
theorem V.dX17_isWhole_116 : decode cX17_isWhole 116 = .ok (.invokestatic 827, 3) := by decide +kernel
theorem V.dX17_isWhole_119 : decode cX17_isWhole 119 = .ok (.ireturn, 1) := by decide +kernel
theorem V.dX17_isWhole_120 : decode cX17_isWhole 120 = .ok (.lload_n 1, 1) := by decide +kernel
theorem V.dX17_isWhole_121 : decode cX17_isWhole 121 = .ok (.lload_n 3, 1) := by decide +kernel
theorem V.dX17_isWhole_122 : decode cX17_isWhole 122 = .ok (.lcmp, 1) := by decide +kernel
theorem V.dX17_isWhole_123 : decode cX17_isWhole 123 = .ok (.ifCond .gt 7, 3) := by decide +kernel
theorem V.dX17_isWhole_126 : decode cX17_isWhole 126 = .ok (.iconst 1, 1) := by decide +kernel
theorem V.dX17_isWhole_127 : decode cX17_isWhole 127 = .ok (.goto 4, 3) := by decide +kernel
theorem V.dX17_isWhole_130 : decode cX17_isWhole 130 = .ok (.iconst 0, 1) := by decide +kernel
theorem V.dX17_isWhole_131 : decode cX17_isWhole 131 = .ok (.ireturn, 1) := by decide +kernel
theorem V.dX17_isWhole_132 : decode cX17_isWhole 132 = .ok (.lload 7, 2) := by decide +kernel
theorem V.dX17_isWhole_134 : decode cX17_isWhole 134 = .ok (.lload 5, 2) := by decide +kernel
theorem V.dX17_isWhole_136 : decode cX17_isWhole 136 = .ok (.invokestatic 827, 3) := by decide +kernel
theorem V.dX17_isWhole_139 : decode cX17_isWhole 139 = .ok (.ifCond .ne 7, 3) := by decide +kernel
theorem V.dX17_isWhole_142 : decode cX17_isWhole 142 = .ok (.iconst 1, 1) := by decide +kernel
theorem V.dX17_isWhole_143 : decode cX17_isWhole 143 = .ok (.goto 4, 3) := by decide +kernel
theorem V.dX17_isWhole_146 : decode cX17_isWhole 146 = .ok (.iconst 0, 1) := by decide +kernel
theorem V.dX17_isWhole_147 : decode cX17_isWhole 147 = .ok (.ireturn, 1) := by decide +kernel
theorem V.dX17_isWhole_148 : decode cX17_isWhole 148 = .ok (.lload_n 1, 1) := by decide +kernel
theorem V.dX17_isWhole_149 : decode cX17_isWhole 149 = .ok (.lload_n 3, 1) := by decide +kernel
theorem V.dX17_isWhole_150 : decode cX17_isWhole 150 = .ok (.lcmp, 1) := by decide +kernel
theorem V.dX17_isWhole_151 : decode cX17_isWhole 151 = .ok (.ifCond .lt 7, 3) := by decide +kernel
theorem V.dX17_isWhole_154 : decode cX17_isWhole 154 = .ok (.iconst 1, 1) := by decide +kernel
theorem V.dX17_isWhole_155 : decode cX17_isWhole 155 = .ok (.goto 4, 3) := by decide +kernel
theorem V.dX17_isWhole_158 : decode cX17_isWhole 158 = .ok (.iconst 0, 1) := by decide +kernel
theorem V.dX17_isWhole_159 : decode cX17_isWhole 159 = .ok (.ireturn, 1) := by decide +kernel
theorem V.dX17_isWhole_160 : decode cX17_isWhole 160 = .ok (.lload 5, 2) := by decide +kernel
theorem V.dX17_isWhole_162 : decode cX17_isWhole 162 = .ok (.lload 7, 2) := by decide +kernel
theorem V.dX17_isWhole_164 : decode cX17_isWhole 164 = .ok (.invokestatic 827, 3) := by decide +kernel
theorem V.dX17_isWhole_167 : decode cX17_isWhole 167 = .ok (.ifCond .ne 7, 3) := by decide +kernel
theorem V.dX17_isWhole_170 : decode cX17_isWhole 170 = .ok (.iconst 1, 1) := by decide +kernel
theorem V.dX17_isWhole_171 : decode cX17_isWhole 171 = .ok (.goto 4, 3) := by decide +kernel
theorem V.dX17_isWhole_174 : decode cX17_isWhole 174 = .ok (.iconst 0, 1) := by decide +kernel
theorem V.dX17_isWhole_175 : decode cX17_isWhole 175 = .ok (.ireturn, 1) := by decide +kernel
theorem V.mdX17_827 : MD RX17 827 yX17_isBelow cX17_isBelow 4 (some .boolean) 2 := ⟨Or.inl q4191, q377, q4193, by decide, by decide, by decide +kernel⟩
/-! ModuleEngineModel.isWhole(IJJJJ)Z -/
def V.Mdl_isWhole (σ : HS) (x0 : Int32) (x1 : Int64) (x3 : Int64) (x5 : Int64) (x7 : Int64) : Option (Int32 × HS) :=
  swx x0 [
    (0, (
      if x5 = x7 then (
        some ((1 : Int32), σ))
      else (
        some ((0 : Int32), σ)))),
    (1, (
      if x5 = x7 then (
        some ((0 : Int32), σ))
      else (
        some ((1 : Int32), σ)))),
    (2, (
      if x3 ≤ x1 then (
        some ((0 : Int32), σ))
      else (
        some ((1 : Int32), σ)))),
    (3, (
      cl (Mdl_isBelow σ x5 x7) fun r2 σ1 =>
      ck (zb r2) (some (r2, σ1)))),
    (4, (
      if x1 ≤ x3 then (
        some ((0 : Int32), σ))
      else (
        some ((1 : Int32), σ)))),
    (5, (
      cl (Mdl_isBelow σ x7 x5) fun r4 σ3 =>
      ck (zb r4) (some (r4, σ3)))),
    (6, (
      if x3 < x1 then (
        some ((0 : Int32), σ))
      else (
        some ((1 : Int32), σ)))),
    (7, (
      cl (Mdl_isBelow σ x7 x5) fun r6 σ5 =>
      if r6 = 0 then (
        some ((1 : Int32), σ5))
      else (
        some ((0 : Int32), σ5)))),
    (8, (
      if x1 < x3 then (
        some ((0 : Int32), σ))
      else (
        some ((1 : Int32), σ))))
    ] (
    cl (Mdl_isBelow σ x5 x7) fun r8 σ7 =>
    if r8 = 0 then (
      some ((1 : Int32), σ7))
    else (
      some ((0 : Int32), σ7)))
theorem V.ctX17_isWhole (x0 : Int32) (x1 : Int64) (x3 : Int64) (x5 : Int64) (x7 : Int64) : Ct yX17_isWhole  cX17_isWhole 9 (some .boolean) 1 23 eI [iv x0, jv x1, jv x3, jv x5, jv x7] (fun σ => Mdl_isWhole σ x0 x1 x3 x5 x7) := by
  refine Ct.of (own := RX17) (nm := "isWhole") (desc := "(IJJJJ)Z") rfl (by decide) (Nat.le_of_ble_eq_true rfl) (by decide) (fun X σ => ?_)
  show G X RX17 "isWhole" cX17_isWhole 9 (some .boolean) 1 23 enI 0 [(0, iv x0), (1, jv x1), (3, jv x3), (5, jv x5), (7, jv x7)] [] σ (Mdl_isWhole σ x0 x1 x3 x5 x7)
  unfold Mdl_isWhole
  refine g_iload_n 0 0 dX17_isWhole_0 rfl rfl ?_
  refine g_tsw dX17_isWhole_1 (by decide +kernel) ?_
  refine g_case ex0 (t := 52) (by decide +kernel) ?_ (fun hx => ?_)
  · refine g_lload 3 dX17_isWhole_52 rfl ?_
    refine g_lload 4 dX17_isWhole_54 rfl ?_
    refine g_lcmp_ne 64 dX17_isWhole_56 dX17_isWhole_57 (by decide) ?_ ?_
    · refine g_iconst (v := 0) dX17_isWhole_64 (by decide) ?_
      exact g_zreturn rfl (by decide +kernel) dX17_isWhole_65
    · refine g_iconst (v := 1) dX17_isWhole_60 (by decide) ?_
      refine g_goto 65 dX17_isWhole_61 (by decide) ?_
      exact g_zreturn rfl (by decide +kernel) dX17_isWhole_65
  refine g_case hx (t := 66) (by decide +kernel) ?_ (fun hx => ?_)
  · refine g_lload 3 dX17_isWhole_66 rfl ?_
    refine g_lload 4 dX17_isWhole_68 rfl ?_
    refine g_lcmp_eq 78 dX17_isWhole_70 dX17_isWhole_71 (by decide) ?_ ?_
    · refine g_iconst (v := 0) dX17_isWhole_78 (by decide) ?_
      exact g_zreturn rfl (by decide +kernel) dX17_isWhole_79
    · refine g_iconst (v := 1) dX17_isWhole_74 (by decide) ?_
      refine g_goto 79 dX17_isWhole_75 (by decide) ?_
      exact g_zreturn rfl (by decide +kernel) dX17_isWhole_79
  refine g_case hx (t := 80) (by decide +kernel) ?_ (fun hx => ?_)
  · refine g_lload_n 1 1 dX17_isWhole_80 rfl rfl ?_
    refine g_lload_n 3 2 dX17_isWhole_81 rfl rfl ?_
    refine g_lcmp_ge 90 dX17_isWhole_82 dX17_isWhole_83 (by decide) ?_ ?_
    · refine g_iconst (v := 0) dX17_isWhole_90 (by decide) ?_
      exact g_zreturn rfl (by decide +kernel) dX17_isWhole_91
    · refine g_iconst (v := 1) dX17_isWhole_86 (by decide) ?_
      refine g_goto 91 dX17_isWhole_87 (by decide) ?_
      exact g_zreturn rfl (by decide +kernel) dX17_isWhole_91
  refine g_case hx (t := 92) (by decide +kernel) ?_ (fun hx => ?_)
  · refine g_lload 3 dX17_isWhole_92 rfl ?_
    refine g_lload 4 dX17_isWhole_94 rfl ?_
    refine g_callS (fc := fun sς => Mdl_isBelow sς x5 x7) (as := [jv x5, jv x7]) q4192 mdX17_827 (ctX17_isBelow x5 x7) rfl (Nat.le_of_ble_eq_true rfl) (Nat.le_of_ble_eq_true rfl) (Nat.le_of_ble_eq_true rfl) pu_I dX17_isWhole_96 (fun r2 σ1 => ?_)
    exact g_zreturnc rfl dX17_isWhole_99
  refine g_case hx (t := 100) (by decide +kernel) ?_ (fun hx => ?_)
  · refine g_lload_n 1 1 dX17_isWhole_100 rfl rfl ?_
    refine g_lload_n 3 2 dX17_isWhole_101 rfl rfl ?_
    refine g_lcmp_le 110 dX17_isWhole_102 dX17_isWhole_103 (by decide) ?_ ?_
    · refine g_iconst (v := 0) dX17_isWhole_110 (by decide) ?_
      exact g_zreturn rfl (by decide +kernel) dX17_isWhole_111
    · refine g_iconst (v := 1) dX17_isWhole_106 (by decide) ?_
      refine g_goto 111 dX17_isWhole_107 (by decide) ?_
      exact g_zreturn rfl (by decide +kernel) dX17_isWhole_111
  refine g_case hx (t := 112) (by decide +kernel) ?_ (fun hx => ?_)
  · refine g_lload 4 dX17_isWhole_112 rfl ?_
    refine g_lload 3 dX17_isWhole_114 rfl ?_
    refine g_callS (fc := fun sς => Mdl_isBelow sς x7 x5) (as := [jv x7, jv x5]) q4192 mdX17_827 (ctX17_isBelow x7 x5) rfl (Nat.le_of_ble_eq_true rfl) (Nat.le_of_ble_eq_true rfl) (Nat.le_of_ble_eq_true rfl) pu_I dX17_isWhole_116 (fun r4 σ3 => ?_)
    exact g_zreturnc rfl dX17_isWhole_119
  refine g_case hx (t := 120) (by decide +kernel) ?_ (fun hx => ?_)
  · refine g_lload_n 1 1 dX17_isWhole_120 rfl rfl ?_
    refine g_lload_n 3 2 dX17_isWhole_121 rfl rfl ?_
    refine g_lcmp_gt 130 dX17_isWhole_122 dX17_isWhole_123 (by decide) ?_ ?_
    · refine g_iconst (v := 0) dX17_isWhole_130 (by decide) ?_
      exact g_zreturn rfl (by decide +kernel) dX17_isWhole_131
    · refine g_iconst (v := 1) dX17_isWhole_126 (by decide) ?_
      refine g_goto 131 dX17_isWhole_127 (by decide) ?_
      exact g_zreturn rfl (by decide +kernel) dX17_isWhole_131
  refine g_case hx (t := 132) (by decide +kernel) ?_ (fun hx => ?_)
  · refine g_lload 4 dX17_isWhole_132 rfl ?_
    refine g_lload 3 dX17_isWhole_134 rfl ?_
    refine g_callS (fc := fun sς => Mdl_isBelow sς x7 x5) (as := [jv x7, jv x5]) q4192 mdX17_827 (ctX17_isBelow x7 x5) rfl (Nat.le_of_ble_eq_true rfl) (Nat.le_of_ble_eq_true rfl) (Nat.le_of_ble_eq_true rfl) pu_I dX17_isWhole_136 (fun r6 σ5 => ?_)
    refine g_if_ne 146 dX17_isWhole_139 (by decide) ?_ ?_
    · refine g_iconst (v := 0) dX17_isWhole_146 (by decide) ?_
      exact g_zreturn rfl (by decide +kernel) dX17_isWhole_147
    · refine g_iconst (v := 1) dX17_isWhole_142 (by decide) ?_
      refine g_goto 147 dX17_isWhole_143 (by decide) ?_
      exact g_zreturn rfl (by decide +kernel) dX17_isWhole_147
  refine g_case hx (t := 148) (by decide +kernel) ?_ (fun hx => ?_)
  · refine g_lload_n 1 1 dX17_isWhole_148 rfl rfl ?_
    refine g_lload_n 3 2 dX17_isWhole_149 rfl rfl ?_
    refine g_lcmp_lt 158 dX17_isWhole_150 dX17_isWhole_151 (by decide) ?_ ?_
    · refine g_iconst (v := 0) dX17_isWhole_158 (by decide) ?_
      exact g_zreturn rfl (by decide +kernel) dX17_isWhole_159
    · refine g_iconst (v := 1) dX17_isWhole_154 (by decide) ?_
      refine g_goto 159 dX17_isWhole_155 (by decide) ?_
      exact g_zreturn rfl (by decide +kernel) dX17_isWhole_159
  refine g_dflt (t := 160) (tswT_d (by decide +kernel) (by decide +kernel) hx) ?_
  refine g_lload 3 dX17_isWhole_160 rfl ?_
  refine g_lload 4 dX17_isWhole_162 rfl ?_
  refine g_callS (fc := fun sς => Mdl_isBelow sς x5 x7) (as := [jv x5, jv x7]) q4192 mdX17_827 (ctX17_isBelow x5 x7) rfl (Nat.le_of_ble_eq_true rfl) (Nat.le_of_ble_eq_true rfl) (Nat.le_of_ble_eq_true rfl) pu_I dX17_isWhole_164 (fun r8 σ7 => ?_)
  refine g_if_ne 174 dX17_isWhole_167 (by decide) ?_ ?_
  · refine g_iconst (v := 0) dX17_isWhole_174 (by decide) ?_
    exact g_zreturn rfl (by decide +kernel) dX17_isWhole_175
  · refine g_iconst (v := 1) dX17_isWhole_170 (by decide) ?_
    refine g_goto 175 dX17_isWhole_171 (by decide) ?_
    exact g_zreturn rfl (by decide +kernel) dX17_isWhole_175
theorem V.dX17_signOf_0 : decode cX17_signOf 0 = .ok (.lconst 1, 1) := by decide +kernel
theorem V.dX17_signOf_1 : decode cX17_signOf 1 = .ok (.iload_n 0, 1) := by decide +kernel
theorem V.dX17_signOf_2 : decode cX17_signOf 2 = .ok (.iconst 2, 1) := by decide +kernel
theorem V.dX17_signOf_3 : decode cX17_signOf 3 = .ok (.if_icmp .ne 8, 3) := by decide +kernel
theorem V.dX17_signOf_6 : decode cX17_signOf 6 = .ok (.bipush 31, 2) := by decide +kernel
theorem V.dX17_signOf_8 : decode cX17_signOf 8 = .ok (.goto 5, 3) := by decide +kernel
theorem V.dX17_signOf_11 : decode cX17_signOf 11 = .ok (.bipush 63, 2) := by decide +kernel
theorem V.dX17_signOf_13 : decode cX17_signOf 13 = .ok (.lshl, 1) := by decide +kernel
theorem V.dX17_signOf_14 : decode cX17_signOf 14 = .ok (.lreturn, 1) := by decide +kernel
/-! ModuleEngineModel.signOf(I)J -/
def V.Mdl_signOf_p13  (σ : HS) (s0 : Int32) (s1 : Int64) : Option (Int64 × HS) :=
  some (lshl s1 s0, σ)
theorem V.gX17_signOf_p13 {X : CX}  (σ : HS) (s0 : Int32) (s1 : Int64) : G X RX17 "signOf" cX17_signOf 1 (some .long) 0 0 enJ 13 [] [iv s0, jv s1] σ (Mdl_signOf_p13 σ s0 s1) := by
  unfold Mdl_signOf_p13
  refine g_lshl dX17_signOf_13 ?_
  exact g_lreturn rfl dX17_signOf_14
def V.Mdl_signOf (σ : HS) (x0 : Int32) : Option (Int64 × HS) :=
  if x0 = (2 : Int32) then (
    Mdl_signOf_p13 σ (31 : Int32) (1 : Int64))
  else (
    Mdl_signOf_p13 σ (63 : Int32) (1 : Int64))
theorem V.ctX17_signOf (x0 : Int32) : Ct yX17_signOf  cX17_signOf 1 (some .long) 0 0 eJ [iv x0] (fun σ => Mdl_signOf σ x0) := by
  refine Ct.of (own := RX17) (nm := "signOf") (desc := "(I)J") rfl (by decide) (Nat.le_of_ble_eq_true rfl) (by decide) (fun X σ => ?_)
  show G X RX17 "signOf" cX17_signOf 1 (some .long) 0 0 enJ 0 [(0, iv x0)] [] σ (Mdl_signOf σ x0)
  unfold Mdl_signOf
  refine g_lconst (v := 1) dX17_signOf_0 (by decide) ?_
  refine g_iload_n 0 0 dX17_signOf_1 rfl rfl ?_
  refine g_iconst (v := 2) dX17_signOf_2 (by decide) ?_
  refine g_icmp_ne 11 dX17_signOf_3 (by decide) ?_ ?_
  · refine g_bipush (v := 63) dX17_signOf_11 (by decide) ?_
    refine G.sub [] rfl ?_
    exact gX17_signOf_p13 _ _ _
  · refine g_bipush (v := 31) dX17_signOf_6 (by decide) ?_
    refine g_goto 13 dX17_signOf_8 (by decide) ?_
    refine G.sub [] rfl ?_
    exact gX17_signOf_p13 _ _ _
theorem V.dX17_order_0 : decode cX17_order 0 = .ok (.lload_n 1, 1) := by decide +kernel
theorem V.dX17_order_1 : decode cX17_order 1 = .ok (.iload_n 0, 1) := by decide +kernel
theorem V.dX17_order_2 : decode cX17_order 2 = .ok (.invokestatic 865, 3) := by decide +kernel
theorem V.dX17_order_5 : decode cX17_order 5 = .ok (.ldc2_w 268, 3) := by decide +kernel
theorem V.dX17_order_8 : decode cX17_order 8 = .ok (.lxor, 1) := by decide +kernel
theorem V.dX17_order_9 : decode cX17_order 9 = .ok (.land, 1) := by decide +kernel
theorem V.dX17_order_10 : decode cX17_order 10 = .ok (.lstore_n 3, 1) := by decide +kernel
theorem V.dX17_order_11 : decode cX17_order 11 = .ok (.lload_n 1, 1) := by decide +kernel
theorem V.dX17_order_12 : decode cX17_order 12 = .ok (.iload_n 0, 1) := by decide +kernel
theorem V.dX17_order_13 : decode cX17_order 13 = .ok (.invokestatic 865, 3) := by decide +kernel
theorem V.dX17_order_16 : decode cX17_order 16 = .ok (.land, 1) := by decide +kernel
theorem V.dX17_order_17 : decode cX17_order 17 = .ok (.lconst 0, 1) := by decide +kernel
theorem V.dX17_order_18 : decode cX17_order 18 = .ok (.lcmp, 1) := by decide +kernel
theorem V.dX17_order_19 : decode cX17_order 19 = .ok (.ifCond .eq 8, 3) := by decide +kernel
theorem V.dX17_order_22 : decode cX17_order 22 = .ok (.lload_n 3, 1) := by decide +kernel
theorem V.dX17_order_23 : decode cX17_order 23 = .ok (.lneg, 1) := by decide +kernel
theorem V.dX17_order_24 : decode cX17_order 24 = .ok (.goto 4, 3) := by decide +kernel
theorem V.dX17_order_27 : decode cX17_order 27 = .ok (.lload_n 3, 1) := by decide +kernel
theorem V.dX17_order_28 : decode cX17_order 28 = .ok (.lreturn, 1) := by decide +kernel
theorem V.mdX17_865 : MD RX17 865 yX17_signOf cX17_signOf 1 (some .long) 1 := ⟨Or.inl q4206, q377, q4208, by decide, by decide, by decide +kernel⟩
/-! ModuleEngineModel.order(IJ)J -/
def V.Mdl_order (σ : HS) (x0 : Int32) (x1 : Int64) : Option (Int64 × HS) :=
  cl (Mdl_signOf σ x0) fun r2 σ1 =>
  bn (x1 &&& (r2 ^^^ (-1 : Int64))) fun y3 =>
  cl (Mdl_signOf σ1 x0) fun r5 σ4 =>
  if (x1 &&& r5) = (0 : Int64) then (
    some (y3, σ4))
  else (
    some (-y3, σ4))
theorem V.ctX17_order (x0 : Int32) (x1 : Int64) : Ct yX17_order  cX17_order 5 (some .long) 1 20 eJ [iv x0, jv x1] (fun σ => Mdl_order σ x0 x1) := by
  refine Ct.of (own := RX17) (nm := "order") (desc := "(IJ)J") rfl (by decide) (Nat.le_of_ble_eq_true rfl) (by decide) (fun X σ => ?_)
  show G X RX17 "order" cX17_order 5 (some .long) 1 20 enJ 0 [(0, iv x0), (1, jv x1)] [] σ (Mdl_order σ x0 x1)
  unfold Mdl_order
  refine g_lload_n 1 1 dX17_order_0 rfl rfl ?_
  refine g_iload_n 0 0 dX17_order_1 rfl rfl ?_
  refine g_callS (fc := fun sς => Mdl_signOf sς x0) (as := [iv x0]) q4207 mdX17_865 (ctX17_signOf x0) rfl (Nat.le_of_ble_eq_true rfl) (Nat.le_of_ble_eq_true rfl) (Nat.le_of_ble_eq_true rfl) pu_J dX17_order_2 (fun r2 σ1 => ?_)
  refine g_ldc2 q3673 dX17_order_5 ?_
  refine g_lxor dX17_order_8 ?_
  refine g_land dX17_order_9 ?_
  refine g_nmJ (fun y3 => ?_)
  refine g_lstore_n 3 dX17_order_10 rfl (by decide) rfl ?_
  refine g_lload_n 1 2 dX17_order_11 rfl rfl ?_
  refine g_iload_n 0 1 dX17_order_12 rfl rfl ?_
  refine g_callS (fc := fun sς => Mdl_signOf sς x0) (as := [iv x0]) q4207 mdX17_865 (ctX17_signOf x0) rfl (Nat.le_of_ble_eq_true rfl) (Nat.le_of_ble_eq_true rfl) (Nat.le_of_ble_eq_true rfl) pu_J dX17_order_13 (fun r5 σ4 => ?_)
  refine g_land dX17_order_16 ?_
  refine g_lconst (v := 0) dX17_order_17 (by decide) ?_
  refine g_lcmp_eq 27 dX17_order_18 dX17_order_19 (by decide) ?_ ?_
  · refine g_lload_n 3 0 dX17_order_27 rfl rfl ?_
    exact g_lreturn rfl dX17_order_28
  · refine g_lload_n 3 0 dX17_order_22 rfl rfl ?_
    refine g_lneg dX17_order_23 ?_
    refine g_goto 28 dX17_order_24 (by decide) ?_
    exact g_lreturn rfl dX17_order_28
theorem V.dX17_isReal_0 : decode cX17_isReal 0 = .ok (.aload_n 0, 1) := by decide +kernel
theorem V.dX17_isReal_1 : decode cX17_isReal 1 = .ok (.getfield 61, 3) := by decide +kernel
theorem V.dX17_isReal_4 : decode cX17_isReal 4 = .ok (.iload_n 2, 1) := by decide +kernel
theorem V.dX17_isReal_5 : decode cX17_isReal 5 = .ok (.lload_n 3, 1) := by decide +kernel
theorem V.dX17_isReal_6 : decode cX17_isReal 6 = .ok (.invokevirtual 868, 3) := by decide +kernel
theorem V.dX17_isReal_9 : decode cX17_isReal 9 = .ok (.aload_n 0, 1) := by decide +kernel
theorem V.dX17_isReal_10 : decode cX17_isReal 10 = .ok (.getfield 65, 3) := by decide +kernel
theorem V.dX17_isReal_13 : decode cX17_isReal 13 = .ok (.iload_n 2, 1) := by decide +kernel
theorem V.dX17_isReal_14 : decode cX17_isReal 14 = .ok (.lload 5, 2) := by decide +kernel
theorem V.dX17_isReal_16 : decode cX17_isReal 16 = .ok (.invokevirtual 868, 3) := by decide +kernel
theorem V.dX17_isReal_19 : decode cX17_isReal 19 = .ok (.aload_n 0, 1) := by decide +kernel
theorem V.dX17_isReal_20 : decode cX17_isReal 20 = .ok (.getfield 61, 3) := by decide +kernel
theorem V.dX17_isReal_23 : decode cX17_isReal 23 = .ok (.getfield 871, 3) := by decide +kernel
theorem V.dX17_isReal_26 : decode cX17_isReal 26 = .ok (.iconst 3, 1) := by decide +kernel
theorem V.dX17_isReal_27 : decode cX17_isReal 27 = .ok (.if_icmp .eq 14, 3) := by decide +kernel
theorem V.dX17_isReal_30 : decode cX17_isReal 30 = .ok (.aload_n 0, 1) := by decide +kernel
theorem V.dX17_isReal_31 : decode cX17_isReal 31 = .ok (.getfield 65, 3) := by decide +kernel
theorem V.dX17_isReal_34 : decode cX17_isReal 34 = .ok (.getfield 871, 3) := by decide +kernel
theorem V.dX17_isReal_37 : decode cX17_isReal 37 = .ok (.iconst 3, 1) := by decide +kernel
theorem V.dX17_isReal_38 : decode cX17_isReal 38 = .ok (.if_icmp .ne 14, 3) := by decide +kernel
theorem V.dX17_isReal_41 : decode cX17_isReal 41 = .ok (.iload_n 1, 1) := by decide +kernel
theorem V.dX17_isReal_42 : decode cX17_isReal 42 = .ok (.iconst 1, 1) := by decide +kernel
theorem V.dX17_isReal_43 : decode cX17_isReal 43 = .ok (.if_icmp .ne 7, 3) := by decide +kernel
theorem V.dX17_isReal_46 : decode cX17_isReal 46 = .ok (.iconst 1, 1) := by decide +kernel
theorem V.dX17_isReal_47 : decode cX17_isReal 47 = .ok (.goto 4, 3) := by decide +kernel
theorem V.dX17_isReal_50 : decode cX17_isReal 50 = .ok (.iconst 0, 1) := by decide +kernel
theorem V.dX17_isReal_51 : decode cX17_isReal 51 = .ok (.ireturn, 1) := by decide +kernel
theorem V.dX17_isReal_52 : decode cX17_isReal 52 = .ok (.iload_n 2, 1) := by decide +kernel
theorem V.dX17_isReal_53 : decode cX17_isReal 53 = .ok (.lload_n 3, 1) := by decide +kernel
theorem V.dX17_isReal_54 : decode cX17_isReal 54 = .ok (.invokestatic 874, 3) := by decide +kernel
theorem V.dX17_isReal_57 : decode cX17_isReal 57 = .ok (.lstore 7, 2) := by decide +kernel
theorem V.dX17_isReal_59 : decode cX17_isReal 59 = .ok (.iload_n 2, 1) := by decide +kernel
theorem V.dX17_isReal_60 : decode cX17_isReal 60 = .ok (.lload 5, 2) := by decide +kernel
theorem V.dX17_isReal_62 : decode cX17_isReal 62 = .ok (.invokestatic 874, 3) := by decide +kernel
theorem V.dX17_isReal_65 : decode cX17_isReal 65 = .ok (.lstore 9, 2) := by decide +kernel
theorem V.dX17_isReal_67 : decode cX17_isReal 67 = .ok (.iload_n 1, 1) := by decide +kernel
theorem V.dX17_isReal_68 : decode cX17_isReal 68 = .ok (.ifCond .ne 19, 3) := by decide +kernel
theorem V.dX17_isReal_71 : decode cX17_isReal 71 = .ok (.lload 7, 2) := by decide +kernel
theorem V.dX17_isReal_73 : decode cX17_isReal 73 = .ok (.lload 9, 2) := by decide +kernel
theorem V.dX17_isReal_75 : decode cX17_isReal 75 = .ok (.lcmp, 1) := by decide +kernel
theorem V.dX17_isReal_76 : decode cX17_isReal 76 = .ok (.ifCond .ne 7, 3) := by decide +kernel
theorem V.dX17_isReal_79 : decode cX17_isReal 79 = .ok (.iconst 1, 1) := by decide +kernel
theorem V.dX17_isReal_80 : decode cX17_isReal 80 = .ok (.goto 104, 3) := by decide +kernel
theorem V.dX17_isReal_83 : decode cX17_isReal 83 = .ok (.iconst 0, 1) := by decide +kernel
theorem V.dX17_isReal_84 : decode cX17_isReal 84 = .ok (.goto 100, 3) := by decide +kernel
theorem V.dX17_isReal_87 : decode cX17_isReal 87 = .ok (.iload_n 1, 1) := by decide +kernel
theorem V.dX17_isReal_88 : decode cX17_isReal 88 = .ok (.iconst 1, 1) := by decide +kernel
theorem V.dX17_isReal_89 : decode cX17_isReal 89 = .ok (.if_icmp .ne 19, 3) := by decide +kernel
theorem V.dX17_isReal_92 : decode cX17_isReal 92 = .ok (.lload 7, 2) := by decide +kernel
theorem V.dX17_isReal_94 : decode cX17_isReal 94 = .ok (.lload 9, 2) := by decide +kernel
theorem V.dX17_isReal_96 : decode cX17_isReal 96 = .ok (.lcmp, 1) := by decide +kernel
theorem V.dX17_isReal_97 : decode cX17_isReal 97 = .ok (.ifCond .eq 7, 3) := by decide +kernel
theorem V.dX17_isReal_100 : decode cX17_isReal 100 = .ok (.iconst 1, 1) := by decide +kernel
theorem V.dX17_isReal_101 : decode cX17_isReal 101 = .ok (.goto 83, 3) := by decide +kernel
theorem V.dX17_isReal_104 : decode cX17_isReal 104 = .ok (.iconst 0, 1) := by decide +kernel
theorem V.dX17_isReal_105 : decode cX17_isReal 105 = .ok (.goto 79, 3) := by decide +kernel
theorem V.dX17_isReal_108 : decode cX17_isReal 108 = .ok (.iload_n 1, 1) := by decide +kernel
theorem V.dX17_isReal_109 : decode cX17_isReal 109 = .ok (.iconst 2, 1) := by decide +kernel
theorem V.dX17_isReal_110 : decode cX17_isReal 110 = .ok (.if_icmp .ne 19, 3) := by decide +kernel
theorem V.dX17_isReal_113 : decode cX17_isReal 113 = .ok (.lload 7, 2) := by decide +kernel
theorem V.dX17_isReal_115 : decode cX17_isReal 115 = .ok (.lload 9, 2) := by decide +kernel
theorem V.dX17_isReal_117 : decode cX17_isReal 117 = .ok (.lcmp, 1) := by decide +kernel
theorem V.dX17_isReal_118 : decode cX17_isReal 118 = .ok (.ifCond .ge 7, 3) := by decide +kernel
theorem V.dX17_isReal_121 : decode cX17_isReal 121 = .ok (.iconst 1, 1) := by decide +kernel
theorem V.dX17_isReal_122 : decode cX17_isReal 122 = .ok (.goto 62, 3) := by decide +kernel
theorem V.dX17_isReal_125 : decode cX17_isReal 125 = .ok (.iconst 0, 1) := by decide +kernel
theorem V.dX17_isReal_126 : decode cX17_isReal 126 = .ok (.goto 58, 3) := by decide +kernel
theorem V.dX17_isReal_129 : decode cX17_isReal 129 = .ok (.iload_n 1, 1) := by decide +kernel
theorem V.dX17_isReal_130 : decode cX17_isReal 130 = .ok (.iconst 3, 1) := by decide +kernel
theorem V.dX17_isReal_131 : decode cX17_isReal 131 = .ok (.if_icmp .ne 19, 3) := by decide +kernel
theorem V.dX17_isReal_134 : decode cX17_isReal 134 = .ok (.lload 7, 2) := by decide +kernel
theorem V.dX17_isReal_136 : decode cX17_isReal 136 = .ok (.lload 9, 2) := by decide +kernel
theorem V.dX17_isReal_138 : decode cX17_isReal 138 = .ok (.lcmp, 1) := by decide +kernel
theorem V.dX17_isReal_139 : decode cX17_isReal 139 = .ok (.ifCond .le 7, 3) := by decide +kernel
theorem V.dX17_isReal_142 : decode cX17_isReal 142 = .ok (.iconst 1, 1) := by decide +kernel
theorem V.dX17_isReal_143 : decode cX17_isReal 143 = .ok (.goto 41, 3) := by decide +kernel
theorem V.dX17_isReal_146 : decode cX17_isReal 146 = .ok (.iconst 0, 1) := by decide +kernel
theorem V.dX17_isReal_147 : decode cX17_isReal 147 = .ok (.goto 37, 3) := by decide +kernel
theorem V.dX17_isReal_150 : decode cX17_isReal 150 = .ok (.iload_n 1, 1) := by decide +kernel
theorem V.dX17_isReal_151 : decode cX17_isReal 151 = .ok (.iconst 4, 1) := by decide +kernel
theorem V.dX17_isReal_152 : decode cX17_isReal 152 = .ok (.if_icmp .ne 19, 3) := by decide +kernel
theorem V.dX17_isReal_155 : decode cX17_isReal 155 = .ok (.lload 7, 2) := by decide +kernel
theorem V.dX17_isReal_157 : decode cX17_isReal 157 = .ok (.lload 9, 2) := by decide +kernel
theorem V.dX17_isReal_159 : decode cX17_isReal 159 = .ok (.lcmp, 1) := by decide +kernel
theorem V.dX17_isReal_160 : decode cX17_isReal 160 = .ok (.ifCond .gt 7, 3) := by decide +kernel
theorem V.dX17_isReal_163 : decode cX17_isReal 163 = .ok (.iconst 1, 1) := by decide +kernel
theorem V.dX17_isReal_164 : decode cX17_isReal 164 = .ok (.goto 20, 3) := by decide +kernel
theorem V.dX17_isReal_167 : decode cX17_isReal 167 = .ok (.iconst 0, 1) := by decide +kernel
theorem V.dX17_isReal_168 : decode cX17_isReal 168 = .ok (.goto 16, 3) := by decide +kernel
theorem V.dX17_isReal_171 : decode cX17_isReal 171 = .ok (.lload 7, 2) := by decide +kernel
theorem V.dX17_isReal_173 : decode cX17_isReal 173 = .ok (.lload 9, 2) := by decide +kernel
theorem V.dX17_isReal_175 : decode cX17_isReal 175 = .ok (.lcmp, 1) := by decide +kernel
theorem V.dX17_isReal_176 : decode cX17_isReal 176 = .ok (.ifCond .lt 7, 3) := by decide +kernel
theorem V.dX17_isReal_179 : decode cX17_isReal 179 = .ok (.iconst 1, 1) := by decide +kernel
theorem V.dX17_isReal_180 : decode cX17_isReal 180 = .ok (.goto 4, 3) := by decide +kernel
theorem V.dX17_isReal_183 : decode cX17_isReal 183 = .ok (.iconst 0, 1) := by decide +kernel
theorem V.dX17_isReal_184 : decode cX17_isReal 184 = .ok (.ireturn, 1) := by decide +kernel
theorem V.fdX17_61 : FD RX17 61 17 34 2 := ⟨(RX17, TX17, 101), tyX17, rfl, rfl, in_X17, by decide, Or.inl q3070, rfl⟩
theorem V.mdX17_868 : MD RX17 868 yX19_read cX19_read 9 none 2 := ⟨Or.inl q4199, q382, q4202, by decide, by decide, by decide +kernel⟩
theorem V.fdX17_65 : FD RX17 65 17 35 2 := ⟨(RX17, TX17, 101), tyX17, rfl, rfl, in_X17, by decide, Or.inl q3071, rfl⟩
theorem V.fdX17_871 : FD RX17 871 19 1 0 := ⟨(RX19, TX19, 4), tyX19, rfl, rfl, in_X19, by decide, Or.inr ⟨_, q3019⟩, rfl⟩
theorem V.mdX17_874 : MD RX17 874 yX17_order cX17_order 5 (some .long) 2 := ⟨Or.inl q4203, q377, q4205, by decide, by decide, by decide +kernel⟩
/-! ModuleEngineModel.isReal(IIJJ)Z -/
def V.Mdl_isReal_p41  (σ : HS) (x1 : Int32) : Option (Int32 × HS) :=
  if x1 = (1 : Int32) then (
    some ((1 : Int32), σ))
  else (
    some ((0 : Int32), σ))
theorem V.gX17_isReal_p41 {X : CX}  (σ : HS) (x1 : Int32) : G X RX17 "isReal" cX17_isReal 11 (some .boolean) 2 44 enI 41 [(1, iv x1)] [] σ (Mdl_isReal_p41 σ x1) := by
  unfold Mdl_isReal_p41
  refine g_iload_n 1 0 dX17_isReal_41 rfl rfl ?_
  refine g_iconst (v := 1) dX17_isReal_42 (by decide) ?_
  refine g_icmp_ne 50 dX17_isReal_43 (by decide) ?_ ?_
  · refine g_iconst (v := 0) dX17_isReal_50 (by decide) ?_
    exact g_zreturn rfl (by decide +kernel) dX17_isReal_51
  · refine g_iconst (v := 1) dX17_isReal_46 (by decide) ?_
    refine g_goto 51 dX17_isReal_47 (by decide) ?_
    exact g_zreturn rfl (by decide +kernel) dX17_isReal_51
def V.Mdl_isReal (σ : HS) (x0 : Nat) (x1 : Int32) (x2 : Int32) (x3 : Int64) (x5 : Int64) : Option (Int32 × HS) :=
  ck (tg σ x0 = 18) <|
  ck (tg σ (gR σ x0 34) = 20) <| cl (Rea_read σ (gR σ x0 34) x2 x3) fun _ σ1 =>
  ck (tg σ1 x0 = 18) <|
  ck (tg σ1 (gR σ1 x0 35) = 20) <| cl (Rea_read σ1 (gR σ1 x0 35) x2 x5) fun _ σ2 =>
  ck (tg σ2 x0 = 18) <|
  ck (tg σ2 (gR σ2 x0 34) = 20) <|
  if (gI σ2 (gR σ2 x0 34) 1) = (3 : Int32) then (
    Mdl_isReal_p41 σ2 x1)
  else (
    ck (tg σ2 x0 = 18) <|
    ck (tg σ2 (gR σ2 x0 35) = 20) <|
    if (gI σ2 (gR σ2 x0 35) 1) = (3 : Int32) then (
      Mdl_isReal_p41 σ2 x1)
    else (
      cl (Mdl_order σ2 x2 x3) fun r4 σ3 =>
      cl (Mdl_order σ3 x2 x5) fun r6 σ5 =>
      if x1 = 0 then (
        if r4 = r6 then (
          some ((1 : Int32), σ5))
        else (
          some ((0 : Int32), σ5)))
      else (
        if x1 = (1 : Int32) then (
          if r4 = r6 then (
            some ((0 : Int32), σ5))
          else (
            some ((1 : Int32), σ5)))
        else (
          if x1 = (2 : Int32) then (
            if r6 ≤ r4 then (
              some ((0 : Int32), σ5))
            else (
              some ((1 : Int32), σ5)))
          else (
            if x1 = (3 : Int32) then (
              if r4 ≤ r6 then (
                some ((0 : Int32), σ5))
              else (
                some ((1 : Int32), σ5)))
            else (
              if x1 = (4 : Int32) then (
                if r6 < r4 then (
                  some ((0 : Int32), σ5))
                else (
                  some ((1 : Int32), σ5)))
              else (
                if r4 < r6 then (
                  some ((0 : Int32), σ5))
                else (
                  some ((1 : Int32), σ5)))))))))
theorem V.ctX17_isReal (x0 : Nat) (x1 : Int32) (x2 : Int32) (x3 : Int64) (x5 : Int64) : Ct yX17_isReal  cX17_isReal 11 (some .boolean) 2 44 eI [av x0, iv x1, iv x2, jv x3, jv x5] (fun σ => Mdl_isReal σ x0 x1 x2 x3 x5) := by
  refine Ct.of (own := RX17) (nm := "isReal") (desc := "(IIJJ)Z") rfl (by decide) (Nat.le_of_ble_eq_true rfl) (by decide) (fun X σ => ?_)
  show G X RX17 "isReal" cX17_isReal 11 (some .boolean) 2 44 enI 0 [(0, av x0), (1, iv x1), (2, iv x2), (3, jv x3), (5, jv x5)] [] σ (Mdl_isReal σ x0 x1 x2 x3 x5)
  unfold Mdl_isReal
  refine g_aload_n 0 0 dX17_isReal_0 rfl rfl ?_
  refine g_getR fdX17_61 dX17_isReal_1 ?_
  refine g_iload_n 2 2 dX17_isReal_4 rfl rfl ?_
  refine g_lload_n 3 3 dX17_isReal_5 rfl rfl ?_
  refine g_callV (fc := fun sς => Rea_read sς (gR σ x0 34) x2 x3) (ci := 19) (as := [iv x2, jv x3]) rfl rfl rfl q4200 q4201 mdX17_868 (ctX19_read (gR σ x0 34) x2 x3) rfl (Nat.le_of_ble_eq_true rfl) (Nat.le_of_ble_eq_true rfl) (Nat.le_of_ble_eq_true rfl) pu_V dX17_isReal_6 (fun _ σ1 => ?_)
  refine g_aload_n 0 0 dX17_isReal_9 rfl rfl ?_
  refine g_getR fdX17_65 dX17_isReal_10 ?_
  refine g_iload_n 2 2 dX17_isReal_13 rfl rfl ?_
  refine g_lload 4 dX17_isReal_14 rfl ?_
  refine g_callV (fc := fun sς => Rea_read sς (gR σ1 x0 35) x2 x5) (ci := 19) (as := [iv x2, jv x5]) rfl rfl rfl q4200 q4201 mdX17_868 (ctX19_read (gR σ1 x0 35) x2 x5) rfl (Nat.le_of_ble_eq_true rfl) (Nat.le_of_ble_eq_true rfl) (Nat.le_of_ble_eq_true rfl) pu_V dX17_isReal_16 (fun _ σ2 => ?_)
  refine g_aload_n 0 0 dX17_isReal_19 rfl rfl ?_
  refine g_getR fdX17_61 dX17_isReal_20 ?_
  refine g_getI fdX17_871 dX17_isReal_23 ?_
  refine g_iconst (v := 3) dX17_isReal_26 (by decide) ?_
  refine g_icmp_eq 41 dX17_isReal_27 (by decide) ?_ ?_
  · refine G.sub [1] rfl ?_
    exact gX17_isReal_p41 _ _
  · refine g_aload_n 0 0 dX17_isReal_30 rfl rfl ?_
    refine g_getR fdX17_65 dX17_isReal_31 ?_
    refine g_getI fdX17_871 dX17_isReal_34 ?_
    refine g_iconst (v := 3) dX17_isReal_37 (by decide) ?_
    refine g_icmp_ne 52 dX17_isReal_38 (by decide) ?_ ?_
    · refine g_iload_n 2 2 dX17_isReal_52 rfl rfl ?_
      refine g_lload_n 3 3 dX17_isReal_53 rfl rfl ?_
      refine g_callS (fc := fun sς => Mdl_order sς x2 x3) (as := [iv x2, jv x3]) q4204 mdX17_874 (ctX17_order x2 x3) rfl (Nat.le_of_ble_eq_true rfl) (Nat.le_of_ble_eq_true rfl) (Nat.le_of_ble_eq_true rfl) pu_J dX17_isReal_54 (fun r4 σ3 => ?_)
      refine g_lstore dX17_isReal_57 (by decide) rfl ?_
      refine g_iload_n 2 3 dX17_isReal_59 rfl rfl ?_
      refine g_lload 5 dX17_isReal_60 rfl ?_
      refine g_callS (fc := fun sς => Mdl_order sς x2 x5) (as := [iv x2, jv x5]) q4204 mdX17_874 (ctX17_order x2 x5) rfl (Nat.le_of_ble_eq_true rfl) (Nat.le_of_ble_eq_true rfl) (Nat.le_of_ble_eq_true rfl) pu_J dX17_isReal_62 (fun r6 σ5 => ?_)
      refine g_lstore dX17_isReal_65 (by decide) rfl ?_
      refine g_iload_n 1 3 dX17_isReal_67 rfl rfl ?_
      refine g_if_ne 87 dX17_isReal_68 (by decide) ?_ ?_
      · refine g_iload_n 1 3 dX17_isReal_87 rfl rfl ?_
        refine g_iconst (v := 1) dX17_isReal_88 (by decide) ?_
        refine g_icmp_ne 108 dX17_isReal_89 (by decide) ?_ ?_
        · refine g_iload_n 1 3 dX17_isReal_108 rfl rfl ?_
          refine g_iconst (v := 2) dX17_isReal_109 (by decide) ?_
          refine g_icmp_ne 129 dX17_isReal_110 (by decide) ?_ ?_
          · refine g_iload_n 1 3 dX17_isReal_129 rfl rfl ?_
            refine g_iconst (v := 3) dX17_isReal_130 (by decide) ?_
            refine g_icmp_ne 150 dX17_isReal_131 (by decide) ?_ ?_
            · refine g_iload_n 1 3 dX17_isReal_150 rfl rfl ?_
              refine g_iconst (v := 4) dX17_isReal_151 (by decide) ?_
              refine g_icmp_ne 171 dX17_isReal_152 (by decide) ?_ ?_
              · refine g_lload 1 dX17_isReal_171 rfl ?_
                refine g_lload 0 dX17_isReal_173 rfl ?_
                refine g_lcmp_lt 183 dX17_isReal_175 dX17_isReal_176 (by decide) ?_ ?_
                · refine g_iconst (v := 0) dX17_isReal_183 (by decide) ?_
                  exact g_zreturn rfl (by decide +kernel) dX17_isReal_184
                · refine g_iconst (v := 1) dX17_isReal_179 (by decide) ?_
                  refine g_goto 184 dX17_isReal_180 (by decide) ?_
                  exact g_zreturn rfl (by decide +kernel) dX17_isReal_184
              · refine g_lload 1 dX17_isReal_155 rfl ?_
                refine g_lload 0 dX17_isReal_157 rfl ?_
                refine g_lcmp_gt 167 dX17_isReal_159 dX17_isReal_160 (by decide) ?_ ?_
                · refine g_iconst (v := 0) dX17_isReal_167 (by decide) ?_
                  refine g_goto 184 dX17_isReal_168 (by decide) ?_
                  exact g_zreturn rfl (by decide +kernel) dX17_isReal_184
                · refine g_iconst (v := 1) dX17_isReal_163 (by decide) ?_
                  refine g_goto 184 dX17_isReal_164 (by decide) ?_
                  exact g_zreturn rfl (by decide +kernel) dX17_isReal_184
            · refine g_lload 1 dX17_isReal_134 rfl ?_
              refine g_lload 0 dX17_isReal_136 rfl ?_
              refine g_lcmp_le 146 dX17_isReal_138 dX17_isReal_139 (by decide) ?_ ?_
              · refine g_iconst (v := 0) dX17_isReal_146 (by decide) ?_
                refine g_goto 184 dX17_isReal_147 (by decide) ?_
                exact g_zreturn rfl (by decide +kernel) dX17_isReal_184
              · refine g_iconst (v := 1) dX17_isReal_142 (by decide) ?_
                refine g_goto 184 dX17_isReal_143 (by decide) ?_
                exact g_zreturn rfl (by decide +kernel) dX17_isReal_184
          · refine g_lload 1 dX17_isReal_113 rfl ?_
            refine g_lload 0 dX17_isReal_115 rfl ?_
            refine g_lcmp_ge 125 dX17_isReal_117 dX17_isReal_118 (by decide) ?_ ?_
            · refine g_iconst (v := 0) dX17_isReal_125 (by decide) ?_
              refine g_goto 184 dX17_isReal_126 (by decide) ?_
              exact g_zreturn rfl (by decide +kernel) dX17_isReal_184
            · refine g_iconst (v := 1) dX17_isReal_121 (by decide) ?_
              refine g_goto 184 dX17_isReal_122 (by decide) ?_
              exact g_zreturn rfl (by decide +kernel) dX17_isReal_184
        · refine g_lload 1 dX17_isReal_92 rfl ?_
          refine g_lload 0 dX17_isReal_94 rfl ?_
          refine g_lcmp_eq 104 dX17_isReal_96 dX17_isReal_97 (by decide) ?_ ?_
          · refine g_iconst (v := 0) dX17_isReal_104 (by decide) ?_
            refine g_goto 184 dX17_isReal_105 (by decide) ?_
            exact g_zreturn rfl (by decide +kernel) dX17_isReal_184
          · refine g_iconst (v := 1) dX17_isReal_100 (by decide) ?_
            refine g_goto 184 dX17_isReal_101 (by decide) ?_
            exact g_zreturn rfl (by decide +kernel) dX17_isReal_184
      · refine g_lload 1 dX17_isReal_71 rfl ?_
        refine g_lload 0 dX17_isReal_73 rfl ?_
        refine g_lcmp_ne 83 dX17_isReal_75 dX17_isReal_76 (by decide) ?_ ?_
        · refine g_iconst (v := 0) dX17_isReal_83 (by decide) ?_
          refine g_goto 184 dX17_isReal_84 (by decide) ?_
          exact g_zreturn rfl (by decide +kernel) dX17_isReal_184
        · refine g_iconst (v := 1) dX17_isReal_79 (by decide) ?_
          refine g_goto 184 dX17_isReal_80 (by decide) ?_
          exact g_zreturn rfl (by decide +kernel) dX17_isReal_184
    · refine G.sub [1] rfl ?_
      exact gX17_isReal_p41 _ _
theorem V.dX17_zeros_0 : decode cX17_zeros 0 = .ok (.iconst 0, 1) := by decide +kernel
theorem V.dX17_zeros_1 : decode cX17_zeros 1 = .ok (.istore 4, 2) := by decide +kernel
theorem V.dX17_zeros_3 : decode cX17_zeros 3 = .ok (.iload 4, 2) := by decide +kernel
theorem V.dX17_zeros_5 : decode cX17_zeros 5 = .ok (.iload_n 2, 1) := by decide +kernel
theorem V.dX17_zeros_6 : decode cX17_zeros 6 = .ok (.if_icmp .ge 33, 3) := by decide +kernel
theorem V.dX17_zeros_9 : decode cX17_zeros 9 = .ok (.lload_n 0, 1) := by decide +kernel
theorem V.dX17_zeros_10 : decode cX17_zeros 10 = .ok (.iload_n 3, 1) := by decide +kernel
theorem V.dX17_zeros_11 : decode cX17_zeros 11 = .ok (.ifCond .eq 12, 3) := by decide +kernel
theorem V.dX17_zeros_14 : decode cX17_zeros 14 = .ok (.iload_n 2, 1) := by decide +kernel
theorem V.dX17_zeros_15 : decode cX17_zeros 15 = .ok (.iconst 1, 1) := by decide +kernel
theorem V.dX17_zeros_16 : decode cX17_zeros 16 = .ok (.isub, 1) := by decide +kernel
theorem V.dX17_zeros_17 : decode cX17_zeros 17 = .ok (.iload 4, 2) := by decide +kernel
theorem V.dX17_zeros_19 : decode cX17_zeros 19 = .ok (.isub, 1) := by decide +kernel
theorem V.dX17_zeros_20 : decode cX17_zeros 20 = .ok (.goto 5, 3) := by decide +kernel
theorem V.dX17_zeros_23 : decode cX17_zeros 23 = .ok (.iload 4, 2) := by decide +kernel
theorem V.dX17_zeros_25 : decode cX17_zeros 25 = .ok (.lushr, 1) := by decide +kernel
theorem V.dX17_zeros_26 : decode cX17_zeros 26 = .ok (.lconst 1, 1) := by decide +kernel
theorem V.dX17_zeros_27 : decode cX17_zeros 27 = .ok (.land, 1) := by decide +kernel
theorem V.dX17_zeros_28 : decode cX17_zeros 28 = .ok (.lconst 0, 1) := by decide +kernel
theorem V.dX17_zeros_29 : decode cX17_zeros 29 = .ok (.lcmp, 1) := by decide +kernel
theorem V.dX17_zeros_30 : decode cX17_zeros 30 = .ok (.ifCond .ne 9, 3) := by decide +kernel
theorem V.dX17_zeros_33 : decode cX17_zeros 33 = .ok (.iinc 4 1, 3) := by decide +kernel
theorem V.dX17_zeros_36 : decode cX17_zeros 36 = .ok (.goto (-33), 3) := by decide +kernel
theorem V.dX17_zeros_39 : decode cX17_zeros 39 = .ok (.iload 4, 2) := by decide +kernel
theorem V.dX17_zeros_41 : decode cX17_zeros 41 = .ok (.ireturn, 1) := by decide +kernel
/-! ModuleEngineModel.zeros(JIZ)I -/
def V.Mdl_zeros_p25 (rec3 : HS → Int64 → Int32 → Int32 → Int32 → Option (Int32 × HS)) (σ : HS) (x0 : Int64) (x2 : Int32) (x3 : Int32) (x4 : Int32) (s0 : Int32) (s1 : Int64) : Option (Int32 × HS) :=
  if ((lushr s1 s0) &&& (1 : Int64)) = (0 : Int64) then (
    bn (x4 + (1 : Int32)) fun y1 =>
    rec3 σ x0 x2 x3 y1)
  else (
    some (x4, σ))
theorem V.gX17_zeros_p25 {X : CX} (rec3 : HS → Int64 → Int32 → Int32 → Int32 → Option (Int32 × HS)) (hrec3 : ∀ (σ : HS) (x0 : Int64) (x2 : Int32) (x3 : Int32) (x4 : Int32), G X RX17 "zeros" cX17_zeros 5 (some .int) 0 0 enI 3 [(0, jv x0), (2, iv x2), (3, iv x3), (4, iv x4)] [] σ (rec3 σ x0 x2 x3 x4)) (σ : HS) (x0 : Int64) (x2 : Int32) (x3 : Int32) (x4 : Int32) (s0 : Int32) (s1 : Int64) : G X RX17 "zeros" cX17_zeros 5 (some .int) 0 0 enI 25 [(0, jv x0), (2, iv x2), (3, iv x3), (4, iv x4)] [iv s0, jv s1] σ (Mdl_zeros_p25 rec3 σ x0 x2 x3 x4 s0 s1) := by
  unfold Mdl_zeros_p25
  refine g_lushr dX17_zeros_25 ?_
  refine g_lconst (v := 1) dX17_zeros_26 (by decide) ?_
  refine g_land dX17_zeros_27 ?_
  refine g_lconst (v := 0) dX17_zeros_28 (by decide) ?_
  refine g_lcmp_ne 39 dX17_zeros_29 dX17_zeros_30 (by decide) ?_ ?_
  · refine g_iload 3 dX17_zeros_39 rfl ?_
    exact g_ireturn rfl dX17_zeros_41
  · refine g_iincB (w := 1) 3 dX17_zeros_33 rfl (by decide) (by decide) (fun _ => rfl) (fun y1 => ?_)
    refine g_goto 3 dX17_zeros_36 (by decide) ?_
    refine G.sub [1, 2, 3, 0] rfl ?_
    exact hrec3 _ _ _ _ _
def V.Mdl_zeros_p3  : Nat → HS → Int64 → Int32 → Int32 → Int32 → Option (Int32 × HS)
  | 0, _, _, _, _, _ => none
  | n + 1, σ, x0, x2, x3, x4 =>
    if x2 ≤ x4 then (
      some (x4, σ))
    else (
      if x3 = 0 then (
        Mdl_zeros_p25 (Mdl_zeros_p3 n) σ x0 x2 x3 x4 x4 x0)
      else (
        Mdl_zeros_p25 (Mdl_zeros_p3 n) σ x0 x2 x3 x4 ((x2 - (1 : Int32)) - x4) x0))
theorem V.gX17_zeros_p3 {X : CX}  : ∀ (n : Nat) (σ : HS) (x0 : Int64) (x2 : Int32) (x3 : Int32) (x4 : Int32), G X RX17 "zeros" cX17_zeros 5 (some .int) 0 0 enI 3 [(0, jv x0), (2, iv x2), (3, iv x3), (4, iv x4)] [] σ (Mdl_zeros_p3 n σ x0 x2 x3 x4)
  | 0, σ, x0, x2, x3, x4 => by rw [Mdl_zeros_p3]; exact G.nul
  | n + 1, σ, x0, x2, x3, x4 => by
    rw [Mdl_zeros_p3]
    refine g_iload 3 dX17_zeros_3 rfl ?_
    refine g_iload_n 2 1 dX17_zeros_5 rfl rfl ?_
    refine g_icmp_ge 39 dX17_zeros_6 (by decide) ?_ ?_
    · refine g_iload 3 dX17_zeros_39 rfl ?_
      exact g_ireturn rfl dX17_zeros_41
    · refine g_lload_n 0 0 dX17_zeros_9 rfl rfl ?_
      refine g_iload_n 3 2 dX17_zeros_10 rfl rfl ?_
      refine g_if_eq 23 dX17_zeros_11 (by decide) ?_ ?_
      · refine g_iload 3 dX17_zeros_23 rfl ?_
        exact gX17_zeros_p25 (Mdl_zeros_p3 n) (gX17_zeros_p3 n) _ _ _ _ _ _ _
      · refine g_iload_n 2 1 dX17_zeros_14 rfl rfl ?_
        refine g_iconst (v := 1) dX17_zeros_15 (by decide) ?_
        refine g_isub dX17_zeros_16 ?_
        refine g_iload 3 dX17_zeros_17 rfl ?_
        refine g_isub dX17_zeros_19 ?_
        refine g_goto 25 dX17_zeros_20 (by decide) ?_
        exact gX17_zeros_p25 (Mdl_zeros_p3 n) (gX17_zeros_p3 n) _ _ _ _ _ _ _
def V.Mdl_zeros (σ : HS) (x0 : Int64) (x2 : Int32) (x3 : Int32) : Option (Int32 × HS) :=
  Mdl_zeros_p3 FU σ x0 x2 x3 (0 : Int32)
theorem V.ctX17_zeros (x0 : Int64) (x2 : Int32) (x3 : Int32) : Ct yX17_zeros  cX17_zeros 5 (some .int) 0 0 eI [jv x0, iv x2, iv x3] (fun σ => Mdl_zeros σ x0 x2 x3) := by
  refine Ct.of (own := RX17) (nm := "zeros") (desc := "(JIZ)I") rfl (by decide) (Nat.le_of_ble_eq_true rfl) (by decide) (fun X σ => ?_)
  show G X RX17 "zeros" cX17_zeros 5 (some .int) 0 0 enI 0 [(0, jv x0), (2, iv x2), (3, iv x3)] [] σ (Mdl_zeros σ x0 x2 x3)
  unfold Mdl_zeros
  refine g_iconst (v := 0) dX17_zeros_0 (by decide) ?_
  refine g_istore dX17_zeros_1 (by decide) rfl ?_
  refine G.sub [1, 2, 3, 0] rfl ?_
  exact gX17_zeros_p3 FU _ _ _ _ _
theorem V.dX17_ones_0 : decode cX17_ones 0 = .ok (.iconst 0, 1) := by decide +kernel
theorem V.dX17_ones_1 : decode cX17_ones 1 = .ok (.istore_n 2, 1) := by decide +kernel
theorem V.dX17_ones_2 : decode cX17_ones 2 = .ok (.iconst 0, 1) := by decide +kernel
theorem V.dX17_ones_3 : decode cX17_ones 3 = .ok (.istore_n 3, 1) := by decide +kernel
theorem V.dX17_ones_4 : decode cX17_ones 4 = .ok (.iload_n 3, 1) := by decide +kernel
theorem V.dX17_ones_5 : decode cX17_ones 5 = .ok (.bipush 64, 2) := by decide +kernel
theorem V.dX17_ones_7 : decode cX17_ones 7 = .ok (.if_icmp .ge 18, 3) := by decide +kernel
theorem V.dX17_ones_10 : decode cX17_ones 10 = .ok (.iload_n 2, 1) := by decide +kernel
theorem V.dX17_ones_11 : decode cX17_ones 11 = .ok (.lload_n 0, 1) := by decide +kernel
theorem V.dX17_ones_12 : decode cX17_ones 12 = .ok (.iload_n 3, 1) := by decide +kernel
theorem V.dX17_ones_13 : decode cX17_ones 13 = .ok (.lushr, 1) := by decide +kernel
theorem V.dX17_ones_14 : decode cX17_ones 14 = .ok (.lconst 1, 1) := by decide +kernel
theorem V.dX17_ones_15 : decode cX17_ones 15 = .ok (.land, 1) := by decide +kernel
theorem V.dX17_ones_16 : decode cX17_ones 16 = .ok (.l2i, 1) := by decide +kernel
theorem V.dX17_ones_17 : decode cX17_ones 17 = .ok (.iadd, 1) := by decide +kernel
theorem V.dX17_ones_18 : decode cX17_ones 18 = .ok (.istore_n 2, 1) := by decide +kernel
theorem V.dX17_ones_19 : decode cX17_ones 19 = .ok (.iinc 3 1, 3) := by decide +kernel
theorem V.dX17_ones_22 : decode cX17_ones 22 = .ok (.goto (-18), 3) := by decide +kernel
theorem V.dX17_ones_25 : decode cX17_ones 25 = .ok (.iload_n 2, 1) := by decide +kernel
theorem V.dX17_ones_26 : decode cX17_ones 26 = .ok (.ireturn, 1) := by decide +kernel
/-! ModuleEngineModel.ones(J)I -/
def V.Mdl_ones_p4  : Nat → HS → Int64 → Int32 → Int32 → Option (Int32 × HS)
  | 0, _, _, _, _ => none
  | n + 1, σ, x0, x2, x3 =>
    if (64 : Int32) ≤ x3 then (
      some (x2, σ))
    else (
      bn (x2 + (((lushr x0 x3) &&& (1 : Int64)).toInt32)) fun y1 =>
      bn (x3 + (1 : Int32)) fun y2 =>
      Mdl_ones_p4 n σ x0 y1 y2)
theorem V.gX17_ones_p4 {X : CX}  : ∀ (n : Nat) (σ : HS) (x0 : Int64) (x2 : Int32) (x3 : Int32), G X RX17 "ones" cX17_ones 4 (some .int) 0 0 enI 4 [(0, jv x0), (2, iv x2), (3, iv x3)] [] σ (Mdl_ones_p4 n σ x0 x2 x3)
  | 0, σ, x0, x2, x3 => by rw [Mdl_ones_p4]; exact G.nul
  | n + 1, σ, x0, x2, x3 => by
    rw [Mdl_ones_p4]
    refine g_iload_n 3 2 dX17_ones_4 rfl rfl ?_
    refine g_bipush (v := 64) dX17_ones_5 (by decide) ?_
    refine g_icmp_ge 25 dX17_ones_7 (by decide) ?_ ?_
    · refine g_iload_n 2 1 dX17_ones_25 rfl rfl ?_
      exact g_ireturn rfl dX17_ones_26
    · refine g_iload_n 2 1 dX17_ones_10 rfl rfl ?_
      refine g_lload_n 0 0 dX17_ones_11 rfl rfl ?_
      refine g_iload_n 3 2 dX17_ones_12 rfl rfl ?_
      refine g_lushr dX17_ones_13 ?_
      refine g_lconst (v := 1) dX17_ones_14 (by decide) ?_
      refine g_land dX17_ones_15 ?_
      refine g_l2i dX17_ones_16 ?_
      refine g_iadd dX17_ones_17 ?_
      refine g_nmI (fun y1 => ?_)
      refine g_istore_n 2 dX17_ones_18 rfl (by decide) rfl ?_
      refine g_iincB (w := 1) 2 dX17_ones_19 rfl (by decide) (by decide) (fun _ => rfl) (fun y2 => ?_)
      refine g_goto 4 dX17_ones_22 (by decide) ?_
      refine G.sub [2, 1, 0] rfl ?_
      exact gX17_ones_p4 n _ _ _ _
def V.Mdl_ones (σ : HS) (x0 : Int64) : Option (Int32 × HS) :=
  Mdl_ones_p4 FU σ x0 (0 : Int32) (0 : Int32)
theorem V.ctX17_ones (x0 : Int64) : Ct yX17_ones  cX17_ones 4 (some .int) 0 0 eI [jv x0] (fun σ => Mdl_ones σ x0) := by
  refine Ct.of (own := RX17) (nm := "ones") (desc := "(J)I") rfl (by decide) (Nat.le_of_ble_eq_true rfl) (by decide) (fun X σ => ?_)
  show G X RX17 "ones" cX17_ones 4 (some .int) 0 0 enI 0 [(0, jv x0)] [] σ (Mdl_ones σ x0)
  unfold Mdl_ones
  refine g_iconst (v := 0) dX17_ones_0 (by decide) ?_
  refine g_istore_n 2 dX17_ones_1 rfl (by decide) rfl ?_
  refine g_iconst (v := 0) dX17_ones_2 (by decide) ?_
  refine g_istore_n 3 dX17_ones_3 rfl (by decide) rfl ?_
  refine G.sub [2, 1, 0] rfl ?_
  exact gX17_ones_p4 FU _ _ _ _
theorem V.dX17_traps_0 : decode cX17_traps 0 = .ok (.aload_n 0, 1) := by decide +kernel
theorem V.dX17_traps_1 : decode cX17_traps 1 = .ok (.iload_n 1, 1) := by decide +kernel
theorem V.dX17_traps_2 : decode cX17_traps 2 = .ok (.putfield 800, 3) := by decide +kernel
theorem V.dX17_traps_5 : decode cX17_traps 5 = .ok (.return_, 1) := by decide +kernel
theorem V.fpX17_800 {nm : String} : FP RX17 nm 800 17 33 (.int) := ⟨(RX17, TX17, 101), tyX17, rfl, rfl, in_X17, by decide, tyX17_ok, nmX17, rfl, Or.inl ⟨rfl, Or.inl q3069⟩⟩
/-! ModuleEngineModel.traps(I)V -/
def V.Mdl_traps (σ : HS) (x0 : Nat) (x1 : Int32) : Option (Unit × HS) :=
  ck (tg σ x0 = 18) <| bn (sI σ x0 33 x1) fun σ1 =>
  some ((), σ1)
theorem V.ctX17_traps (x0 : Nat) (x1 : Int32) : Ct yX17_traps  cX17_traps 2 none 0 0 eV [av x0, iv x1] (fun σ => Mdl_traps σ x0 x1) := by
  refine Ct.of (own := RX17) (nm := "traps") (desc := "(I)V") rfl (by decide) (Nat.le_of_ble_eq_true rfl) (by decide) (fun X σ => ?_)
  show G X RX17 "traps" cX17_traps 2 none 0 0 enV 0 [(0, av x0), (1, iv x1)] [] σ (Mdl_traps σ x0 x1)
  unfold Mdl_traps
  refine g_aload_n 0 0 dX17_traps_0 rfl rfl ?_
  refine g_iload_n 1 1 dX17_traps_1 rfl rfl ?_
  refine g_putI fpX17_800 dX17_traps_2 (fun σ1 => ?_)
  exact g_return rfl dX17_traps_5
theorem V.dX17_divided_0 : decode cX17_divided 0 = .ok (.lload 4, 2) := by decide +kernel
theorem V.dX17_divided_2 : decode cX17_divided 2 = .ok (.lconst 0, 1) := by decide +kernel
theorem V.dX17_divided_3 : decode cX17_divided 3 = .ok (.lcmp, 1) := by decide +kernel
theorem V.dX17_divided_4 : decode cX17_divided 4 = .ok (.ifCond .ne 10, 3) := by decide +kernel
theorem V.dX17_divided_7 : decode cX17_divided 7 = .ok (.aload_n 0, 1) := by decide +kernel
theorem V.dX17_divided_8 : decode cX17_divided 8 = .ok (.iconst 1, 1) := by decide +kernel
theorem V.dX17_divided_9 : decode cX17_divided 9 = .ok (.invokevirtual 847, 3) := by decide +kernel
theorem V.dX17_divided_12 : decode cX17_divided 12 = .ok (.lconst 0, 1) := by decide +kernel
theorem V.dX17_divided_13 : decode cX17_divided 13 = .ok (.lreturn, 1) := by decide +kernel
theorem V.dX17_divided_14 : decode cX17_divided 14 = .ok (.iload_n 1, 1) := by decide +kernel
theorem V.dX17_divided_15 : decode cX17_divided 15 = .ok (.ifCond .ne 27, 3) := by decide +kernel
theorem V.dX17_divided_18 : decode cX17_divided 18 = .ok (.lload 4, 2) := by decide +kernel
theorem V.dX17_divided_20 : decode cX17_divided 20 = .ok (.ldc2_w 268, 3) := by decide +kernel
theorem V.dX17_divided_23 : decode cX17_divided 23 = .ok (.lcmp, 1) := by decide +kernel
theorem V.dX17_divided_24 : decode cX17_divided 24 = .ok (.ifCond .ne 18, 3) := by decide +kernel
theorem V.dX17_divided_27 : decode cX17_divided 27 = .ok (.lload_n 2, 1) := by decide +kernel
theorem V.dX17_divided_28 : decode cX17_divided 28 = .ok (.lload 6, 2) := by decide +kernel
theorem V.dX17_divided_30 : decode cX17_divided 30 = .ok (.lcmp, 1) := by decide +kernel
theorem V.dX17_divided_31 : decode cX17_divided 31 = .ok (.ifCond .ne 8, 3) := by decide +kernel
theorem V.dX17_divided_34 : decode cX17_divided 34 = .ok (.aload_n 0, 1) := by decide +kernel
theorem V.dX17_divided_35 : decode cX17_divided 35 = .ok (.iconst 2, 1) := by decide +kernel
theorem V.dX17_divided_36 : decode cX17_divided 36 = .ok (.invokevirtual 847, 3) := by decide +kernel
theorem V.dX17_divided_39 : decode cX17_divided 39 = .ok (.lload_n 2, 1) := by decide +kernel
theorem V.dX17_divided_40 : decode cX17_divided 40 = .ok (.lneg, 1) := by decide +kernel
theorem V.dX17_divided_41 : decode cX17_divided 41 = .ok (.lreturn, 1) := by decide +kernel
theorem V.dX17_divided_42 : decode cX17_divided 42 = .ok (.iload_n 1, 1) := by decide +kernel
theorem V.dX17_divided_43 : decode cX17_divided 43 = .ok (.iconst 2, 1) := by decide +kernel
theorem V.dX17_divided_44 : decode cX17_divided 44 = .ok (.if_icmp .ne 14, 3) := by decide +kernel
theorem V.dX17_divided_47 : decode cX17_divided 47 = .ok (.lload 4, 2) := by decide +kernel
theorem V.dX17_divided_49 : decode cX17_divided 49 = .ok (.ldc2_w 268, 3) := by decide +kernel
theorem V.dX17_divided_52 : decode cX17_divided 52 = .ok (.lcmp, 1) := by decide +kernel
theorem V.dX17_divided_53 : decode cX17_divided 53 = .ok (.ifCond .ne 5, 3) := by decide +kernel
theorem V.dX17_divided_56 : decode cX17_divided 56 = .ok (.lconst 0, 1) := by decide +kernel
theorem V.dX17_divided_57 : decode cX17_divided 57 = .ok (.lreturn, 1) := by decide +kernel
theorem V.dX17_divided_58 : decode cX17_divided 58 = .ok (.iload_n 1, 1) := by decide +kernel
theorem V.dX17_divided_59 : decode cX17_divided 59 = .ok (.ifCond .ne 10, 3) := by decide +kernel
theorem V.dX17_divided_62 : decode cX17_divided 62 = .ok (.lload_n 2, 1) := by decide +kernel
theorem V.dX17_divided_63 : decode cX17_divided 63 = .ok (.lload 4, 2) := by decide +kernel
theorem V.dX17_divided_65 : decode cX17_divided 65 = .ok (.ldiv, 1) := by decide +kernel
theorem V.dX17_divided_66 : decode cX17_divided 66 = .ok (.goto 35, 3) := by decide +kernel
theorem V.dX17_divided_69 : decode cX17_divided 69 = .ok (.iload_n 1, 1) := by decide +kernel
theorem V.dX17_divided_70 : decode cX17_divided 70 = .ok (.iconst 2, 1) := by decide +kernel
theorem V.dX17_divided_71 : decode cX17_divided 71 = .ok (.if_icmp .ne 10, 3) := by decide +kernel
theorem V.dX17_divided_74 : decode cX17_divided 74 = .ok (.lload_n 2, 1) := by decide +kernel
theorem V.dX17_divided_75 : decode cX17_divided 75 = .ok (.lload 4, 2) := by decide +kernel
theorem V.dX17_divided_77 : decode cX17_divided 77 = .ok (.lrem, 1) := by decide +kernel
theorem V.dX17_divided_78 : decode cX17_divided 78 = .ok (.goto 23, 3) := by decide +kernel
theorem V.dX17_divided_81 : decode cX17_divided 81 = .ok (.iload_n 1, 1) := by decide +kernel
theorem V.dX17_divided_82 : decode cX17_divided 82 = .ok (.iconst 1, 1) := by decide +kernel
theorem V.dX17_divided_83 : decode cX17_divided 83 = .ok (.if_icmp .ne 12, 3) := by decide +kernel
theorem V.dX17_divided_86 : decode cX17_divided 86 = .ok (.lload_n 2, 1) := by decide +kernel
theorem V.dX17_divided_87 : decode cX17_divided 87 = .ok (.lload 4, 2) := by decide +kernel
theorem V.dX17_divided_89 : decode cX17_divided 89 = .ok (.invokestatic 850, 3) := by decide +kernel
theorem V.dX17_divided_92 : decode cX17_divided 92 = .ok (.goto 9, 3) := by decide +kernel
theorem V.dX17_divided_95 : decode cX17_divided 95 = .ok (.lload_n 2, 1) := by decide +kernel
theorem V.dX17_divided_96 : decode cX17_divided 96 = .ok (.lload 4, 2) := by decide +kernel
theorem V.dX17_divided_98 : decode cX17_divided 98 = .ok (.invokestatic 854, 3) := by decide +kernel
theorem V.dX17_divided_101 : decode cX17_divided 101 = .ok (.lreturn, 1) := by decide +kernel
theorem V.mdX17_847 : MD RX17 847 yX17_traps cX17_traps 2 none 1 := ⟨Or.inl q4224, q377, q4227, by decide, by decide, by decide +kernel⟩
theorem V.mdX17_854 : MD RX17 854 yJ5_remainderUnsigned cJ5_remainderUnsigned 8 (some .long) 2 := ⟨Or.inl q4232, q386, q4234, by decide, by decide, by decide +kernel⟩
theorem V.mdX17_850 : MD RX17 850 yJ5_divideUnsigned cJ5_divideUnsigned 8 (some .long) 2 := ⟨Or.inl q4228, q386, q4230, by decide, by decide, by decide +kernel⟩
/-! ModuleEngineModel.divided(IJJJ)J -/
def V.Mdl_divided_p58  (σ : HS) (x1 : Int32) (x2 : Int64) (x4 : Int64) : Option (Int64 × HS) :=
  if x1 = 0 then (
    ck (¬ x4 = 0) <|
    some (x2 / x4, σ))
  else (
    if x1 = (2 : Int32) then (
      ck (¬ x4 = 0) <|
      some (x2 - x2 / x4 * x4, σ))
    else (
      if x1 = (1 : Int32) then (
        cl (Lng_divideUnsigned σ x2 x4) fun r4 σ3 =>
        some (r4, σ3))
      else (
        cl (Lng_remainderUnsigned σ x2 x4) fun r2 σ1 =>
        some (r2, σ1))))
theorem V.gX17_divided_p58 {X : CX}  (σ : HS) (x1 : Int32) (x2 : Int64) (x4 : Int64) : G X RX17 "divided" cX17_divided 8 (some .long) 1 27 enJ 58 [(1, iv x1), (2, jv x2), (4, jv x4)] [] σ (Mdl_divided_p58 σ x1 x2 x4) := by
  unfold Mdl_divided_p58
  refine g_iload_n 1 0 dX17_divided_58 rfl rfl ?_
  refine g_if_ne 69 dX17_divided_59 (by decide) ?_ ?_
  · refine g_iload_n 1 0 dX17_divided_69 rfl rfl ?_
    refine g_iconst (v := 2) dX17_divided_70 (by decide) ?_
    refine g_icmp_ne 81 dX17_divided_71 (by decide) ?_ ?_
    · refine g_iload_n 1 0 dX17_divided_81 rfl rfl ?_
      refine g_iconst (v := 1) dX17_divided_82 (by decide) ?_
      refine g_icmp_ne 95 dX17_divided_83 (by decide) ?_ ?_
      · refine g_lload_n 2 1 dX17_divided_95 rfl rfl ?_
        refine g_lload 2 dX17_divided_96 rfl ?_
        refine g_callS (fc := fun sς => Lng_remainderUnsigned sς x2 x4) (as := [jv x2, jv x4]) q4233 mdX17_854 (ctJ5_remainderUnsigned x2 x4) rfl (Nat.le_of_ble_eq_true rfl) (Nat.le_of_ble_eq_true rfl) (Nat.le_of_ble_eq_true rfl) pu_J dX17_divided_98 (fun r2 σ1 => ?_)
        exact g_lreturn rfl dX17_divided_101
      · refine g_lload_n 2 1 dX17_divided_86 rfl rfl ?_
        refine g_lload 2 dX17_divided_87 rfl ?_
        refine g_callS (fc := fun sς => Lng_divideUnsigned sς x2 x4) (as := [jv x2, jv x4]) q4229 mdX17_850 (ctJ5_divideUnsigned x2 x4) rfl (Nat.le_of_ble_eq_true rfl) (Nat.le_of_ble_eq_true rfl) (Nat.le_of_ble_eq_true rfl) pu_J dX17_divided_89 (fun r4 σ3 => ?_)
        refine g_goto 101 dX17_divided_92 (by decide) ?_
        exact g_lreturn rfl dX17_divided_101
    · refine g_lload_n 2 1 dX17_divided_74 rfl rfl ?_
      refine g_lload 2 dX17_divided_75 rfl ?_
      refine g_lrem dX17_divided_77 ?_
      refine g_goto 101 dX17_divided_78 (by decide) ?_
      exact g_lreturn rfl dX17_divided_101
  · refine g_lload_n 2 1 dX17_divided_62 rfl rfl ?_
    refine g_lload 2 dX17_divided_63 rfl ?_
    refine g_ldiv dX17_divided_65 ?_
    refine g_goto 101 dX17_divided_66 (by decide) ?_
    exact g_lreturn rfl dX17_divided_101
def V.Mdl_divided_p42  (σ : HS) (x1 : Int32) (x2 : Int64) (x4 : Int64) : Option (Int64 × HS) :=
  if x1 = (2 : Int32) then (
    if x4 = (-1 : Int64) then (
      some ((0 : Int64), σ))
    else (
      Mdl_divided_p58 σ x1 x2 x4))
  else (
    Mdl_divided_p58 σ x1 x2 x4)
theorem V.gX17_divided_p42 {X : CX}  (σ : HS) (x1 : Int32) (x2 : Int64) (x4 : Int64) : G X RX17 "divided" cX17_divided 8 (some .long) 1 27 enJ 42 [(1, iv x1), (2, jv x2), (4, jv x4)] [] σ (Mdl_divided_p42 σ x1 x2 x4) := by
  unfold Mdl_divided_p42
  refine g_iload_n 1 0 dX17_divided_42 rfl rfl ?_
  refine g_iconst (v := 2) dX17_divided_43 (by decide) ?_
  refine g_icmp_ne 58 dX17_divided_44 (by decide) ?_ ?_
  · exact gX17_divided_p58 _ _ _ _
  · refine g_lload 2 dX17_divided_47 rfl ?_
    refine g_ldc2 q3673 dX17_divided_49 ?_
    refine g_lcmp_ne 58 dX17_divided_52 dX17_divided_53 (by decide) ?_ ?_
    · exact gX17_divided_p58 _ _ _ _
    · refine g_lconst (v := 0) dX17_divided_56 (by decide) ?_
      exact g_lreturn rfl dX17_divided_57
def V.Mdl_divided_p39  (σ : HS) (x2 : Int64) : Option (Int64 × HS) :=
  some (-x2, σ)
theorem V.gX17_divided_p39 {X : CX}  (σ : HS) (x2 : Int64) : G X RX17 "divided" cX17_divided 8 (some .long) 1 27 enJ 39 [(2, jv x2)] [] σ (Mdl_divided_p39 σ x2) := by
  unfold Mdl_divided_p39
  refine g_lload_n 2 0 dX17_divided_39 rfl rfl ?_
  refine g_lneg dX17_divided_40 ?_
  exact g_lreturn rfl dX17_divided_41
def V.Mdl_divided (σ : HS) (x0 : Nat) (x1 : Int32) (x2 : Int64) (x4 : Int64) (x6 : Int64) : Option (Int64 × HS) :=
  if x4 = (0 : Int64) then (
    ck (tg σ x0 = 18) <| cl (Mdl_traps σ x0 (1 : Int32)) fun _ σ2 =>
    some ((0 : Int64), σ2))
  else (
    if x1 = 0 then (
      if x4 = (-1 : Int64) then (
        if x2 = x6 then (
          ck (tg σ x0 = 18) <| cl (Mdl_traps σ x0 (2 : Int32)) fun _ σ1 =>
          Mdl_divided_p39 σ1 x2)
        else (
          Mdl_divided_p39 σ x2))
      else (
        Mdl_divided_p42 σ x1 x2 x4))
    else (
      Mdl_divided_p42 σ x1 x2 x4))
theorem V.ctX17_divided (x0 : Nat) (x1 : Int32) (x2 : Int64) (x4 : Int64) (x6 : Int64) : Ct yX17_divided  cX17_divided 8 (some .long) 1 27 eJ [av x0, iv x1, jv x2, jv x4, jv x6] (fun σ => Mdl_divided σ x0 x1 x2 x4 x6) := by
  refine Ct.of (own := RX17) (nm := "divided") (desc := "(IJJJ)J") rfl (by decide) (Nat.le_of_ble_eq_true rfl) (by decide) (fun X σ => ?_)
  show G X RX17 "divided" cX17_divided 8 (some .long) 1 27 enJ 0 [(0, av x0), (1, iv x1), (2, jv x2), (4, jv x4), (6, jv x6)] [] σ (Mdl_divided σ x0 x1 x2 x4 x6)
  unfold Mdl_divided
  refine g_lload 3 dX17_divided_0 rfl ?_
  refine g_lconst (v := 0) dX17_divided_2 (by decide) ?_
  refine g_lcmp_ne 14 dX17_divided_3 dX17_divided_4 (by decide) ?_ ?_
  · refine g_iload_n 1 1 dX17_divided_14 rfl rfl ?_
    refine g_if_ne 42 dX17_divided_15 (by decide) ?_ ?_
    · refine G.sub [1, 2, 3] rfl ?_
      exact gX17_divided_p42 _ _ _ _
    · refine g_lload 3 dX17_divided_18 rfl ?_
      refine g_ldc2 q3673 dX17_divided_20 ?_
      refine g_lcmp_ne 42 dX17_divided_23 dX17_divided_24 (by decide) ?_ ?_
      · refine G.sub [1, 2, 3] rfl ?_
        exact gX17_divided_p42 _ _ _ _
      · refine g_lload_n 2 2 dX17_divided_27 rfl rfl ?_
        refine g_lload 4 dX17_divided_28 rfl ?_
        refine g_lcmp_ne 39 dX17_divided_30 dX17_divided_31 (by decide) ?_ ?_
        · refine G.sub [2] rfl ?_
          exact gX17_divided_p39 _ _
        · refine g_aload_n 0 0 dX17_divided_34 rfl rfl ?_
          refine g_iconst (v := 2) dX17_divided_35 (by decide) ?_
          refine g_callV (fc := fun sς => Mdl_traps sς x0 (2 : Int32)) (ci := 17) (as := [iv (2 : Int32)]) rfl rfl rfl q4226 qs332 mdX17_847 (ctX17_traps x0 (2 : Int32)) rfl (Nat.le_of_ble_eq_true rfl) (Nat.le_of_ble_eq_true rfl) (Nat.le_of_ble_eq_true rfl) pu_V dX17_divided_36 (fun _ σ1 => ?_)
          refine G.sub [2] rfl ?_
          exact gX17_divided_p39 _ _
  · refine g_aload_n 0 0 dX17_divided_7 rfl rfl ?_
    refine g_iconst (v := 1) dX17_divided_8 (by decide) ?_
    refine g_callV (fc := fun sς => Mdl_traps sς x0 (1 : Int32)) (ci := 17) (as := [iv (1 : Int32)]) rfl rfl rfl q4226 qs332 mdX17_847 (ctX17_traps x0 (1 : Int32)) rfl (Nat.le_of_ble_eq_true rfl) (Nat.le_of_ble_eq_true rfl) (Nat.le_of_ble_eq_true rfl) pu_V dX17_divided_9 (fun _ σ2 => ?_)
    refine g_lconst (v := 0) dX17_divided_12 (by decide) ?_
    exact g_lreturn rfl dX17_divided_13
theorem V.dX17_plain_0 : decode cX17_plain 0 = .ok (.iload_n 0, 1) := by decide +kernel
theorem V.dX17_plain_1 : decode cX17_plain 1 = .ok (.tableswitch 71 3 11 #[51, 55, 59, 71, 71, 71, 71, 63, 67], 51) := by decide +kernel
theorem V.dX17_plain_52 : decode cX17_plain 52 = .ok (.lload_n 1, 1) := by decide +kernel
theorem V.dX17_plain_53 : decode cX17_plain 53 = .ok (.lload_n 3, 1) := by decide +kernel
theorem V.dX17_plain_54 : decode cX17_plain 54 = .ok (.ladd, 1) := by decide +kernel
theorem V.dX17_plain_55 : decode cX17_plain 55 = .ok (.lreturn, 1) := by decide +kernel
theorem V.dX17_plain_56 : decode cX17_plain 56 = .ok (.lload_n 1, 1) := by decide +kernel
theorem V.dX17_plain_57 : decode cX17_plain 57 = .ok (.lload_n 3, 1) := by decide +kernel
theorem V.dX17_plain_58 : decode cX17_plain 58 = .ok (.lsub, 1) := by decide +kernel
theorem V.dX17_plain_59 : decode cX17_plain 59 = .ok (.lreturn, 1) := by decide +kernel
theorem V.dX17_plain_60 : decode cX17_plain 60 = .ok (.lload_n 1, 1) := by decide +kernel
theorem V.dX17_plain_61 : decode cX17_plain 61 = .ok (.lload_n 3, 1) := by decide +kernel
theorem V.dX17_plain_62 : decode cX17_plain 62 = .ok (.lmul, 1) := by decide +kernel
theorem V.dX17_plain_63 : decode cX17_plain 63 = .ok (.lreturn, 1) := by decide +kernel
theorem V.dX17_plain_64 : decode cX17_plain 64 = .ok (.lload_n 1, 1) := by decide +kernel
theorem V.dX17_plain_65 : decode cX17_plain 65 = .ok (.lload_n 3, 1) := by decide +kernel
theorem V.dX17_plain_66 : decode cX17_plain 66 = .ok (.land, 1) := by decide +kernel
theorem V.dX17_plain_67 : decode cX17_plain 67 = .ok (.lreturn, 1) := by decide +kernel
theorem V.dX17_plain_68 : decode cX17_plain 68 = .ok (.lload_n 1, 1) := by decide +kernel
theorem V.dX17_plain_69 : decode cX17_plain 69 = .ok (.lload_n 3, 1) := by decide +kernel
theorem V.dX17_plain_70 : decode cX17_plain 70 = .ok (.lor, 1) := by decide +kernel
theorem V.dX17_plain_71 : decode cX17_plain 71 = .ok (.lreturn, 1) := by decide +kernel
theorem V.dX17_plain_72 : decode cX17_plain 72 = .ok (.lload_n 1, 1) := by decide +kernel
theorem V.dX17_plain_73 : decode cX17_plain 73 = .ok (.lload_n 3, 1) := by decide +kernel
theorem V.dX17_plain_74 : decode cX17_plain 74 = .ok (.lxor, 1) := by decide +kernel
theorem V.dX17_plain_75 : decode cX17_plain 75 = .ok (.lreturn, 1) := by decide +kernel
/-! ModuleEngineModel.plain(IJJ)J -/
def V.Mdl_plain_p72  (σ : HS) (x1 : Int64) (x3 : Int64) : Option (Int64 × HS) :=
  some (x1 ^^^ x3, σ)
theorem V.gX17_plain_p72 {X : CX}  (σ : HS) (x1 : Int64) (x3 : Int64) : G X RX17 "plain" cX17_plain 5 (some .long) 0 0 enJ 72 [(1, jv x1), (3, jv x3)] [] σ (Mdl_plain_p72 σ x1 x3) := by
  unfold Mdl_plain_p72
  refine g_lload_n 1 0 dX17_plain_72 rfl rfl ?_
  refine g_lload_n 3 1 dX17_plain_73 rfl rfl ?_
  refine g_lxor dX17_plain_74 ?_
  exact g_lreturn rfl dX17_plain_75
def V.Mdl_plain (σ : HS) (x0 : Int32) (x1 : Int64) (x3 : Int64) : Option (Int64 × HS) :=
  swx x0 [
    (3, (
      some (x1 + x3, σ))),
    (4, (
      some (x1 - x3, σ))),
    (5, (
      some (x1 * x3, σ))),
    (10, (
      some (x1 &&& x3, σ))),
    (11, (
      some (x1 ||| x3, σ)))
    ] (
    Mdl_plain_p72 σ x1 x3)
theorem V.ctX17_plain (x0 : Int32) (x1 : Int64) (x3 : Int64) : Ct yX17_plain  cX17_plain 5 (some .long) 0 0 eJ [iv x0, jv x1, jv x3] (fun σ => Mdl_plain σ x0 x1 x3) := by
  refine Ct.of (own := RX17) (nm := "plain") (desc := "(IJJ)J") rfl (by decide) (Nat.le_of_ble_eq_true rfl) (by decide) (fun X σ => ?_)
  show G X RX17 "plain" cX17_plain 5 (some .long) 0 0 enJ 0 [(0, iv x0), (1, jv x1), (3, jv x3)] [] σ (Mdl_plain σ x0 x1 x3)
  unfold Mdl_plain
  refine g_iload_n 0 0 dX17_plain_0 rfl rfl ?_
  refine g_tsw dX17_plain_1 (by decide +kernel) ?_
  refine g_case ex0 (t := 52) (by decide +kernel) ?_ (fun hx => ?_)
  · refine g_lload_n 1 1 dX17_plain_52 rfl rfl ?_
    refine g_lload_n 3 2 dX17_plain_53 rfl rfl ?_
    refine g_ladd dX17_plain_54 ?_
    exact g_lreturn rfl dX17_plain_55
  refine g_case hx (t := 56) (by decide +kernel) ?_ (fun hx => ?_)
  · refine g_lload_n 1 1 dX17_plain_56 rfl rfl ?_
    refine g_lload_n 3 2 dX17_plain_57 rfl rfl ?_
    refine g_lsub dX17_plain_58 ?_
    exact g_lreturn rfl dX17_plain_59
  refine g_case hx (t := 60) (by decide +kernel) ?_ (fun hx => ?_)
  · refine g_lload_n 1 1 dX17_plain_60 rfl rfl ?_
    refine g_lload_n 3 2 dX17_plain_61 rfl rfl ?_
    refine g_lmul dX17_plain_62 ?_
    exact g_lreturn rfl dX17_plain_63
  refine g_case hx (t := 64) (by decide +kernel) ?_ (fun hx => ?_)
  · refine g_lload_n 1 1 dX17_plain_64 rfl rfl ?_
    refine g_lload_n 3 2 dX17_plain_65 rfl rfl ?_
    refine g_land dX17_plain_66 ?_
    exact g_lreturn rfl dX17_plain_67
  refine g_case hx (t := 68) (by decide +kernel) ?_ (fun hx => ?_)
  · refine g_lload_n 1 1 dX17_plain_68 rfl rfl ?_
    refine g_lload_n 3 2 dX17_plain_69 rfl rfl ?_
    refine g_lor dX17_plain_70 ?_
    exact g_lreturn rfl dX17_plain_71
  refine g_dflt (t := 72) (tswT_d (by decide +kernel) (by decide +kernel) hx) ?_
  refine G.sub [1, 2] rfl ?_
  exact gX17_plain_p72 _ _ _
theorem V.dX17_short32_0 : decode cX17_short32 0 = .ok (.lload 8, 2) := by decide +kernel
theorem V.dX17_short32_2 : decode cX17_short32 2 = .ok (.l2i, 1) := by decide +kernel
theorem V.dX17_short32_3 : decode cX17_short32 3 = .ok (.bipush 31, 2) := by decide +kernel
theorem V.dX17_short32_5 : decode cX17_short32 5 = .ok (.iand, 1) := by decide +kernel
theorem V.dX17_short32_6 : decode cX17_short32 6 = .ok (.istore 10, 2) := by decide +kernel
theorem V.dX17_short32_8 : decode cX17_short32 8 = .ok (.iload_n 1, 1) := by decide +kernel
theorem V.dX17_short32_9 : decode cX17_short32 9 = .ok (.tableswitch 210 0 17 #[87, 97, 107, 210, 210, 210, 114, 114, 114, 114, 210, 210, 210, 163, 169, 174, 180, 195], 87) := by decide +kernel
theorem V.dX17_short32_96 : decode cX17_short32 96 = .ok (.lload 4, 2) := by decide +kernel
theorem V.dX17_short32_98 : decode cX17_short32 98 = .ok (.bipush 32, 2) := by decide +kernel
theorem V.dX17_short32_100 : decode cX17_short32 100 = .ok (.iconst 1, 1) := by decide +kernel
theorem V.dX17_short32_101 : decode cX17_short32 101 = .ok (.invokestatic 831, 3) := by decide +kernel
theorem V.dX17_short32_104 : decode cX17_short32 104 = .ok (.i2l, 1) := by decide +kernel
theorem V.dX17_short32_105 : decode cX17_short32 105 = .ok (.lreturn, 1) := by decide +kernel
theorem V.dX17_short32_106 : decode cX17_short32 106 = .ok (.lload 4, 2) := by decide +kernel
theorem V.dX17_short32_108 : decode cX17_short32 108 = .ok (.bipush 32, 2) := by decide +kernel
theorem V.dX17_short32_110 : decode cX17_short32 110 = .ok (.iconst 0, 1) := by decide +kernel
theorem V.dX17_short32_111 : decode cX17_short32 111 = .ok (.invokestatic 831, 3) := by decide +kernel
theorem V.dX17_short32_114 : decode cX17_short32 114 = .ok (.i2l, 1) := by decide +kernel
theorem V.dX17_short32_115 : decode cX17_short32 115 = .ok (.lreturn, 1) := by decide +kernel
theorem V.dX17_short32_116 : decode cX17_short32 116 = .ok (.lload 4, 2) := by decide +kernel
theorem V.dX17_short32_118 : decode cX17_short32 118 = .ok (.invokestatic 835, 3) := by decide +kernel
theorem V.dX17_short32_121 : decode cX17_short32 121 = .ok (.i2l, 1) := by decide +kernel
theorem V.dX17_short32_122 : decode cX17_short32 122 = .ok (.lreturn, 1) := by decide +kernel
theorem V.dX17_short32_123 : decode cX17_short32 123 = .ok (.aload_n 0, 1) := by decide +kernel
theorem V.dX17_short32_124 : decode cX17_short32 124 = .ok (.iload_n 1, 1) := by decide +kernel
theorem V.dX17_short32_125 : decode cX17_short32 125 = .ok (.bipush 6, 2) := by decide +kernel
theorem V.dX17_short32_127 : decode cX17_short32 127 = .ok (.isub, 1) := by decide +kernel
theorem V.dX17_short32_128 : decode cX17_short32 128 = .ok (.iload_n 1, 1) := by decide +kernel
theorem V.dX17_short32_129 : decode cX17_short32 129 = .ok (.bipush 6, 2) := by decide +kernel
theorem V.dX17_short32_131 : decode cX17_short32 131 = .ok (.if_icmp .eq 9, 3) := by decide +kernel
theorem V.dX17_short32_134 : decode cX17_short32 134 = .ok (.iload_n 1, 1) := by decide +kernel
theorem V.dX17_short32_135 : decode cX17_short32 135 = .ok (.bipush 8, 2) := by decide +kernel
theorem V.dX17_short32_137 : decode cX17_short32 137 = .ok (.if_icmp .ne 7, 3) := by decide +kernel
theorem V.dX17_short32_140 : decode cX17_short32 140 = .ok (.lload_n 2, 1) := by decide +kernel
theorem V.dX17_short32_141 : decode cX17_short32 141 = .ok (.goto 5, 3) := by decide +kernel
theorem V.dX17_short32_144 : decode cX17_short32 144 = .ok (.lload 4, 2) := by decide +kernel
theorem V.dX17_short32_146 : decode cX17_short32 146 = .ok (.iload_n 1, 1) := by decide +kernel
theorem V.dX17_short32_147 : decode cX17_short32 147 = .ok (.bipush 6, 2) := by decide +kernel
theorem V.dX17_short32_149 : decode cX17_short32 149 = .ok (.if_icmp .eq 9, 3) := by decide +kernel
theorem V.dX17_short32_152 : decode cX17_short32 152 = .ok (.iload_n 1, 1) := by decide +kernel
theorem V.dX17_short32_153 : decode cX17_short32 153 = .ok (.bipush 8, 2) := by decide +kernel
theorem V.dX17_short32_155 : decode cX17_short32 155 = .ok (.if_icmp .ne 8, 3) := by decide +kernel
theorem V.dX17_short32_158 : decode cX17_short32 158 = .ok (.lload 6, 2) := by decide +kernel
theorem V.dX17_short32_160 : decode cX17_short32 160 = .ok (.goto 5, 3) := by decide +kernel
theorem V.dX17_short32_163 : decode cX17_short32 163 = .ok (.lload 8, 2) := by decide +kernel
theorem V.dX17_short32_165 : decode cX17_short32 165 = .ok (.ldc2_w 838, 3) := by decide +kernel
theorem V.dX17_short32_168 : decode cX17_short32 168 = .ok (.invokevirtual 840, 3) := by decide +kernel
theorem V.dX17_short32_171 : decode cX17_short32 171 = .ok (.lreturn, 1) := by decide +kernel
theorem V.dX17_short32_172 : decode cX17_short32 172 = .ok (.lload 4, 2) := by decide +kernel
theorem V.dX17_short32_174 : decode cX17_short32 174 = .ok (.iload 10, 2) := by decide +kernel
theorem V.dX17_short32_176 : decode cX17_short32 176 = .ok (.lshl, 1) := by decide +kernel
theorem V.dX17_short32_177 : decode cX17_short32 177 = .ok (.lreturn, 1) := by decide +kernel
theorem V.dX17_short32_178 : decode cX17_short32 178 = .ok (.lload_n 2, 1) := by decide +kernel
theorem V.dX17_short32_179 : decode cX17_short32 179 = .ok (.iload 10, 2) := by decide +kernel
theorem V.dX17_short32_181 : decode cX17_short32 181 = .ok (.lshr, 1) := by decide +kernel
theorem V.dX17_short32_182 : decode cX17_short32 182 = .ok (.lreturn, 1) := by decide +kernel
theorem V.dX17_short32_183 : decode cX17_short32 183 = .ok (.lload 4, 2) := by decide +kernel
theorem V.dX17_short32_185 : decode cX17_short32 185 = .ok (.iload 10, 2) := by decide +kernel
theorem V.dX17_short32_187 : decode cX17_short32 187 = .ok (.lushr, 1) := by decide +kernel
theorem V.dX17_short32_188 : decode cX17_short32 188 = .ok (.lreturn, 1) := by decide +kernel
theorem V.dX17_short32_189 : decode cX17_short32 189 = .ok (.lload 4, 2) := by decide +kernel
theorem V.dX17_short32_191 : decode cX17_short32 191 = .ok (.iload 10, 2) := by decide +kernel
theorem V.dX17_short32_193 : decode cX17_short32 193 = .ok (.lshl, 1) := by decide +kernel
theorem V.dX17_short32_194 : decode cX17_short32 194 = .ok (.lload 4, 2) := by decide +kernel
theorem V.dX17_short32_196 : decode cX17_short32 196 = .ok (.bipush 32, 2) := by decide +kernel
theorem V.dX17_short32_198 : decode cX17_short32 198 = .ok (.iload 10, 2) := by decide +kernel
theorem V.dX17_short32_200 : decode cX17_short32 200 = .ok (.isub, 1) := by decide +kernel
theorem V.dX17_short32_201 : decode cX17_short32 201 = .ok (.lushr, 1) := by decide +kernel
theorem V.dX17_short32_202 : decode cX17_short32 202 = .ok (.lor, 1) := by decide +kernel
theorem V.dX17_short32_203 : decode cX17_short32 203 = .ok (.lreturn, 1) := by decide +kernel
theorem V.dX17_short32_204 : decode cX17_short32 204 = .ok (.lload 4, 2) := by decide +kernel
theorem V.dX17_short32_206 : decode cX17_short32 206 = .ok (.iload 10, 2) := by decide +kernel
theorem V.dX17_short32_208 : decode cX17_short32 208 = .ok (.lushr, 1) := by decide +kernel
theorem V.dX17_short32_209 : decode cX17_short32 209 = .ok (.lload 4, 2) := by decide +kernel
theorem V.dX17_short32_211 : decode cX17_short32 211 = .ok (.bipush 32, 2) := by decide +kernel
theorem V.dX17_short32_213 : decode cX17_short32 213 = .ok (.iload 10, 2) := by decide +kernel
theorem V.dX17_short32_215 : decode cX17_short32 215 = .ok (.isub, 1) := by decide +kernel
theorem V.dX17_short32_216 : decode cX17_short32 216 = .ok (.lshl, 1) := by decide +kernel
theorem V.dX17_short32_217 : decode cX17_short32 217 = .ok (.lor, 1) := by decide +kernel
theorem V.dX17_short32_218 : decode cX17_short32 218 = .ok (.lreturn, 1) := by decide +kernel
theorem V.dX17_short32_219 : decode cX17_short32 219 = .ok (.iload_n 1, 1) := by decide +kernel
theorem V.dX17_short32_220 : decode cX17_short32 220 = .ok (.lload 4, 2) := by decide +kernel
theorem V.dX17_short32_222 : decode cX17_short32 222 = .ok (.lload 8, 2) := by decide +kernel
theorem V.dX17_short32_224 : decode cX17_short32 224 = .ok (.invokestatic 844, 3) := by decide +kernel
theorem V.dX17_short32_227 : decode cX17_short32 227 = .ok (.lreturn, 1) := by decide +kernel
theorem V.mdX17_831 : MD RX17 831 yX17_zeros cX17_zeros 5 (some .int) 3 := ⟨Or.inl q4213, q377, q4215, by decide, by decide, by decide +kernel⟩
theorem V.mdX17_835 : MD RX17 835 yX17_ones cX17_ones 4 (some .int) 1 := ⟨Or.inl q4216, q377, q4218, by decide, by decide, by decide +kernel⟩
theorem V.mdX17_844 : MD RX17 844 yX17_plain cX17_plain 5 (some .long) 3 := ⟨Or.inl q4235, q377, q4237, by decide, by decide, by decide +kernel⟩
theorem V.mdX17_840 : MD RX17 840 yX17_divided cX17_divided 8 (some .long) 4 := ⟨Or.inl q4220, q377, q4223, by decide, by decide, by decide +kernel⟩
/-! ModuleEngineModel.short32(IJJJJ)J -/
def V.Mdl_short32_p165  (σ : HS) (s0 : Int64) (s1 : Int64) (s2 : Int32) (s3 : Nat) : Option (Int64 × HS) :=
  ck (tg σ s3 = 18) <| cl (Mdl_divided σ s3 s2 s1 s0 (-2147483648 : Int64)) fun r2 σ1 =>
  some (r2, σ1)
theorem V.gX17_short32_p165 {X : CX}  (σ : HS) (s0 : Int64) (s1 : Int64) (s2 : Int32) (s3 : Nat) : G X RX17 "short32" cX17_short32 11 (some .long) 2 54 enJ 165 [] [jv s0, jv s1, iv s2, av s3] σ (Mdl_short32_p165 σ s0 s1 s2 s3) := by
  unfold Mdl_short32_p165
  refine g_ldc2 q4219 dX17_short32_165 ?_
  refine g_callV (fc := fun sς => Mdl_divided sς s3 s2 s1 s0 (-2147483648 : Int64)) (ci := 17) (as := [iv s2, jv s1, jv s0, jv (-2147483648 : Int64)]) rfl rfl rfl q4222 qs331 mdX17_840 (ctX17_divided s3 s2 s1 s0 (-2147483648 : Int64)) rfl (Nat.le_of_ble_eq_true rfl) (Nat.le_of_ble_eq_true rfl) (Nat.le_of_ble_eq_true rfl) pu_J dX17_short32_168 (fun r2 σ1 => ?_)
  exact g_lreturn rfl dX17_short32_171
def V.Mdl_short32_p158  (σ : HS) (x6 : Int64) (s0 : Int64) (s1 : Int32) (s2 : Nat) : Option (Int64 × HS) :=
  Mdl_short32_p165 σ x6 s0 s1 s2
theorem V.gX17_short32_p158 {X : CX}  (σ : HS) (x6 : Int64) (s0 : Int64) (s1 : Int32) (s2 : Nat) : G X RX17 "short32" cX17_short32 11 (some .long) 2 54 enJ 158 [(6, jv x6)] [jv s0, iv s1, av s2] σ (Mdl_short32_p158 σ x6 s0 s1 s2) := by
  unfold Mdl_short32_p158
  refine g_lload 0 dX17_short32_158 rfl ?_
  refine g_goto 165 dX17_short32_160 (by decide) ?_
  refine G.sub [] rfl ?_
  exact gX17_short32_p165 _ _ _ _ _
def V.Mdl_short32_p146  (σ : HS) (x1 : Int32) (x6 : Int64) (x8 : Int64) (s0 : Int64) (s1 : Int32) (s2 : Nat) : Option (Int64 × HS) :=
  if x1 = (6 : Int32) then (
    Mdl_short32_p158 σ x6 s0 s1 s2)
  else (
    if x1 = (8 : Int32) then (
      Mdl_short32_p158 σ x6 s0 s1 s2)
    else (
      Mdl_short32_p165 σ x8 s0 s1 s2))
theorem V.gX17_short32_p146 {X : CX}  (σ : HS) (x1 : Int32) (x6 : Int64) (x8 : Int64) (s0 : Int64) (s1 : Int32) (s2 : Nat) : G X RX17 "short32" cX17_short32 11 (some .long) 2 54 enJ 146 [(1, iv x1), (6, jv x6), (8, jv x8)] [jv s0, iv s1, av s2] σ (Mdl_short32_p146 σ x1 x6 x8 s0 s1 s2) := by
  unfold Mdl_short32_p146
  refine g_iload_n 1 0 dX17_short32_146 rfl rfl ?_
  refine g_bipush (v := 6) dX17_short32_147 (by decide) ?_
  refine g_icmp_eq 158 dX17_short32_149 (by decide) ?_ ?_
  · refine G.sub [1] rfl ?_
    exact gX17_short32_p158 _ _ _ _ _
  · refine g_iload_n 1 0 dX17_short32_152 rfl rfl ?_
    refine g_bipush (v := 8) dX17_short32_153 (by decide) ?_
    refine g_icmp_ne 163 dX17_short32_155 (by decide) ?_ ?_
    · refine g_lload 2 dX17_short32_163 rfl ?_
      refine G.sub [] rfl ?_
      exact gX17_short32_p165 _ _ _ _ _
    · refine G.sub [1] rfl ?_
      exact gX17_short32_p158 _ _ _ _ _
def V.Mdl_short32_p140  (σ : HS) (x1 : Int32) (x2 : Int64) (x6 : Int64) (x8 : Int64) (s0 : Int32) (s1 : Nat) : Option (Int64 × HS) :=
  Mdl_short32_p146 σ x1 x6 x8 x2 s0 s1
theorem V.gX17_short32_p140 {X : CX}  (σ : HS) (x1 : Int32) (x2 : Int64) (x6 : Int64) (x8 : Int64) (s0 : Int32) (s1 : Nat) : G X RX17 "short32" cX17_short32 11 (some .long) 2 54 enJ 140 [(1, iv x1), (2, jv x2), (6, jv x6), (8, jv x8)] [iv s0, av s1] σ (Mdl_short32_p140 σ x1 x2 x6 x8 s0 s1) := by
  unfold Mdl_short32_p140
  refine g_lload_n 2 1 dX17_short32_140 rfl rfl ?_
  refine g_goto 146 dX17_short32_141 (by decide) ?_
  refine G.sub [0, 2, 3] rfl ?_
  exact gX17_short32_p146 _ _ _ _ _ _ _
def V.Mdl_short32_p123  (σ : HS) (x0 : Nat) (x1 : Int32) (x2 : Int64) (x4 : Int64) (x6 : Int64) (x8 : Int64) : Option (Int64 × HS) :=
  if x1 = (6 : Int32) then (
    Mdl_short32_p140 σ x1 x2 x6 x8 (x1 - (6 : Int32)) x0)
  else (
    if x1 = (8 : Int32) then (
      Mdl_short32_p140 σ x1 x2 x6 x8 (x1 - (6 : Int32)) x0)
    else (
      Mdl_short32_p146 σ x1 x6 x8 x4 (x1 - (6 : Int32)) x0))
theorem V.gX17_short32_p123 {X : CX}  (σ : HS) (x0 : Nat) (x1 : Int32) (x2 : Int64) (x4 : Int64) (x6 : Int64) (x8 : Int64) : G X RX17 "short32" cX17_short32 11 (some .long) 2 54 enJ 123 [(0, av x0), (1, iv x1), (2, jv x2), (4, jv x4), (6, jv x6), (8, jv x8)] [] σ (Mdl_short32_p123 σ x0 x1 x2 x4 x6 x8) := by
  unfold Mdl_short32_p123
  refine g_aload_n 0 0 dX17_short32_123 rfl rfl ?_
  refine g_iload_n 1 1 dX17_short32_124 rfl rfl ?_
  refine g_bipush (v := 6) dX17_short32_125 (by decide) ?_
  refine g_isub dX17_short32_127 ?_
  refine g_iload_n 1 1 dX17_short32_128 rfl rfl ?_
  refine g_bipush (v := 6) dX17_short32_129 (by decide) ?_
  refine g_icmp_eq 140 dX17_short32_131 (by decide) ?_ ?_
  · refine G.sub [1, 2, 4, 5] rfl ?_
    exact gX17_short32_p140 _ _ _ _ _ _ _
  · refine g_iload_n 1 1 dX17_short32_134 rfl rfl ?_
    refine g_bipush (v := 8) dX17_short32_135 (by decide) ?_
    refine g_icmp_ne 144 dX17_short32_137 (by decide) ?_ ?_
    · refine g_lload 3 dX17_short32_144 rfl ?_
      refine G.sub [1, 4, 5] rfl ?_
      exact gX17_short32_p146 _ _ _ _ _ _ _
    · refine G.sub [1, 2, 4, 5] rfl ?_
      exact gX17_short32_p140 _ _ _ _ _ _ _
def V.Mdl_short32_p219  (σ : HS) (x1 : Int32) (x4 : Int64) (x8 : Int64) : Option (Int64 × HS) :=
  cl (Mdl_plain σ x1 x4 x8) fun r2 σ1 =>
  some (r2, σ1)
theorem V.gX17_short32_p219 {X : CX}  (σ : HS) (x1 : Int32) (x4 : Int64) (x8 : Int64) : G X RX17 "short32" cX17_short32 11 (some .long) 2 54 enJ 219 [(1, iv x1), (4, jv x4), (8, jv x8)] [] σ (Mdl_short32_p219 σ x1 x4 x8) := by
  unfold Mdl_short32_p219
  refine g_iload_n 1 0 dX17_short32_219 rfl rfl ?_
  refine g_lload 1 dX17_short32_220 rfl ?_
  refine g_lload 2 dX17_short32_222 rfl ?_
  refine g_callS (fc := fun sς => Mdl_plain sς x1 x4 x8) (as := [iv x1, jv x4, jv x8]) q4236 mdX17_844 (ctX17_plain x1 x4 x8) rfl (Nat.le_of_ble_eq_true rfl) (Nat.le_of_ble_eq_true rfl) (Nat.le_of_ble_eq_true rfl) pu_J dX17_short32_224 (fun r2 σ1 => ?_)
  exact g_lreturn rfl dX17_short32_227
def V.Mdl_short32 (σ : HS) (x0 : Nat) (x1 : Int32) (x2 : Int64) (x4 : Int64) (x6 : Int64) (x8 : Int64) : Option (Int64 × HS) :=
  bn (x8.toInt32 &&& (31 : Int32)) fun y1 =>
  swx x1 [
    (0, (
      cl (Mdl_zeros σ x4 (32 : Int32) (1 : Int32)) fun r3 σ2 =>
      some (r3.toInt64, σ2))),
    (1, (
      cl (Mdl_zeros σ x4 (32 : Int32) (0 : Int32)) fun r5 σ4 =>
      some (r5.toInt64, σ4))),
    (2, (
      cl (Mdl_ones σ x4) fun r7 σ6 =>
      some (r7.toInt64, σ6))),
    (6, (
      Mdl_short32_p123 σ x0 x1 x2 x4 x6 x8)),
    (7, (
      Mdl_short32_p123 σ x0 x1 x2 x4 x6 x8)),
    (8, (
      Mdl_short32_p123 σ x0 x1 x2 x4 x6 x8)),
    (9, (
      Mdl_short32_p123 σ x0 x1 x2 x4 x6 x8)),
    (13, (
      some (lshl x4 y1, σ))),
    (14, (
      some (lshr x2 y1, σ))),
    (15, (
      some (lushr x4 y1, σ))),
    (16, (
      some ((lshl x4 y1) ||| (lushr x4 ((32 : Int32) - y1)), σ))),
    (17, (
      some ((lushr x4 y1) ||| (lshl x4 ((32 : Int32) - y1)), σ)))
    ] (
    Mdl_short32_p219 σ x1 x4 x8)
theorem V.ctX17_short32 (x0 : Nat) (x1 : Int32) (x2 : Int64) (x4 : Int64) (x6 : Int64) (x8 : Int64) : Ct yX17_short32  cX17_short32 11 (some .long) 2 54 eJ [av x0, iv x1, jv x2, jv x4, jv x6, jv x8] (fun σ => Mdl_short32 σ x0 x1 x2 x4 x6 x8) := by
  refine Ct.of (own := RX17) (nm := "short32") (desc := "(IJJJJ)J") rfl (by decide) (Nat.le_of_ble_eq_true rfl) (by decide) (fun X σ => ?_)
  show G X RX17 "short32" cX17_short32 11 (some .long) 2 54 enJ 0 [(0, av x0), (1, iv x1), (2, jv x2), (4, jv x4), (6, jv x6), (8, jv x8)] [] σ (Mdl_short32 σ x0 x1 x2 x4 x6 x8)
  unfold Mdl_short32
  refine g_lload 5 dX17_short32_0 rfl ?_
  refine g_l2i dX17_short32_2 ?_
  refine g_bipush (v := 31) dX17_short32_3 (by decide) ?_
  refine g_iand dX17_short32_5 ?_
  refine g_nmI (fun y1 => ?_)
  refine g_istore dX17_short32_6 (by decide) rfl ?_
  refine g_iload_n 1 2 dX17_short32_8 rfl rfl ?_
  refine g_tsw dX17_short32_9 (by decide +kernel) ?_
  refine g_case ex0 (t := 96) (by decide +kernel) ?_ (fun hx => ?_)
  · refine g_lload 4 dX17_short32_96 rfl ?_
    refine g_bipush (v := 32) dX17_short32_98 (by decide) ?_
    refine g_iconst (v := 1) dX17_short32_100 (by decide) ?_
    refine g_callS (fc := fun sς => Mdl_zeros sς x4 (32 : Int32) (1 : Int32)) (as := [jv x4, iv (32 : Int32), iv (1 : Int32)]) q4214 mdX17_831 (ctX17_zeros x4 (32 : Int32) (1 : Int32)) rfl (Nat.le_of_ble_eq_true rfl) (Nat.le_of_ble_eq_true rfl) (Nat.le_of_ble_eq_true rfl) pu_I dX17_short32_101 (fun r3 σ2 => ?_)
    refine g_i2l dX17_short32_104 ?_
    exact g_lreturn rfl dX17_short32_105
  refine g_case hx (t := 106) (by decide +kernel) ?_ (fun hx => ?_)
  · refine g_lload 4 dX17_short32_106 rfl ?_
    refine g_bipush (v := 32) dX17_short32_108 (by decide) ?_
    refine g_iconst (v := 0) dX17_short32_110 (by decide) ?_
    refine g_callS (fc := fun sς => Mdl_zeros sς x4 (32 : Int32) (0 : Int32)) (as := [jv x4, iv (32 : Int32), iv (0 : Int32)]) q4214 mdX17_831 (ctX17_zeros x4 (32 : Int32) (0 : Int32)) rfl (Nat.le_of_ble_eq_true rfl) (Nat.le_of_ble_eq_true rfl) (Nat.le_of_ble_eq_true rfl) pu_I dX17_short32_111 (fun r5 σ4 => ?_)
    refine g_i2l dX17_short32_114 ?_
    exact g_lreturn rfl dX17_short32_115
  refine g_case hx (t := 116) (by decide +kernel) ?_ (fun hx => ?_)
  · refine g_lload 4 dX17_short32_116 rfl ?_
    refine g_callS (fc := fun sς => Mdl_ones sς x4) (as := [jv x4]) q4217 mdX17_835 (ctX17_ones x4) rfl (Nat.le_of_ble_eq_true rfl) (Nat.le_of_ble_eq_true rfl) (Nat.le_of_ble_eq_true rfl) pu_I dX17_short32_118 (fun r7 σ6 => ?_)
    refine g_i2l dX17_short32_121 ?_
    exact g_lreturn rfl dX17_short32_122
  refine g_case hx (t := 123) (by decide +kernel) ?_ (fun hx => ?_)
  · refine G.sub [1, 2, 3, 4, 5, 6] rfl ?_
    exact gX17_short32_p123 _ _ _ _ _ _ _
  refine g_case hx (t := 123) (by decide +kernel) ?_ (fun hx => ?_)
  · refine G.sub [1, 2, 3, 4, 5, 6] rfl ?_
    exact gX17_short32_p123 _ _ _ _ _ _ _
  refine g_case hx (t := 123) (by decide +kernel) ?_ (fun hx => ?_)
  · refine G.sub [1, 2, 3, 4, 5, 6] rfl ?_
    exact gX17_short32_p123 _ _ _ _ _ _ _
  refine g_case hx (t := 123) (by decide +kernel) ?_ (fun hx => ?_)
  · refine G.sub [1, 2, 3, 4, 5, 6] rfl ?_
    exact gX17_short32_p123 _ _ _ _ _ _ _
  refine g_case hx (t := 172) (by decide +kernel) ?_ (fun hx => ?_)
  · refine g_lload 4 dX17_short32_172 rfl ?_
    refine g_iload 0 dX17_short32_174 rfl ?_
    refine g_lshl dX17_short32_176 ?_
    exact g_lreturn rfl dX17_short32_177
  refine g_case hx (t := 178) (by decide +kernel) ?_ (fun hx => ?_)
  · refine g_lload_n 2 3 dX17_short32_178 rfl rfl ?_
    refine g_iload 0 dX17_short32_179 rfl ?_
    refine g_lshr dX17_short32_181 ?_
    exact g_lreturn rfl dX17_short32_182
  refine g_case hx (t := 183) (by decide +kernel) ?_ (fun hx => ?_)
  · refine g_lload 4 dX17_short32_183 rfl ?_
    refine g_iload 0 dX17_short32_185 rfl ?_
    refine g_lushr dX17_short32_187 ?_
    exact g_lreturn rfl dX17_short32_188
  refine g_case hx (t := 189) (by decide +kernel) ?_ (fun hx => ?_)
  · refine g_lload 4 dX17_short32_189 rfl ?_
    refine g_iload 0 dX17_short32_191 rfl ?_
    refine g_lshl dX17_short32_193 ?_
    refine g_lload 4 dX17_short32_194 rfl ?_
    refine g_bipush (v := 32) dX17_short32_196 (by decide) ?_
    refine g_iload 0 dX17_short32_198 rfl ?_
    refine g_isub dX17_short32_200 ?_
    refine g_lushr dX17_short32_201 ?_
    refine g_lor dX17_short32_202 ?_
    exact g_lreturn rfl dX17_short32_203
  refine g_case hx (t := 204) (by decide +kernel) ?_ (fun hx => ?_)
  · refine g_lload 4 dX17_short32_204 rfl ?_
    refine g_iload 0 dX17_short32_206 rfl ?_
    refine g_lushr dX17_short32_208 ?_
    refine g_lload 4 dX17_short32_209 rfl ?_
    refine g_bipush (v := 32) dX17_short32_211 (by decide) ?_
    refine g_iload 0 dX17_short32_213 rfl ?_
    refine g_isub dX17_short32_215 ?_
    refine g_lshl dX17_short32_216 ?_
    refine g_lor dX17_short32_217 ?_
    exact g_lreturn rfl dX17_short32_218
  refine g_dflt (t := 219) (tswT_d (by decide +kernel) (by decide +kernel) hx) ?_
  refine G.sub [2, 4, 6] rfl ?_
  exact gX17_short32_p219 _ _ _ _
theorem V.dX17_long64_0 : decode cX17_long64 0 = .ok (.lload 4, 2) := by decide +kernel
theorem V.dX17_long64_2 : decode cX17_long64 2 = .ok (.l2i, 1) := by decide +kernel
theorem V.dX17_long64_3 : decode cX17_long64 3 = .ok (.bipush 63, 2) := by decide +kernel
theorem V.dX17_long64_5 : decode cX17_long64 5 = .ok (.iand, 1) := by decide +kernel
theorem V.dX17_long64_6 : decode cX17_long64 6 = .ok (.istore 6, 2) := by decide +kernel
theorem V.dX17_long64_8 : decode cX17_long64 8 = .ok (.iload_n 1, 1) := by decide +kernel
theorem V.dX17_long64_9 : decode cX17_long64 9 = .ok (.tableswitch 185 0 17 #[87, 96, 105, 185, 185, 185, 111, 111, 111, 111, 185, 185, 185, 126, 131, 136, 141, 163], 87) := by decide +kernel
theorem V.dX17_long64_96 : decode cX17_long64 96 = .ok (.lload_n 2, 1) := by decide +kernel
theorem V.dX17_long64_97 : decode cX17_long64 97 = .ok (.bipush 64, 2) := by decide +kernel
theorem V.dX17_long64_99 : decode cX17_long64 99 = .ok (.iconst 1, 1) := by decide +kernel
theorem V.dX17_long64_100 : decode cX17_long64 100 = .ok (.invokestatic 831, 3) := by decide +kernel
theorem V.dX17_long64_103 : decode cX17_long64 103 = .ok (.i2l, 1) := by decide +kernel
theorem V.dX17_long64_104 : decode cX17_long64 104 = .ok (.lreturn, 1) := by decide +kernel
theorem V.dX17_long64_105 : decode cX17_long64 105 = .ok (.lload_n 2, 1) := by decide +kernel
theorem V.dX17_long64_106 : decode cX17_long64 106 = .ok (.bipush 64, 2) := by decide +kernel
theorem V.dX17_long64_108 : decode cX17_long64 108 = .ok (.iconst 0, 1) := by decide +kernel
theorem V.dX17_long64_109 : decode cX17_long64 109 = .ok (.invokestatic 831, 3) := by decide +kernel
theorem V.dX17_long64_112 : decode cX17_long64 112 = .ok (.i2l, 1) := by decide +kernel
theorem V.dX17_long64_113 : decode cX17_long64 113 = .ok (.lreturn, 1) := by decide +kernel
theorem V.dX17_long64_114 : decode cX17_long64 114 = .ok (.lload_n 2, 1) := by decide +kernel
theorem V.dX17_long64_115 : decode cX17_long64 115 = .ok (.invokestatic 835, 3) := by decide +kernel
theorem V.dX17_long64_118 : decode cX17_long64 118 = .ok (.i2l, 1) := by decide +kernel
theorem V.dX17_long64_119 : decode cX17_long64 119 = .ok (.lreturn, 1) := by decide +kernel
theorem V.dX17_long64_120 : decode cX17_long64 120 = .ok (.aload_n 0, 1) := by decide +kernel
theorem V.dX17_long64_121 : decode cX17_long64 121 = .ok (.iload_n 1, 1) := by decide +kernel
theorem V.dX17_long64_122 : decode cX17_long64 122 = .ok (.bipush 6, 2) := by decide +kernel
theorem V.dX17_long64_124 : decode cX17_long64 124 = .ok (.isub, 1) := by decide +kernel
theorem V.dX17_long64_125 : decode cX17_long64 125 = .ok (.lload_n 2, 1) := by decide +kernel
theorem V.dX17_long64_126 : decode cX17_long64 126 = .ok (.lload 4, 2) := by decide +kernel
theorem V.dX17_long64_128 : decode cX17_long64 128 = .ok (.ldc2_w 798, 3) := by decide +kernel
theorem V.dX17_long64_131 : decode cX17_long64 131 = .ok (.invokevirtual 840, 3) := by decide +kernel
theorem V.dX17_long64_134 : decode cX17_long64 134 = .ok (.lreturn, 1) := by decide +kernel
theorem V.dX17_long64_135 : decode cX17_long64 135 = .ok (.lload_n 2, 1) := by decide +kernel
theorem V.dX17_long64_136 : decode cX17_long64 136 = .ok (.iload 6, 2) := by decide +kernel
theorem V.dX17_long64_138 : decode cX17_long64 138 = .ok (.lshl, 1) := by decide +kernel
theorem V.dX17_long64_139 : decode cX17_long64 139 = .ok (.lreturn, 1) := by decide +kernel
theorem V.dX17_long64_140 : decode cX17_long64 140 = .ok (.lload_n 2, 1) := by decide +kernel
theorem V.dX17_long64_141 : decode cX17_long64 141 = .ok (.iload 6, 2) := by decide +kernel
theorem V.dX17_long64_143 : decode cX17_long64 143 = .ok (.lshr, 1) := by decide +kernel
theorem V.dX17_long64_144 : decode cX17_long64 144 = .ok (.lreturn, 1) := by decide +kernel
theorem V.dX17_long64_145 : decode cX17_long64 145 = .ok (.lload_n 2, 1) := by decide +kernel
theorem V.dX17_long64_146 : decode cX17_long64 146 = .ok (.iload 6, 2) := by decide +kernel
theorem V.dX17_long64_148 : decode cX17_long64 148 = .ok (.lushr, 1) := by decide +kernel
theorem V.dX17_long64_149 : decode cX17_long64 149 = .ok (.lreturn, 1) := by decide +kernel
theorem V.dX17_long64_150 : decode cX17_long64 150 = .ok (.iload 6, 2) := by decide +kernel
theorem V.dX17_long64_152 : decode cX17_long64 152 = .ok (.ifCond .ne 7, 3) := by decide +kernel
theorem V.dX17_long64_155 : decode cX17_long64 155 = .ok (.lload_n 2, 1) := by decide +kernel
theorem V.dX17_long64_156 : decode cX17_long64 156 = .ok (.goto 15, 3) := by decide +kernel
theorem V.dX17_long64_159 : decode cX17_long64 159 = .ok (.lload_n 2, 1) := by decide +kernel
theorem V.dX17_long64_160 : decode cX17_long64 160 = .ok (.iload 6, 2) := by decide +kernel
theorem V.dX17_long64_162 : decode cX17_long64 162 = .ok (.lshl, 1) := by decide +kernel
theorem V.dX17_long64_163 : decode cX17_long64 163 = .ok (.lload_n 2, 1) := by decide +kernel
theorem V.dX17_long64_164 : decode cX17_long64 164 = .ok (.bipush 64, 2) := by decide +kernel
theorem V.dX17_long64_166 : decode cX17_long64 166 = .ok (.iload 6, 2) := by decide +kernel
theorem V.dX17_long64_168 : decode cX17_long64 168 = .ok (.isub, 1) := by decide +kernel
theorem V.dX17_long64_169 : decode cX17_long64 169 = .ok (.lushr, 1) := by decide +kernel
theorem V.dX17_long64_170 : decode cX17_long64 170 = .ok (.lor, 1) := by decide +kernel
theorem V.dX17_long64_171 : decode cX17_long64 171 = .ok (.lreturn, 1) := by decide +kernel
theorem V.dX17_long64_172 : decode cX17_long64 172 = .ok (.iload 6, 2) := by decide +kernel
theorem V.dX17_long64_174 : decode cX17_long64 174 = .ok (.ifCond .ne 7, 3) := by decide +kernel
theorem V.dX17_long64_177 : decode cX17_long64 177 = .ok (.lload_n 2, 1) := by decide +kernel
theorem V.dX17_long64_178 : decode cX17_long64 178 = .ok (.goto 15, 3) := by decide +kernel
theorem V.dX17_long64_181 : decode cX17_long64 181 = .ok (.lload_n 2, 1) := by decide +kernel
theorem V.dX17_long64_182 : decode cX17_long64 182 = .ok (.iload 6, 2) := by decide +kernel
theorem V.dX17_long64_184 : decode cX17_long64 184 = .ok (.lushr, 1) := by decide +kernel
theorem V.dX17_long64_185 : decode cX17_long64 185 = .ok (.lload_n 2, 1) := by decide +kernel
theorem V.dX17_long64_186 : decode cX17_long64 186 = .ok (.bipush 64, 2) := by decide +kernel
theorem V.dX17_long64_188 : decode cX17_long64 188 = .ok (.iload 6, 2) := by decide +kernel
theorem V.dX17_long64_190 : decode cX17_long64 190 = .ok (.isub, 1) := by decide +kernel
theorem V.dX17_long64_191 : decode cX17_long64 191 = .ok (.lshl, 1) := by decide +kernel
theorem V.dX17_long64_192 : decode cX17_long64 192 = .ok (.lor, 1) := by decide +kernel
theorem V.dX17_long64_193 : decode cX17_long64 193 = .ok (.lreturn, 1) := by decide +kernel
theorem V.dX17_long64_194 : decode cX17_long64 194 = .ok (.iload_n 1, 1) := by decide +kernel
theorem V.dX17_long64_195 : decode cX17_long64 195 = .ok (.lload_n 2, 1) := by decide +kernel
theorem V.dX17_long64_196 : decode cX17_long64 196 = .ok (.lload 4, 2) := by decide +kernel
theorem V.dX17_long64_198 : decode cX17_long64 198 = .ok (.invokestatic 844, 3) := by decide +kernel
theorem V.dX17_long64_201 : decode cX17_long64 201 = .ok (.lreturn, 1) := by decide +kernel
/-! ModuleEngineModel.long64(IJJ)J -/
def V.Mdl_long64_p120  (σ : HS) (x0 : Nat) (x1 : Int32) (x2 : Int64) (x4 : Int64) : Option (Int64 × HS) :=
  ck (tg σ x0 = 18) <| cl (Mdl_divided σ x0 (x1 - (6 : Int32)) x2 x4 (-9223372036854775808 : Int64)) fun r2 σ1 =>
  some (r2, σ1)
theorem V.gX17_long64_p120 {X : CX}  (σ : HS) (x0 : Nat) (x1 : Int32) (x2 : Int64) (x4 : Int64) : G X RX17 "long64" cX17_long64 7 (some .long) 2 54 enJ 120 [(0, av x0), (1, iv x1), (2, jv x2), (4, jv x4)] [] σ (Mdl_long64_p120 σ x0 x1 x2 x4) := by
  unfold Mdl_long64_p120
  refine g_aload_n 0 0 dX17_long64_120 rfl rfl ?_
  refine g_iload_n 1 1 dX17_long64_121 rfl rfl ?_
  refine g_bipush (v := 6) dX17_long64_122 (by decide) ?_
  refine g_isub dX17_long64_124 ?_
  refine g_lload_n 2 2 dX17_long64_125 rfl rfl ?_
  refine g_lload 3 dX17_long64_126 rfl ?_
  refine g_ldc2 q4194 dX17_long64_128 ?_
  refine g_callV (fc := fun sς => Mdl_divided sς x0 (x1 - (6 : Int32)) x2 x4 (-9223372036854775808 : Int64)) (ci := 17) (as := [iv (x1 - (6 : Int32)), jv x2, jv x4, jv (-9223372036854775808 : Int64)]) rfl rfl rfl q4222 qs331 mdX17_840 (ctX17_divided x0 (x1 - (6 : Int32)) x2 x4 (-9223372036854775808 : Int64)) rfl (Nat.le_of_ble_eq_true rfl) (Nat.le_of_ble_eq_true rfl) (Nat.le_of_ble_eq_true rfl) pu_J dX17_long64_131 (fun r2 σ1 => ?_)
  exact g_lreturn rfl dX17_long64_134
def V.Mdl_long64_p194  (σ : HS) (x1 : Int32) (x2 : Int64) (x4 : Int64) : Option (Int64 × HS) :=
  cl (Mdl_plain σ x1 x2 x4) fun r2 σ1 =>
  some (r2, σ1)
theorem V.gX17_long64_p194 {X : CX}  (σ : HS) (x1 : Int32) (x2 : Int64) (x4 : Int64) : G X RX17 "long64" cX17_long64 7 (some .long) 2 54 enJ 194 [(1, iv x1), (2, jv x2), (4, jv x4)] [] σ (Mdl_long64_p194 σ x1 x2 x4) := by
  unfold Mdl_long64_p194
  refine g_iload_n 1 0 dX17_long64_194 rfl rfl ?_
  refine g_lload_n 2 1 dX17_long64_195 rfl rfl ?_
  refine g_lload 2 dX17_long64_196 rfl ?_
  refine g_callS (fc := fun sς => Mdl_plain sς x1 x2 x4) (as := [iv x1, jv x2, jv x4]) q4236 mdX17_844 (ctX17_plain x1 x2 x4) rfl (Nat.le_of_ble_eq_true rfl) (Nat.le_of_ble_eq_true rfl) (Nat.le_of_ble_eq_true rfl) pu_J dX17_long64_198 (fun r2 σ1 => ?_)
  exact g_lreturn rfl dX17_long64_201
def V.Mdl_long64 (σ : HS) (x0 : Nat) (x1 : Int32) (x2 : Int64) (x4 : Int64) : Option (Int64 × HS) :=
  bn (x4.toInt32 &&& (63 : Int32)) fun y1 =>
  swx x1 [
    (0, (
      cl (Mdl_zeros σ x2 (64 : Int32) (1 : Int32)) fun r3 σ2 =>
      some (r3.toInt64, σ2))),
    (1, (
      cl (Mdl_zeros σ x2 (64 : Int32) (0 : Int32)) fun r5 σ4 =>
      some (r5.toInt64, σ4))),
    (2, (
      cl (Mdl_ones σ x2) fun r7 σ6 =>
      some (r7.toInt64, σ6))),
    (6, (
      Mdl_long64_p120 σ x0 x1 x2 x4)),
    (7, (
      Mdl_long64_p120 σ x0 x1 x2 x4)),
    (8, (
      Mdl_long64_p120 σ x0 x1 x2 x4)),
    (9, (
      Mdl_long64_p120 σ x0 x1 x2 x4)),
    (13, (
      some (lshl x2 y1, σ))),
    (14, (
      some (lshr x2 y1, σ))),
    (15, (
      some (lushr x2 y1, σ))),
    (16, (
      if y1 = 0 then (
        some (x2, σ))
      else (
        some ((lshl x2 y1) ||| (lushr x2 ((64 : Int32) - y1)), σ)))),
    (17, (
      if y1 = 0 then (
        some (x2, σ))
      else (
        some ((lushr x2 y1) ||| (lshl x2 ((64 : Int32) - y1)), σ))))
    ] (
    Mdl_long64_p194 σ x1 x2 x4)
theorem V.ctX17_long64 (x0 : Nat) (x1 : Int32) (x2 : Int64) (x4 : Int64) : Ct yX17_long64  cX17_long64 7 (some .long) 2 54 eJ [av x0, iv x1, jv x2, jv x4] (fun σ => Mdl_long64 σ x0 x1 x2 x4) := by
  refine Ct.of (own := RX17) (nm := "long64") (desc := "(IJJ)J") rfl (by decide) (Nat.le_of_ble_eq_true rfl) (by decide) (fun X σ => ?_)
  show G X RX17 "long64" cX17_long64 7 (some .long) 2 54 enJ 0 [(0, av x0), (1, iv x1), (2, jv x2), (4, jv x4)] [] σ (Mdl_long64 σ x0 x1 x2 x4)
  unfold Mdl_long64
  refine g_lload 3 dX17_long64_0 rfl ?_
  refine g_l2i dX17_long64_2 ?_
  refine g_bipush (v := 63) dX17_long64_3 (by decide) ?_
  refine g_iand dX17_long64_5 ?_
  refine g_nmI (fun y1 => ?_)
  refine g_istore dX17_long64_6 (by decide) rfl ?_
  refine g_iload_n 1 2 dX17_long64_8 rfl rfl ?_
  refine g_tsw dX17_long64_9 (by decide +kernel) ?_
  refine g_case ex0 (t := 96) (by decide +kernel) ?_ (fun hx => ?_)
  · refine g_lload_n 2 3 dX17_long64_96 rfl rfl ?_
    refine g_bipush (v := 64) dX17_long64_97 (by decide) ?_
    refine g_iconst (v := 1) dX17_long64_99 (by decide) ?_
    refine g_callS (fc := fun sς => Mdl_zeros sς x2 (64 : Int32) (1 : Int32)) (as := [jv x2, iv (64 : Int32), iv (1 : Int32)]) q4214 mdX17_831 (ctX17_zeros x2 (64 : Int32) (1 : Int32)) rfl (Nat.le_of_ble_eq_true rfl) (Nat.le_of_ble_eq_true rfl) (Nat.le_of_ble_eq_true rfl) pu_I dX17_long64_100 (fun r3 σ2 => ?_)
    refine g_i2l dX17_long64_103 ?_
    exact g_lreturn rfl dX17_long64_104
  refine g_case hx (t := 105) (by decide +kernel) ?_ (fun hx => ?_)
  · refine g_lload_n 2 3 dX17_long64_105 rfl rfl ?_
    refine g_bipush (v := 64) dX17_long64_106 (by decide) ?_
    refine g_iconst (v := 0) dX17_long64_108 (by decide) ?_
    refine g_callS (fc := fun sς => Mdl_zeros sς x2 (64 : Int32) (0 : Int32)) (as := [jv x2, iv (64 : Int32), iv (0 : Int32)]) q4214 mdX17_831 (ctX17_zeros x2 (64 : Int32) (0 : Int32)) rfl (Nat.le_of_ble_eq_true rfl) (Nat.le_of_ble_eq_true rfl) (Nat.le_of_ble_eq_true rfl) pu_I dX17_long64_109 (fun r5 σ4 => ?_)
    refine g_i2l dX17_long64_112 ?_
    exact g_lreturn rfl dX17_long64_113
  refine g_case hx (t := 114) (by decide +kernel) ?_ (fun hx => ?_)
  · refine g_lload_n 2 3 dX17_long64_114 rfl rfl ?_
    refine g_callS (fc := fun sς => Mdl_ones sς x2) (as := [jv x2]) q4217 mdX17_835 (ctX17_ones x2) rfl (Nat.le_of_ble_eq_true rfl) (Nat.le_of_ble_eq_true rfl) (Nat.le_of_ble_eq_true rfl) pu_I dX17_long64_115 (fun r7 σ6 => ?_)
    refine g_i2l dX17_long64_118 ?_
    exact g_lreturn rfl dX17_long64_119
  refine g_case hx (t := 120) (by decide +kernel) ?_ (fun hx => ?_)
  · refine G.sub [1, 2, 3, 4] rfl ?_
    exact gX17_long64_p120 _ _ _ _ _
  refine g_case hx (t := 120) (by decide +kernel) ?_ (fun hx => ?_)
  · refine G.sub [1, 2, 3, 4] rfl ?_
    exact gX17_long64_p120 _ _ _ _ _
  refine g_case hx (t := 120) (by decide +kernel) ?_ (fun hx => ?_)
  · refine G.sub [1, 2, 3, 4] rfl ?_
    exact gX17_long64_p120 _ _ _ _ _
  refine g_case hx (t := 120) (by decide +kernel) ?_ (fun hx => ?_)
  · refine G.sub [1, 2, 3, 4] rfl ?_
    exact gX17_long64_p120 _ _ _ _ _
  refine g_case hx (t := 135) (by decide +kernel) ?_ (fun hx => ?_)
  · refine g_lload_n 2 3 dX17_long64_135 rfl rfl ?_
    refine g_iload 0 dX17_long64_136 rfl ?_
    refine g_lshl dX17_long64_138 ?_
    exact g_lreturn rfl dX17_long64_139
  refine g_case hx (t := 140) (by decide +kernel) ?_ (fun hx => ?_)
  · refine g_lload_n 2 3 dX17_long64_140 rfl rfl ?_
    refine g_iload 0 dX17_long64_141 rfl ?_
    refine g_lshr dX17_long64_143 ?_
    exact g_lreturn rfl dX17_long64_144
  refine g_case hx (t := 145) (by decide +kernel) ?_ (fun hx => ?_)
  · refine g_lload_n 2 3 dX17_long64_145 rfl rfl ?_
    refine g_iload 0 dX17_long64_146 rfl ?_
    refine g_lushr dX17_long64_148 ?_
    exact g_lreturn rfl dX17_long64_149
  refine g_case hx (t := 150) (by decide +kernel) ?_ (fun hx => ?_)
  · refine g_iload 0 dX17_long64_150 rfl ?_
    refine g_if_ne 159 dX17_long64_152 (by decide) ?_ ?_
    · refine g_lload_n 2 3 dX17_long64_159 rfl rfl ?_
      refine g_iload 0 dX17_long64_160 rfl ?_
      refine g_lshl dX17_long64_162 ?_
      refine g_lload_n 2 3 dX17_long64_163 rfl rfl ?_
      refine g_bipush (v := 64) dX17_long64_164 (by decide) ?_
      refine g_iload 0 dX17_long64_166 rfl ?_
      refine g_isub dX17_long64_168 ?_
      refine g_lushr dX17_long64_169 ?_
      refine g_lor dX17_long64_170 ?_
      exact g_lreturn rfl dX17_long64_171
    · refine g_lload_n 2 3 dX17_long64_155 rfl rfl ?_
      refine g_goto 171 dX17_long64_156 (by decide) ?_
      exact g_lreturn rfl dX17_long64_171
  refine g_case hx (t := 172) (by decide +kernel) ?_ (fun hx => ?_)
  · refine g_iload 0 dX17_long64_172 rfl ?_
    refine g_if_ne 181 dX17_long64_174 (by decide) ?_ ?_
    · refine g_lload_n 2 3 dX17_long64_181 rfl rfl ?_
      refine g_iload 0 dX17_long64_182 rfl ?_
      refine g_lushr dX17_long64_184 ?_
      refine g_lload_n 2 3 dX17_long64_185 rfl rfl ?_
      refine g_bipush (v := 64) dX17_long64_186 (by decide) ?_
      refine g_iload 0 dX17_long64_188 rfl ?_
      refine g_isub dX17_long64_190 ?_
      refine g_lshl dX17_long64_191 ?_
      refine g_lor dX17_long64_192 ?_
      exact g_lreturn rfl dX17_long64_193
    · refine g_lload_n 2 3 dX17_long64_177 rfl rfl ?_
      refine g_goto 193 dX17_long64_178 (by decide) ?_
      exact g_lreturn rfl dX17_long64_193
  refine g_dflt (t := 194) (tswT_d (by decide +kernel) (by decide +kernel) hx) ?_
  refine G.sub [2, 3, 4] rfl ?_
  exact gX17_long64_p194 _ _ _ _
theorem V.dX17_noneOf_0 : decode cX17_noneOf 0 = .ok (.iload_n 0, 1) := by decide +kernel
theorem V.dX17_noneOf_1 : decode cX17_noneOf 1 = .ok (.iconst 2, 1) := by decide +kernel
theorem V.dX17_noneOf_2 : decode cX17_noneOf 2 = .ok (.if_icmp .ne 9, 3) := by decide +kernel
theorem V.dX17_noneOf_5 : decode cX17_noneOf 5 = .ok (.ldc2_w 861, 3) := by decide +kernel
theorem V.dX17_noneOf_8 : decode cX17_noneOf 8 = .ok (.goto 6, 3) := by decide +kernel
theorem V.dX17_noneOf_11 : decode cX17_noneOf 11 = .ok (.ldc2_w 863, 3) := by decide +kernel
theorem V.dX17_noneOf_14 : decode cX17_noneOf 14 = .ok (.lreturn, 1) := by decide +kernel
/-! ModuleEngineModel.noneOf(I)J -/
def V.Mdl_noneOf (σ : HS) (x0 : Int32) : Option (Int64 × HS) :=
  if x0 = (2 : Int32) then (
    some ((2143289344 : Int64), σ))
  else (
    some ((9221120237041090560 : Int64), σ))
theorem V.ctX17_noneOf (x0 : Int32) : Ct yX17_noneOf  cX17_noneOf 1 (some .long) 0 0 eJ [iv x0] (fun σ => Mdl_noneOf σ x0) := by
  refine Ct.of (own := RX17) (nm := "noneOf") (desc := "(I)J") rfl (by decide) (Nat.le_of_ble_eq_true rfl) (by decide) (fun X σ => ?_)
  show G X RX17 "noneOf" cX17_noneOf 1 (some .long) 0 0 enJ 0 [(0, iv x0)] [] σ (Mdl_noneOf σ x0)
  unfold Mdl_noneOf
  refine g_iload_n 0 0 dX17_noneOf_0 rfl rfl ?_
  refine g_iconst (v := 2) dX17_noneOf_1 (by decide) ?_
  refine g_icmp_ne 11 dX17_noneOf_2 (by decide) ?_ ?_
  · refine g_ldc2 q4254 dX17_noneOf_11 ?_
    exact g_lreturn rfl dX17_noneOf_14
  · refine g_ldc2 q4253 dX17_noneOf_5 ?_
    refine g_goto 14 dX17_noneOf_8 (by decide) ?_
    exact g_lreturn rfl dX17_noneOf_14
theorem V.dX17_withSign_0 : decode cX17_withSign 0 = .ok (.iload_n 1, 1) := by decide +kernel
theorem V.dX17_withSign_1 : decode cX17_withSign 1 = .ok (.ifCond .eq 12, 3) := by decide +kernel
theorem V.dX17_withSign_4 : decode cX17_withSign 4 = .ok (.lload_n 2, 1) := by decide +kernel
theorem V.dX17_withSign_5 : decode cX17_withSign 5 = .ok (.iload_n 0, 1) := by decide +kernel
theorem V.dX17_withSign_6 : decode cX17_withSign 6 = .ok (.invokestatic 865, 3) := by decide +kernel
theorem V.dX17_withSign_9 : decode cX17_withSign 9 = .ok (.lor, 1) := by decide +kernel
theorem V.dX17_withSign_10 : decode cX17_withSign 10 = .ok (.goto 4, 3) := by decide +kernel
theorem V.dX17_withSign_13 : decode cX17_withSign 13 = .ok (.lload_n 2, 1) := by decide +kernel
theorem V.dX17_withSign_14 : decode cX17_withSign 14 = .ok (.lreturn, 1) := by decide +kernel
/-! ModuleEngineModel.withSign(IZJ)J -/
def V.Mdl_withSign (σ : HS) (x0 : Int32) (x1 : Int32) (x2 : Int64) : Option (Int64 × HS) :=
  if x1 = 0 then (
    some (x2, σ))
  else (
    cl (Mdl_signOf σ x0) fun r2 σ1 =>
    some (x2 ||| r2, σ1))
theorem V.ctX17_withSign (x0 : Int32) (x1 : Int32) (x2 : Int64) : Ct yX17_withSign  cX17_withSign 4 (some .long) 1 20 eJ [iv x0, iv x1, jv x2] (fun σ => Mdl_withSign σ x0 x1 x2) := by
  refine Ct.of (own := RX17) (nm := "withSign") (desc := "(IZJ)J") rfl (by decide) (Nat.le_of_ble_eq_true rfl) (by decide) (fun X σ => ?_)
  show G X RX17 "withSign" cX17_withSign 4 (some .long) 1 20 enJ 0 [(0, iv x0), (1, iv x1), (2, jv x2)] [] σ (Mdl_withSign σ x0 x1 x2)
  unfold Mdl_withSign
  refine g_iload_n 1 1 dX17_withSign_0 rfl rfl ?_
  refine g_if_eq 13 dX17_withSign_1 (by decide) ?_ ?_
  · refine g_lload_n 2 2 dX17_withSign_13 rfl rfl ?_
    exact g_lreturn rfl dX17_withSign_14
  · refine g_lload_n 2 2 dX17_withSign_4 rfl rfl ?_
    refine g_iload_n 0 0 dX17_withSign_5 rfl rfl ?_
    refine g_callS (fc := fun sς => Mdl_signOf sς x0) (as := [iv x0]) q4207 mdX17_865 (ctX17_signOf x0) rfl (Nat.le_of_ble_eq_true rfl) (Nat.le_of_ble_eq_true rfl) (Nat.le_of_ble_eq_true rfl) pu_J dX17_withSign_6 (fun r2 σ1 => ?_)
    refine g_lor dX17_withSign_9 ?_
    refine g_goto 14 dX17_withSign_10 (by decide) ?_
    exact g_lreturn rfl dX17_withSign_14
theorem V.dX17_length_0 : decode cX17_length 0 = .ok (.iconst 0, 1) := by decide +kernel
theorem V.dX17_length_1 : decode cX17_length 1 = .ok (.istore 4, 2) := by decide +kernel
theorem V.dX17_length_3 : decode cX17_length 3 = .ok (.lload_n 0, 1) := by decide +kernel
theorem V.dX17_length_4 : decode cX17_length 4 = .ok (.lconst 0, 1) := by decide +kernel
theorem V.dX17_length_5 : decode cX17_length 5 = .ok (.lcmp, 1) := by decide +kernel
theorem V.dX17_length_6 : decode cX17_length 6 = .ok (.ifCond .eq 7, 3) := by decide +kernel
theorem V.dX17_length_9 : decode cX17_length 9 = .ok (.lload_n 0, 1) := by decide +kernel
theorem V.dX17_length_10 : decode cX17_length 10 = .ok (.goto 4, 3) := by decide +kernel
theorem V.dX17_length_13 : decode cX17_length 13 = .ok (.lload_n 2, 1) := by decide +kernel
theorem V.dX17_length_14 : decode cX17_length 14 = .ok (.lstore 5, 2) := by decide +kernel
theorem V.dX17_length_16 : decode cX17_length 16 = .ok (.iload 4, 2) := by decide +kernel
theorem V.dX17_length_18 : decode cX17_length 18 = .ok (.bipush 64, 2) := by decide +kernel
theorem V.dX17_length_20 : decode cX17_length 20 = .ok (.if_icmp .ge 19, 3) := by decide +kernel
theorem V.dX17_length_23 : decode cX17_length 23 = .ok (.lload 5, 2) := by decide +kernel
theorem V.dX17_length_25 : decode cX17_length 25 = .ok (.iload 4, 2) := by decide +kernel
theorem V.dX17_length_27 : decode cX17_length 27 = .ok (.lushr, 1) := by decide +kernel
theorem V.dX17_length_28 : decode cX17_length 28 = .ok (.lconst 0, 1) := by decide +kernel
theorem V.dX17_length_29 : decode cX17_length 29 = .ok (.lcmp, 1) := by decide +kernel
theorem V.dX17_length_30 : decode cX17_length 30 = .ok (.ifCond .eq 9, 3) := by decide +kernel
theorem V.dX17_length_33 : decode cX17_length 33 = .ok (.iinc 4 1, 3) := by decide +kernel
theorem V.dX17_length_36 : decode cX17_length 36 = .ok (.goto (-20), 3) := by decide +kernel
theorem V.dX17_length_39 : decode cX17_length 39 = .ok (.lload_n 0, 1) := by decide +kernel
theorem V.dX17_length_40 : decode cX17_length 40 = .ok (.lconst 0, 1) := by decide +kernel
theorem V.dX17_length_41 : decode cX17_length 41 = .ok (.lcmp, 1) := by decide +kernel
theorem V.dX17_length_42 : decode cX17_length 42 = .ok (.ifCond .eq 11, 3) := by decide +kernel
theorem V.dX17_length_45 : decode cX17_length 45 = .ok (.bipush 64, 2) := by decide +kernel
theorem V.dX17_length_47 : decode cX17_length 47 = .ok (.iload 4, 2) := by decide +kernel
theorem V.dX17_length_49 : decode cX17_length 49 = .ok (.iadd, 1) := by decide +kernel
theorem V.dX17_length_50 : decode cX17_length 50 = .ok (.goto 5, 3) := by decide +kernel
theorem V.dX17_length_53 : decode cX17_length 53 = .ok (.iload 4, 2) := by decide +kernel
theorem V.dX17_length_55 : decode cX17_length 55 = .ok (.ireturn, 1) := by decide +kernel
/-! ModuleEngineModel.length(JJ)I -/
def V.Mdl_length_p39  (σ : HS) (x0 : Int64) (x4 : Int32) : Option (Int32 × HS) :=
  if x0 = (0 : Int64) then (
    some (x4, σ))
  else (
    some ((64 : Int32) + x4, σ))
theorem V.gX17_length_p39 {X : CX}  (σ : HS) (x0 : Int64) (x4 : Int32) : G X RX17 "length" cX17_length 7 (some .int) 0 0 enI 39 [(0, jv x0), (4, iv x4)] [] σ (Mdl_length_p39 σ x0 x4) := by
  unfold Mdl_length_p39
  refine g_lload_n 0 0 dX17_length_39 rfl rfl ?_
  refine g_lconst (v := 0) dX17_length_40 (by decide) ?_
  refine g_lcmp_eq 53 dX17_length_41 dX17_length_42 (by decide) ?_ ?_
  · refine g_iload 1 dX17_length_53 rfl ?_
    exact g_ireturn rfl dX17_length_55
  · refine g_bipush (v := 64) dX17_length_45 (by decide) ?_
    refine g_iload 1 dX17_length_47 rfl ?_
    refine g_iadd dX17_length_49 ?_
    refine g_goto 55 dX17_length_50 (by decide) ?_
    exact g_ireturn rfl dX17_length_55
def V.Mdl_length_p16  : Nat → HS → Int64 → Int32 → Int64 → Option (Int32 × HS)
  | 0, _, _, _, _ => none
  | n + 1, σ, x0, x4, x5 =>
    if (64 : Int32) ≤ x4 then (
      Mdl_length_p39 σ x0 x4)
    else (
      if (lushr x5 x4) = (0 : Int64) then (
        Mdl_length_p39 σ x0 x4)
      else (
        bn (x4 + (1 : Int32)) fun y1 =>
        Mdl_length_p16 n σ x0 y1 x5))
theorem V.gX17_length_p16 {X : CX}  : ∀ (n : Nat) (σ : HS) (x0 : Int64) (x4 : Int32) (x5 : Int64), G X RX17 "length" cX17_length 7 (some .int) 0 0 enI 16 [(0, jv x0), (4, iv x4), (5, jv x5)] [] σ (Mdl_length_p16 n σ x0 x4 x5)
  | 0, σ, x0, x4, x5 => by rw [Mdl_length_p16]; exact G.nul
  | n + 1, σ, x0, x4, x5 => by
    rw [Mdl_length_p16]
    refine g_iload 1 dX17_length_16 rfl ?_
    refine g_bipush (v := 64) dX17_length_18 (by decide) ?_
    refine g_icmp_ge 39 dX17_length_20 (by decide) ?_ ?_
    · refine G.sub [0, 1] rfl ?_
      exact gX17_length_p39 _ _ _
    · refine g_lload 2 dX17_length_23 rfl ?_
      refine g_iload 1 dX17_length_25 rfl ?_
      refine g_lushr dX17_length_27 ?_
      refine g_lconst (v := 0) dX17_length_28 (by decide) ?_
      refine g_lcmp_eq 39 dX17_length_29 dX17_length_30 (by decide) ?_ ?_
      · refine G.sub [0, 1] rfl ?_
        exact gX17_length_p39 _ _ _
      · refine g_iincB (w := 1) 1 dX17_length_33 rfl (by decide) (by decide) (fun _ => rfl) (fun y1 => ?_)
        refine g_goto 16 dX17_length_36 (by decide) ?_
        refine G.sub [1, 0, 2] rfl ?_
        exact gX17_length_p16 n _ _ _ _
def V.Mdl_length_p14  (σ : HS) (x0 : Int64) (x4 : Int32) (s0 : Int64) : Option (Int32 × HS) :=
  Mdl_length_p16 FU σ x0 x4 s0
theorem V.gX17_length_p14 {X : CX}  (σ : HS) (x0 : Int64) (x4 : Int32) (s0 : Int64) : G X RX17 "length" cX17_length 7 (some .int) 0 0 enI 14 [(0, jv x0), (4, iv x4)] [jv s0] σ (Mdl_length_p14 σ x0 x4 s0) := by
  unfold Mdl_length_p14
  refine g_lstore dX17_length_14 (by decide) rfl ?_
  refine G.sub [1, 2, 0] rfl ?_
  exact gX17_length_p16 FU _ _ _ _
def V.Mdl_length (σ : HS) (x0 : Int64) (x2 : Int64) : Option (Int32 × HS) :=
  if x0 = (0 : Int64) then (
    Mdl_length_p14 σ x0 (0 : Int32) x2)
  else (
    Mdl_length_p14 σ x0 (0 : Int32) x0)
theorem V.ctX17_length (x0 : Int64) (x2 : Int64) : Ct yX17_length  cX17_length 7 (some .int) 0 0 eI [jv x0, jv x2] (fun σ => Mdl_length σ x0 x2) := by
  refine Ct.of (own := RX17) (nm := "length") (desc := "(JJ)I") rfl (by decide) (Nat.le_of_ble_eq_true rfl) (by decide) (fun X σ => ?_)
  show G X RX17 "length" cX17_length 7 (some .int) 0 0 enI 0 [(0, jv x0), (2, jv x2)] [] σ (Mdl_length σ x0 x2)
  unfold Mdl_length
  refine g_iconst (v := 0) dX17_length_0 (by decide) ?_
  refine g_istore dX17_length_1 (by decide) rfl ?_
  refine g_lload_n 0 1 dX17_length_3 rfl rfl ?_
  refine g_lconst (v := 0) dX17_length_4 (by decide) ?_
  refine g_lcmp_eq 13 dX17_length_5 dX17_length_6 (by decide) ?_ ?_
  · refine g_lload_n 2 2 dX17_length_13 rfl rfl ?_
    refine G.sub [1, 0] rfl ?_
    exact gX17_length_p14 _ _ _ _
  · refine g_lload_n 0 1 dX17_length_9 rfl rfl ?_
    refine g_goto 14 dX17_length_10 (by decide) ?_
    refine G.sub [1, 0] rfl ?_
    exact gX17_length_p14 _ _ _ _
theorem V.dX17_infinite_0 : decode cX17_infinite 0 = .ok (.iload_n 0, 1) := by decide +kernel
theorem V.dX17_infinite_1 : decode cX17_infinite 1 = .ok (.iconst 2, 1) := by decide +kernel
theorem V.dX17_infinite_2 : decode cX17_infinite 2 = .ok (.if_icmp .ne 9, 3) := by decide +kernel
theorem V.dX17_infinite_5 : decode cX17_infinite 5 = .ok (.ldc2_w 857, 3) := by decide +kernel
theorem V.dX17_infinite_8 : decode cX17_infinite 8 = .ok (.goto 6, 3) := by decide +kernel
theorem V.dX17_infinite_11 : decode cX17_infinite 11 = .ok (.ldc2_w 859, 3) := by decide +kernel
theorem V.dX17_infinite_14 : decode cX17_infinite 14 = .ok (.lreturn, 1) := by decide +kernel
/-! ModuleEngineModel.infinite(I)J -/
def V.Mdl_infinite (σ : HS) (x0 : Int32) : Option (Int64 × HS) :=
  if x0 = (2 : Int32) then (
    some ((2139095040 : Int64), σ))
  else (
    some ((9218868437227405312 : Int64), σ))
theorem V.ctX17_infinite (x0 : Int32) : Ct yX17_infinite  cX17_infinite 1 (some .long) 0 0 eJ [iv x0] (fun σ => Mdl_infinite σ x0) := by
  refine Ct.of (own := RX17) (nm := "infinite") (desc := "(I)J") rfl (by decide) (Nat.le_of_ble_eq_true rfl) (by decide) (fun X σ => ?_)
  show G X RX17 "infinite" cX17_infinite 1 (some .long) 0 0 enJ 0 [(0, iv x0)] [] σ (Mdl_infinite σ x0)
  unfold Mdl_infinite
  refine g_iload_n 0 0 dX17_infinite_0 rfl rfl ?_
  refine g_iconst (v := 2) dX17_infinite_1 (by decide) ?_
  refine g_icmp_ne 11 dX17_infinite_2 (by decide) ?_ ?_
  · refine g_ldc2 q4270 dX17_infinite_11 ?_
    exact g_lreturn rfl dX17_infinite_14
  · refine g_ldc2 q4269 dX17_infinite_5 ?_
    refine g_goto 14 dX17_infinite_8 (by decide) ?_
    exact g_lreturn rfl dX17_infinite_14
theorem V.dX17_rounded_0 : decode cX17_rounded 0 = .ok (.iload_n 0, 1) := by decide +kernel
theorem V.dX17_rounded_1 : decode cX17_rounded 1 = .ok (.iconst 2, 1) := by decide +kernel
theorem V.dX17_rounded_2 : decode cX17_rounded 2 = .ok (.if_icmp .ne 8, 3) := by decide +kernel
theorem V.dX17_rounded_5 : decode cX17_rounded 5 = .ok (.bipush 24, 2) := by decide +kernel
theorem V.dX17_rounded_7 : decode cX17_rounded 7 = .ok (.goto 5, 3) := by decide +kernel
theorem V.dX17_rounded_10 : decode cX17_rounded 10 = .ok (.bipush 53, 2) := by decide +kernel
theorem V.dX17_rounded_12 : decode cX17_rounded 12 = .ok (.istore 8, 2) := by decide +kernel
theorem V.dX17_rounded_14 : decode cX17_rounded 14 = .ok (.iload_n 0, 1) := by decide +kernel
theorem V.dX17_rounded_15 : decode cX17_rounded 15 = .ok (.iconst 2, 1) := by decide +kernel
theorem V.dX17_rounded_16 : decode cX17_rounded 16 = .ok (.if_icmp .ne 9, 3) := by decide +kernel
theorem V.dX17_rounded_19 : decode cX17_rounded 19 = .ok (.sipush (-149), 3) := by decide +kernel
theorem V.dX17_rounded_22 : decode cX17_rounded 22 = .ok (.goto 6, 3) := by decide +kernel
theorem V.dX17_rounded_25 : decode cX17_rounded 25 = .ok (.sipush (-1074), 3) := by decide +kernel
theorem V.dX17_rounded_28 : decode cX17_rounded 28 = .ok (.istore 9, 2) := by decide +kernel
theorem V.dX17_rounded_30 : decode cX17_rounded 30 = .ok (.iload 6, 2) := by decide +kernel
theorem V.dX17_rounded_32 : decode cX17_rounded 32 = .ok (.lload_n 2, 1) := by decide +kernel
theorem V.dX17_rounded_33 : decode cX17_rounded 33 = .ok (.lload 4, 2) := by decide +kernel
theorem V.dX17_rounded_35 : decode cX17_rounded 35 = .ok (.invokestatic 878, 3) := by decide +kernel
theorem V.dX17_rounded_38 : decode cX17_rounded 38 = .ok (.iadd, 1) := by decide +kernel
theorem V.dX17_rounded_39 : decode cX17_rounded 39 = .ok (.iload 8, 2) := by decide +kernel
theorem V.dX17_rounded_41 : decode cX17_rounded 41 = .ok (.isub, 1) := by decide +kernel
theorem V.dX17_rounded_42 : decode cX17_rounded 42 = .ok (.istore 10, 2) := by decide +kernel
theorem V.dX17_rounded_44 : decode cX17_rounded 44 = .ok (.iload 10, 2) := by decide +kernel
theorem V.dX17_rounded_46 : decode cX17_rounded 46 = .ok (.iload 9, 2) := by decide +kernel
theorem V.dX17_rounded_48 : decode cX17_rounded 48 = .ok (.if_icmp .ge 8, 3) := by decide +kernel
theorem V.dX17_rounded_51 : decode cX17_rounded 51 = .ok (.iload 9, 2) := by decide +kernel
theorem V.dX17_rounded_53 : decode cX17_rounded 53 = .ok (.goto 5, 3) := by decide +kernel
theorem V.dX17_rounded_56 : decode cX17_rounded 56 = .ok (.iload 10, 2) := by decide +kernel
theorem V.dX17_rounded_58 : decode cX17_rounded 58 = .ok (.istore 10, 2) := by decide +kernel
theorem V.dX17_rounded_60 : decode cX17_rounded 60 = .ok (.lload_n 2, 1) := by decide +kernel
theorem V.dX17_rounded_61 : decode cX17_rounded 61 = .ok (.lstore 11, 2) := by decide +kernel
theorem V.dX17_rounded_63 : decode cX17_rounded 63 = .ok (.iload 10, 2) := by decide +kernel
theorem V.dX17_rounded_65 : decode cX17_rounded 65 = .ok (.iload 6, 2) := by decide +kernel
theorem V.dX17_rounded_67 : decode cX17_rounded 67 = .ok (.if_icmp .le 8, 3) := by decide +kernel
theorem V.dX17_rounded_70 : decode cX17_rounded 70 = .ok (.lload 4, 2) := by decide +kernel
theorem V.dX17_rounded_72 : decode cX17_rounded 72 = .ok (.goto 11, 3) := by decide +kernel
theorem V.dX17_rounded_75 : decode cX17_rounded 75 = .ok (.lload 4, 2) := by decide +kernel
theorem V.dX17_rounded_77 : decode cX17_rounded 77 = .ok (.iload 6, 2) := by decide +kernel
theorem V.dX17_rounded_79 : decode cX17_rounded 79 = .ok (.iload 10, 2) := by decide +kernel
theorem V.dX17_rounded_81 : decode cX17_rounded 81 = .ok (.isub, 1) := by decide +kernel
theorem V.dX17_rounded_82 : decode cX17_rounded 82 = .ok (.lshl, 1) := by decide +kernel
theorem V.dX17_rounded_83 : decode cX17_rounded 83 = .ok (.lstore 13, 2) := by decide +kernel
theorem V.dX17_rounded_85 : decode cX17_rounded 85 = .ok (.iconst 0, 1) := by decide +kernel
theorem V.dX17_rounded_86 : decode cX17_rounded 86 = .ok (.istore 15, 2) := by decide +kernel
theorem V.dX17_rounded_88 : decode cX17_rounded 88 = .ok (.iload 7, 2) := by decide +kernel
theorem V.dX17_rounded_90 : decode cX17_rounded 90 = .ok (.istore 16, 2) := by decide +kernel
theorem V.dX17_rounded_92 : decode cX17_rounded 92 = .ok (.iload 6, 2) := by decide +kernel
theorem V.dX17_rounded_94 : decode cX17_rounded 94 = .ok (.istore 17, 2) := by decide +kernel
theorem V.dX17_rounded_96 : decode cX17_rounded 96 = .ok (.iload 17, 2) := by decide +kernel
theorem V.dX17_rounded_98 : decode cX17_rounded 98 = .ok (.iload 10, 2) := by decide +kernel
theorem V.dX17_rounded_100 : decode cX17_rounded 100 = .ok (.if_icmp .ge 79, 3) := by decide +kernel
theorem V.dX17_rounded_103 : decode cX17_rounded 103 = .ok (.lload 11, 2) := by decide +kernel
theorem V.dX17_rounded_105 : decode cX17_rounded 105 = .ok (.lconst 0, 1) := by decide +kernel
theorem V.dX17_rounded_106 : decode cX17_rounded 106 = .ok (.lcmp, 1) := by decide +kernel
theorem V.dX17_rounded_107 : decode cX17_rounded 107 = .ok (.ifCond .ne 15, 3) := by decide +kernel
theorem V.dX17_rounded_110 : decode cX17_rounded 110 = .ok (.lload 13, 2) := by decide +kernel
theorem V.dX17_rounded_112 : decode cX17_rounded 112 = .ok (.lconst 0, 1) := by decide +kernel
theorem V.dX17_rounded_113 : decode cX17_rounded 113 = .ok (.lcmp, 1) := by decide +kernel
theorem V.dX17_rounded_114 : decode cX17_rounded 114 = .ok (.ifCond .ne 8, 3) := by decide +kernel
theorem V.dX17_rounded_117 : decode cX17_rounded 117 = .ok (.iload 15, 2) := by decide +kernel
theorem V.dX17_rounded_119 : decode cX17_rounded 119 = .ok (.ifCond .eq 60, 3) := by decide +kernel
theorem V.dX17_rounded_122 : decode cX17_rounded 122 = .ok (.iload 16, 2) := by decide +kernel
theorem V.dX17_rounded_124 : decode cX17_rounded 124 = .ok (.ifCond .ne 8, 3) := by decide +kernel
theorem V.dX17_rounded_127 : decode cX17_rounded 127 = .ok (.iload 15, 2) := by decide +kernel
theorem V.dX17_rounded_129 : decode cX17_rounded 129 = .ok (.ifCond .eq 7, 3) := by decide +kernel
theorem V.dX17_rounded_132 : decode cX17_rounded 132 = .ok (.iconst 1, 1) := by decide +kernel
theorem V.dX17_rounded_133 : decode cX17_rounded 133 = .ok (.goto 4, 3) := by decide +kernel
theorem V.dX17_rounded_136 : decode cX17_rounded 136 = .ok (.iconst 0, 1) := by decide +kernel
theorem V.dX17_rounded_137 : decode cX17_rounded 137 = .ok (.istore 16, 2) := by decide +kernel
theorem V.dX17_rounded_139 : decode cX17_rounded 139 = .ok (.lload 13, 2) := by decide +kernel
theorem V.dX17_rounded_141 : decode cX17_rounded 141 = .ok (.lconst 1, 1) := by decide +kernel
theorem V.dX17_rounded_142 : decode cX17_rounded 142 = .ok (.land, 1) := by decide +kernel
theorem V.dX17_rounded_143 : decode cX17_rounded 143 = .ok (.lconst 1, 1) := by decide +kernel
theorem V.dX17_rounded_144 : decode cX17_rounded 144 = .ok (.lcmp, 1) := by decide +kernel
theorem V.dX17_rounded_145 : decode cX17_rounded 145 = .ok (.ifCond .ne 7, 3) := by decide +kernel
theorem V.dX17_rounded_148 : decode cX17_rounded 148 = .ok (.iconst 1, 1) := by decide +kernel
theorem V.dX17_rounded_149 : decode cX17_rounded 149 = .ok (.goto 4, 3) := by decide +kernel
theorem V.dX17_rounded_152 : decode cX17_rounded 152 = .ok (.iconst 0, 1) := by decide +kernel
theorem V.dX17_rounded_153 : decode cX17_rounded 153 = .ok (.istore 15, 2) := by decide +kernel
theorem V.dX17_rounded_155 : decode cX17_rounded 155 = .ok (.lload 13, 2) := by decide +kernel
theorem V.dX17_rounded_157 : decode cX17_rounded 157 = .ok (.iconst 1, 1) := by decide +kernel
theorem V.dX17_rounded_158 : decode cX17_rounded 158 = .ok (.lushr, 1) := by decide +kernel
theorem V.dX17_rounded_159 : decode cX17_rounded 159 = .ok (.lload 11, 2) := by decide +kernel
theorem V.dX17_rounded_161 : decode cX17_rounded 161 = .ok (.bipush 63, 2) := by decide +kernel
theorem V.dX17_rounded_163 : decode cX17_rounded 163 = .ok (.lshl, 1) := by decide +kernel
theorem V.dX17_rounded_164 : decode cX17_rounded 164 = .ok (.lor, 1) := by decide +kernel
theorem V.dX17_rounded_165 : decode cX17_rounded 165 = .ok (.lstore 13, 2) := by decide +kernel
theorem V.dX17_rounded_167 : decode cX17_rounded 167 = .ok (.lload 11, 2) := by decide +kernel
theorem V.dX17_rounded_169 : decode cX17_rounded 169 = .ok (.iconst 1, 1) := by decide +kernel
theorem V.dX17_rounded_170 : decode cX17_rounded 170 = .ok (.lushr, 1) := by decide +kernel
theorem V.dX17_rounded_171 : decode cX17_rounded 171 = .ok (.lstore 11, 2) := by decide +kernel
theorem V.dX17_rounded_173 : decode cX17_rounded 173 = .ok (.iinc 17 1, 3) := by decide +kernel
theorem V.dX17_rounded_176 : decode cX17_rounded 176 = .ok (.goto (-80), 3) := by decide +kernel
theorem V.dX17_rounded_179 : decode cX17_rounded 179 = .ok (.iload 15, 2) := by decide +kernel
theorem V.dX17_rounded_181 : decode cX17_rounded 181 = .ok (.ifCond .eq 23, 3) := by decide +kernel
theorem V.dX17_rounded_184 : decode cX17_rounded 184 = .ok (.iload 16, 2) := by decide +kernel
theorem V.dX17_rounded_186 : decode cX17_rounded 186 = .ok (.ifCond .ne 12, 3) := by decide +kernel
theorem V.dX17_rounded_189 : decode cX17_rounded 189 = .ok (.lload 13, 2) := by decide +kernel
theorem V.dX17_rounded_191 : decode cX17_rounded 191 = .ok (.lconst 1, 1) := by decide +kernel
theorem V.dX17_rounded_192 : decode cX17_rounded 192 = .ok (.land, 1) := by decide +kernel
theorem V.dX17_rounded_193 : decode cX17_rounded 193 = .ok (.lconst 1, 1) := by decide +kernel
theorem V.dX17_rounded_194 : decode cX17_rounded 194 = .ok (.lcmp, 1) := by decide +kernel
theorem V.dX17_rounded_195 : decode cX17_rounded 195 = .ok (.ifCond .ne 9, 3) := by decide +kernel
theorem V.dX17_rounded_198 : decode cX17_rounded 198 = .ok (.lload 13, 2) := by decide +kernel
theorem V.dX17_rounded_200 : decode cX17_rounded 200 = .ok (.lconst 1, 1) := by decide +kernel
theorem V.dX17_rounded_201 : decode cX17_rounded 201 = .ok (.ladd, 1) := by decide +kernel
theorem V.dX17_rounded_202 : decode cX17_rounded 202 = .ok (.lstore 13, 2) := by decide +kernel
theorem V.dX17_rounded_204 : decode cX17_rounded 204 = .ok (.lload 13, 2) := by decide +kernel
theorem V.dX17_rounded_206 : decode cX17_rounded 206 = .ok (.iload 8, 2) := by decide +kernel
theorem V.dX17_rounded_208 : decode cX17_rounded 208 = .ok (.lshr, 1) := by decide +kernel
theorem V.dX17_rounded_209 : decode cX17_rounded 209 = .ok (.lconst 0, 1) := by decide +kernel
theorem V.dX17_rounded_210 : decode cX17_rounded 210 = .ok (.lcmp, 1) := by decide +kernel
theorem V.dX17_rounded_211 : decode cX17_rounded 211 = .ok (.ifCond .eq 12, 3) := by decide +kernel
theorem V.dX17_rounded_214 : decode cX17_rounded 214 = .ok (.lload 13, 2) := by decide +kernel
theorem V.dX17_rounded_216 : decode cX17_rounded 216 = .ok (.iconst 1, 1) := by decide +kernel
theorem V.dX17_rounded_217 : decode cX17_rounded 217 = .ok (.lshr, 1) := by decide +kernel
theorem V.dX17_rounded_218 : decode cX17_rounded 218 = .ok (.lstore 13, 2) := by decide +kernel
theorem V.dX17_rounded_220 : decode cX17_rounded 220 = .ok (.iinc 10 1, 3) := by decide +kernel
theorem V.dX17_rounded_223 : decode cX17_rounded 223 = .ok (.lload 13, 2) := by decide +kernel
theorem V.dX17_rounded_225 : decode cX17_rounded 225 = .ok (.lconst 1, 1) := by decide +kernel
theorem V.dX17_rounded_226 : decode cX17_rounded 226 = .ok (.iload 8, 2) := by decide +kernel
theorem V.dX17_rounded_228 : decode cX17_rounded 228 = .ok (.iconst 1, 1) := by decide +kernel
theorem V.dX17_rounded_229 : decode cX17_rounded 229 = .ok (.isub, 1) := by decide +kernel
theorem V.dX17_rounded_230 : decode cX17_rounded 230 = .ok (.lshl, 1) := by decide +kernel
theorem V.dX17_rounded_231 : decode cX17_rounded 231 = .ok (.lcmp, 1) := by decide +kernel
theorem V.dX17_rounded_232 : decode cX17_rounded 232 = .ok (.ifCond .ge 11, 3) := by decide +kernel
theorem V.dX17_rounded_235 : decode cX17_rounded 235 = .ok (.iload_n 0, 1) := by decide +kernel
theorem V.dX17_rounded_236 : decode cX17_rounded 236 = .ok (.iload_n 1, 1) := by decide +kernel
theorem V.dX17_rounded_237 : decode cX17_rounded 237 = .ok (.lload 13, 2) := by decide +kernel
theorem V.dX17_rounded_239 : decode cX17_rounded 239 = .ok (.invokestatic 882, 3) := by decide +kernel
theorem V.dX17_rounded_242 : decode cX17_rounded 242 = .ok (.lreturn, 1) := by decide +kernel
theorem V.dX17_rounded_243 : decode cX17_rounded 243 = .ok (.iload 10, 2) := by decide +kernel
theorem V.dX17_rounded_245 : decode cX17_rounded 245 = .ok (.iload 9, 2) := by decide +kernel
theorem V.dX17_rounded_247 : decode cX17_rounded 247 = .ok (.isub, 1) := by decide +kernel
theorem V.dX17_rounded_248 : decode cX17_rounded 248 = .ok (.i2l, 1) := by decide +kernel
theorem V.dX17_rounded_249 : decode cX17_rounded 249 = .ok (.lconst 1, 1) := by decide +kernel
theorem V.dX17_rounded_250 : decode cX17_rounded 250 = .ok (.ladd, 1) := by decide +kernel
theorem V.dX17_rounded_251 : decode cX17_rounded 251 = .ok (.lstore 17, 2) := by decide +kernel
theorem V.dX17_rounded_253 : decode cX17_rounded 253 = .ok (.iload_n 0, 1) := by decide +kernel
theorem V.dX17_rounded_254 : decode cX17_rounded 254 = .ok (.iload_n 1, 1) := by decide +kernel
theorem V.dX17_rounded_255 : decode cX17_rounded 255 = .ok (.lload 17, 2) := by decide +kernel
theorem V.dX17_rounded_257 : decode cX17_rounded 257 = .ok (.iload_n 0, 1) := by decide +kernel
theorem V.dX17_rounded_258 : decode cX17_rounded 258 = .ok (.iconst 2, 1) := by decide +kernel
theorem V.dX17_rounded_259 : decode cX17_rounded 259 = .ok (.if_icmp .ne 9, 3) := by decide +kernel
theorem V.dX17_rounded_262 : decode cX17_rounded 262 = .ok (.ldc2_w 297, 3) := by decide +kernel
theorem V.dX17_rounded_265 : decode cX17_rounded 265 = .ok (.goto 6, 3) := by decide +kernel
theorem V.dX17_rounded_268 : decode cX17_rounded 268 = .ok (.ldc2_w 886, 3) := by decide +kernel
theorem V.dX17_rounded_271 : decode cX17_rounded 271 = .ok (.lcmp, 1) := by decide +kernel
theorem V.dX17_rounded_272 : decode cX17_rounded 272 = .ok (.ifCond .lt 10, 3) := by decide +kernel
theorem V.dX17_rounded_275 : decode cX17_rounded 275 = .ok (.iload_n 0, 1) := by decide +kernel
theorem V.dX17_rounded_276 : decode cX17_rounded 276 = .ok (.invokestatic 888, 3) := by decide +kernel
theorem V.dX17_rounded_279 : decode cX17_rounded 279 = .ok (.goto 20, 3) := by decide +kernel
theorem V.dX17_rounded_282 : decode cX17_rounded 282 = .ok (.lload 17, 2) := by decide +kernel
theorem V.dX17_rounded_284 : decode cX17_rounded 284 = .ok (.iload 8, 2) := by decide +kernel
theorem V.dX17_rounded_286 : decode cX17_rounded 286 = .ok (.iconst 1, 1) := by decide +kernel
theorem V.dX17_rounded_287 : decode cX17_rounded 287 = .ok (.isub, 1) := by decide +kernel
theorem V.dX17_rounded_288 : decode cX17_rounded 288 = .ok (.lshl, 1) := by decide +kernel
theorem V.dX17_rounded_289 : decode cX17_rounded 289 = .ok (.lload 13, 2) := by decide +kernel
theorem V.dX17_rounded_291 : decode cX17_rounded 291 = .ok (.lconst 1, 1) := by decide +kernel
theorem V.dX17_rounded_292 : decode cX17_rounded 292 = .ok (.iload 8, 2) := by decide +kernel
theorem V.dX17_rounded_294 : decode cX17_rounded 294 = .ok (.iconst 1, 1) := by decide +kernel
theorem V.dX17_rounded_295 : decode cX17_rounded 295 = .ok (.isub, 1) := by decide +kernel
theorem V.dX17_rounded_296 : decode cX17_rounded 296 = .ok (.lshl, 1) := by decide +kernel
theorem V.dX17_rounded_297 : decode cX17_rounded 297 = .ok (.lsub, 1) := by decide +kernel
theorem V.dX17_rounded_298 : decode cX17_rounded 298 = .ok (.ladd, 1) := by decide +kernel
theorem V.dX17_rounded_299 : decode cX17_rounded 299 = .ok (.invokestatic 882, 3) := by decide +kernel
theorem V.dX17_rounded_302 : decode cX17_rounded 302 = .ok (.lreturn, 1) := by decide +kernel
theorem V.mdX17_878 : MD RX17 878 yX17_length cX17_length 7 (some .int) 2 := ⟨Or.inl q4262, q377, q4264, by decide, by decide, by decide +kernel⟩
theorem V.mdX17_882 : MD RX17 882 yX17_withSign cX17_withSign 4 (some .long) 3 := ⟨Or.inl q4256, q377, q4258, by decide, by decide, by decide +kernel⟩
theorem V.mdX17_888 : MD RX17 888 yX17_infinite cX17_infinite 1 (some .long) 1 := ⟨Or.inl q4266, q377, q4268, by decide, by decide, by decide +kernel⟩
/-! ModuleEngineModel.rounded(IZJJIZ)J -/
def V.Mdl_rounded_p299  (σ : HS) (s0 : Int64) (s1 : Int32) (s2 : Int32) : Option (Int64 × HS) :=
  cl (Mdl_withSign σ s2 s1 s0) fun r2 σ1 =>
  some (r2, σ1)
theorem V.gX17_rounded_p299 {X : CX}  (σ : HS) (s0 : Int64) (s1 : Int32) (s2 : Int32) : G X RX17 "rounded" cX17_rounded 19 (some .long) 2 43 enJ 299 [] [jv s0, iv s1, iv s2] σ (Mdl_rounded_p299 σ s0 s1 s2) := by
  unfold Mdl_rounded_p299
  refine g_callS (fc := fun sς => Mdl_withSign sς s2 s1 s0) (as := [iv s2, iv s1, jv s0]) q4257 mdX17_882 (ctX17_withSign s2 s1 s0) rfl (Nat.le_of_ble_eq_true rfl) (Nat.le_of_ble_eq_true rfl) (Nat.le_of_ble_eq_true rfl) pu_J dX17_rounded_299 (fun r2 σ1 => ?_)
  exact g_lreturn rfl dX17_rounded_302
def V.Mdl_rounded_p271  (σ : HS) (x0 : Int32) (x8 : Int32) (x13 : Int64) (x17 : Int64) (s0 : Int64) (s1 : Int64) (s2 : Int32) (s3 : Int32) : Option (Int64 × HS) :=
  if s1 < s0 then (
    Mdl_rounded_p299 σ ((lshl x17 (x8 - (1 : Int32))) + (x13 - (lshl (1 : Int64) (x8 - (1 : Int32))))) s2 s3)
  else (
    cl (Mdl_infinite σ x0) fun r2 σ1 =>
    Mdl_rounded_p299 σ1 r2 s2 s3)
theorem V.gX17_rounded_p271 {X : CX}  (σ : HS) (x0 : Int32) (x8 : Int32) (x13 : Int64) (x17 : Int64) (s0 : Int64) (s1 : Int64) (s2 : Int32) (s3 : Int32) : G X RX17 "rounded" cX17_rounded 19 (some .long) 2 43 enJ 271 [(0, iv x0), (8, iv x8), (13, jv x13), (17, jv x17)] [jv s0, jv s1, iv s2, iv s3] σ (Mdl_rounded_p271 σ x0 x8 x13 x17 s0 s1 s2 s3) := by
  unfold Mdl_rounded_p271
  refine g_lcmp_lt 282 dX17_rounded_271 dX17_rounded_272 (by decide) ?_ ?_
  · refine g_lload 3 dX17_rounded_282 rfl ?_
    refine g_iload 1 dX17_rounded_284 rfl ?_
    refine g_iconst (v := 1) dX17_rounded_286 (by decide) ?_
    refine g_isub dX17_rounded_287 ?_
    refine g_lshl dX17_rounded_288 ?_
    refine g_lload 2 dX17_rounded_289 rfl ?_
    refine g_lconst (v := 1) dX17_rounded_291 (by decide) ?_
    refine g_iload 1 dX17_rounded_292 rfl ?_
    refine g_iconst (v := 1) dX17_rounded_294 (by decide) ?_
    refine g_isub dX17_rounded_295 ?_
    refine g_lshl dX17_rounded_296 ?_
    refine g_lsub dX17_rounded_297 ?_
    refine g_ladd dX17_rounded_298 ?_
    refine G.sub [] rfl ?_
    exact gX17_rounded_p299 _ _ _ _
  · refine g_iload_n 0 0 dX17_rounded_275 rfl rfl ?_
    refine g_callS (fc := fun sς => Mdl_infinite sς x0) (as := [iv x0]) q4267 mdX17_888 (ctX17_infinite x0) rfl (Nat.le_of_ble_eq_true rfl) (Nat.le_of_ble_eq_true rfl) (Nat.le_of_ble_eq_true rfl) pu_J dX17_rounded_276 (fun r2 σ1 => ?_)
    refine g_goto 299 dX17_rounded_279 (by decide) ?_
    refine G.sub [] rfl ?_
    exact gX17_rounded_p299 _ _ _ _
def V.Mdl_rounded_p223  (σ : HS) (x0 : Int32) (x1 : Int32) (x8 : Int32) (x9 : Int32) (x10 : Int32) (x13 : Int64) : Option (Int64 × HS) :=
  if (lshl (1 : Int64) (x8 - (1 : Int32))) ≤ x13 then (
    bn (((x10 - x9).toInt64) + (1 : Int64)) fun y1 =>
    if x0 = (2 : Int32) then (
      Mdl_rounded_p271 σ x0 x8 x13 y1 (255 : Int64) y1 x1 x0)
    else (
      Mdl_rounded_p271 σ x0 x8 x13 y1 (2047 : Int64) y1 x1 x0))
  else (
    cl (Mdl_withSign σ x0 x1 x13) fun r3 σ2 =>
    some (r3, σ2))
theorem V.gX17_rounded_p223 {X : CX}  (σ : HS) (x0 : Int32) (x1 : Int32) (x8 : Int32) (x9 : Int32) (x10 : Int32) (x13 : Int64) : G X RX17 "rounded" cX17_rounded 19 (some .long) 2 43 enJ 223 [(0, iv x0), (1, iv x1), (8, iv x8), (9, iv x9), (10, iv x10), (13, jv x13)] [] σ (Mdl_rounded_p223 σ x0 x1 x8 x9 x10 x13) := by
  unfold Mdl_rounded_p223
  refine g_lload 5 dX17_rounded_223 rfl ?_
  refine g_lconst (v := 1) dX17_rounded_225 (by decide) ?_
  refine g_iload 2 dX17_rounded_226 rfl ?_
  refine g_iconst (v := 1) dX17_rounded_228 (by decide) ?_
  refine g_isub dX17_rounded_229 ?_
  refine g_lshl dX17_rounded_230 ?_
  refine g_lcmp_ge 243 dX17_rounded_231 dX17_rounded_232 (by decide) ?_ ?_
  · refine g_iload 4 dX17_rounded_243 rfl ?_
    refine g_iload 3 dX17_rounded_245 rfl ?_
    refine g_isub dX17_rounded_247 ?_
    refine g_i2l dX17_rounded_248 ?_
    refine g_lconst (v := 1) dX17_rounded_249 (by decide) ?_
    refine g_ladd dX17_rounded_250 ?_
    refine g_nmJ (fun y1 => ?_)
    refine g_lstore dX17_rounded_251 (by decide) rfl ?_
    refine g_iload_n 0 1 dX17_rounded_253 rfl rfl ?_
    refine g_iload_n 1 2 dX17_rounded_254 rfl rfl ?_
    refine g_lload 0 dX17_rounded_255 rfl ?_
    refine g_iload_n 0 1 dX17_rounded_257 rfl rfl ?_
    refine g_iconst (v := 2) dX17_rounded_258 (by decide) ?_
    refine g_icmp_ne 268 dX17_rounded_259 (by decide) ?_ ?_
    · refine g_ldc2 q4265 dX17_rounded_268 ?_
      refine G.sub [1, 3, 6, 0] rfl ?_
      exact gX17_rounded_p271 _ _ _ _ _ _ _ _ _
    · refine g_ldc2 q3613 dX17_rounded_262 ?_
      refine g_goto 271 dX17_rounded_265 (by decide) ?_
      refine G.sub [1, 3, 6, 0] rfl ?_
      exact gX17_rounded_p271 _ _ _ _ _ _ _ _ _
  · refine g_iload_n 0 0 dX17_rounded_235 rfl rfl ?_
    refine g_iload_n 1 1 dX17_rounded_236 rfl rfl ?_
    refine g_lload 5 dX17_rounded_237 rfl ?_
    refine g_callS (fc := fun sς => Mdl_withSign sς x0 x1 x13) (as := [iv x0, iv x1, jv x13]) q4257 mdX17_882 (ctX17_withSign x0 x1 x13) rfl (Nat.le_of_ble_eq_true rfl) (Nat.le_of_ble_eq_true rfl) (Nat.le_of_ble_eq_true rfl) pu_J dX17_rounded_239 (fun r3 σ2 => ?_)
    exact g_lreturn rfl dX17_rounded_242
def V.Mdl_rounded_p204  (σ : HS) (x0 : Int32) (x1 : Int32) (x8 : Int32) (x9 : Int32) (x10 : Int32) (x13 : Int64) : Option (Int64 × HS) :=
  if (lshr x13 x8) = (0 : Int64) then (
    Mdl_rounded_p223 σ x0 x1 x8 x9 x10 x13)
  else (
    bn (lshr x13 (1 : Int32)) fun y1 =>
    bn (x10 + (1 : Int32)) fun y2 =>
    Mdl_rounded_p223 σ x0 x1 x8 x9 y2 y1)
theorem V.gX17_rounded_p204 {X : CX}  (σ : HS) (x0 : Int32) (x1 : Int32) (x8 : Int32) (x9 : Int32) (x10 : Int32) (x13 : Int64) : G X RX17 "rounded" cX17_rounded 19 (some .long) 2 43 enJ 204 [(0, iv x0), (1, iv x1), (8, iv x8), (9, iv x9), (10, iv x10), (13, jv x13)] [] σ (Mdl_rounded_p204 σ x0 x1 x8 x9 x10 x13) := by
  unfold Mdl_rounded_p204
  refine g_lload 5 dX17_rounded_204 rfl ?_
  refine g_iload 2 dX17_rounded_206 rfl ?_
  refine g_lshr dX17_rounded_208 ?_
  refine g_lconst (v := 0) dX17_rounded_209 (by decide) ?_
  refine g_lcmp_eq 223 dX17_rounded_210 dX17_rounded_211 (by decide) ?_ ?_
  · exact gX17_rounded_p223 _ _ _ _ _ _ _
  · refine g_lload 5 dX17_rounded_214 rfl ?_
    refine g_iconst (v := 1) dX17_rounded_216 (by decide) ?_
    refine g_lshr dX17_rounded_217 ?_
    refine g_nmJ (fun y1 => ?_)
    refine g_lstore dX17_rounded_218 (by decide) rfl ?_
    refine g_iincB (w := 1) 5 dX17_rounded_220 rfl (by decide) (by decide) (fun _ => rfl) (fun y2 => ?_)
    refine G.sub [2, 3, 4, 5, 0, 1] rfl ?_
    exact gX17_rounded_p223 _ _ _ _ _ _ _
def V.Mdl_rounded_p198  (σ : HS) (x0 : Int32) (x1 : Int32) (x8 : Int32) (x9 : Int32) (x10 : Int32) (x13 : Int64) : Option (Int64 × HS) :=
  bn (x13 + (1 : Int64)) fun y1 =>
  Mdl_rounded_p204 σ x0 x1 x8 x9 x10 y1
theorem V.gX17_rounded_p198 {X : CX}  (σ : HS) (x0 : Int32) (x1 : Int32) (x8 : Int32) (x9 : Int32) (x10 : Int32) (x13 : Int64) : G X RX17 "rounded" cX17_rounded 19 (some .long) 2 43 enJ 198 [(0, iv x0), (1, iv x1), (8, iv x8), (9, iv x9), (10, iv x10), (13, jv x13)] [] σ (Mdl_rounded_p198 σ x0 x1 x8 x9 x10 x13) := by
  unfold Mdl_rounded_p198
  refine g_lload 5 dX17_rounded_198 rfl ?_
  refine g_lconst (v := 1) dX17_rounded_200 (by decide) ?_
  refine g_ladd dX17_rounded_201 ?_
  refine g_nmJ (fun y1 => ?_)
  refine g_lstore dX17_rounded_202 (by decide) rfl ?_
  refine G.sub [1, 2, 3, 4, 5, 0] rfl ?_
  exact gX17_rounded_p204 _ _ _ _ _ _ _
def V.Mdl_rounded_p179  (σ : HS) (x0 : Int32) (x1 : Int32) (x8 : Int32) (x9 : Int32) (x10 : Int32) (x13 : Int64) (x15 : Int32) (x16 : Int32) : Option (Int64 × HS) :=
  if x15 = 0 then (
    Mdl_rounded_p204 σ x0 x1 x8 x9 x10 x13)
  else (
    if x16 = 0 then (
      if (x13 &&& (1 : Int64)) = (1 : Int64) then (
        Mdl_rounded_p198 σ x0 x1 x8 x9 x10 x13)
      else (
        Mdl_rounded_p204 σ x0 x1 x8 x9 x10 x13))
    else (
      Mdl_rounded_p198 σ x0 x1 x8 x9 x10 x13))
theorem V.gX17_rounded_p179 {X : CX}  (σ : HS) (x0 : Int32) (x1 : Int32) (x8 : Int32) (x9 : Int32) (x10 : Int32) (x13 : Int64) (x15 : Int32) (x16 : Int32) : G X RX17 "rounded" cX17_rounded 19 (some .long) 2 43 enJ 179 [(0, iv x0), (1, iv x1), (8, iv x8), (9, iv x9), (10, iv x10), (13, jv x13), (15, iv x15), (16, iv x16)] [] σ (Mdl_rounded_p179 σ x0 x1 x8 x9 x10 x13 x15 x16) := by
  unfold Mdl_rounded_p179
  refine g_iload 6 dX17_rounded_179 rfl ?_
  refine g_if_eq 204 dX17_rounded_181 (by decide) ?_ ?_
  · refine G.sub [0, 1, 2, 3, 4, 5] rfl ?_
    exact gX17_rounded_p204 _ _ _ _ _ _ _
  · refine g_iload 7 dX17_rounded_184 rfl ?_
    refine g_if_ne 198 dX17_rounded_186 (by decide) ?_ ?_
    · refine G.sub [0, 1, 2, 3, 4, 5] rfl ?_
      exact gX17_rounded_p198 _ _ _ _ _ _ _
    · refine g_lload 5 dX17_rounded_189 rfl ?_
      refine g_lconst (v := 1) dX17_rounded_191 (by decide) ?_
      refine g_land dX17_rounded_192 ?_
      refine g_lconst (v := 1) dX17_rounded_193 (by decide) ?_
      refine g_lcmp_ne 204 dX17_rounded_194 dX17_rounded_195 (by decide) ?_ ?_
      · refine G.sub [0, 1, 2, 3, 4, 5] rfl ?_
        exact gX17_rounded_p204 _ _ _ _ _ _ _
      · refine G.sub [0, 1, 2, 3, 4, 5] rfl ?_
        exact gX17_rounded_p198 _ _ _ _ _ _ _
def V.Mdl_rounded_p153 (rec96 : HS → Int32 → Int32 → Int32 → Int32 → Int32 → Int64 → Int64 → Int32 → Int32 → Int32 → Option (Int64 × HS)) (σ : HS) (x0 : Int32) (x1 : Int32) (x8 : Int32) (x9 : Int32) (x10 : Int32) (x11 : Int64) (x13 : Int64) (x16 : Int32) (x17 : Int32) (s0 : Int32) : Option (Int64 × HS) :=
  bn ((lushr x13 (1 : Int32)) ||| (lshl x11 (63 : Int32))) fun y1 =>
  bn (lushr x11 (1 : Int32)) fun y2 =>
  bn (x17 + (1 : Int32)) fun y3 =>
  rec96 σ x0 x1 x8 x9 x10 y2 y1 s0 x16 y3
theorem V.gX17_rounded_p153 {X : CX} (rec96 : HS → Int32 → Int32 → Int32 → Int32 → Int32 → Int64 → Int64 → Int32 → Int32 → Int32 → Option (Int64 × HS)) (hrec96 : ∀ (σ : HS) (x0 : Int32) (x1 : Int32) (x8 : Int32) (x9 : Int32) (x10 : Int32) (x11 : Int64) (x13 : Int64) (x15 : Int32) (x16 : Int32) (x17 : Int32), G X RX17 "rounded" cX17_rounded 19 (some .long) 2 43 enJ 96 [(0, iv x0), (1, iv x1), (8, iv x8), (9, iv x9), (10, iv x10), (11, jv x11), (13, jv x13), (15, iv x15), (16, iv x16), (17, iv x17)] [] σ (rec96 σ x0 x1 x8 x9 x10 x11 x13 x15 x16 x17)) (σ : HS) (x0 : Int32) (x1 : Int32) (x8 : Int32) (x9 : Int32) (x10 : Int32) (x11 : Int64) (x13 : Int64) (x16 : Int32) (x17 : Int32) (s0 : Int32) : G X RX17 "rounded" cX17_rounded 19 (some .long) 2 43 enJ 153 [(0, iv x0), (1, iv x1), (8, iv x8), (9, iv x9), (10, iv x10), (11, jv x11), (13, jv x13), (16, iv x16), (17, iv x17)] [iv s0] σ (Mdl_rounded_p153 rec96 σ x0 x1 x8 x9 x10 x11 x13 x16 x17 s0) := by
  unfold Mdl_rounded_p153
  refine g_istore dX17_rounded_153 (by decide) rfl ?_
  refine g_lload 7 dX17_rounded_155 rfl ?_
  refine g_iconst (v := 1) dX17_rounded_157 (by decide) ?_
  refine g_lushr dX17_rounded_158 ?_
  refine g_lload 6 dX17_rounded_159 rfl ?_
  refine g_bipush (v := 63) dX17_rounded_161 (by decide) ?_
  refine g_lshl dX17_rounded_163 ?_
  refine g_lor dX17_rounded_164 ?_
  refine g_nmJ (fun y1 => ?_)
  refine g_lstore dX17_rounded_165 (by decide) rfl ?_
  refine g_lload 7 dX17_rounded_167 rfl ?_
  refine g_iconst (v := 1) dX17_rounded_169 (by decide) ?_
  refine g_lushr dX17_rounded_170 ?_
  refine g_nmJ (fun y2 => ?_)
  refine g_lstore dX17_rounded_171 (by decide) rfl ?_
  refine g_iincB (w := 1) 9 dX17_rounded_173 rfl (by decide) (by decide) (fun _ => rfl) (fun y3 => ?_)
  refine g_goto 96 dX17_rounded_176 (by decide) ?_
  refine G.sub [4, 5, 6, 7, 8, 1, 2, 3, 9, 0] rfl ?_
  exact hrec96 _ _ _ _ _ _ _ _ _ _ _
def V.Mdl_rounded_p137 (rec96 : HS → Int32 → Int32 → Int32 → Int32 → Int32 → Int64 → Int64 → Int32 → Int32 → Int32 → Option (Int64 × HS)) (σ : HS) (x0 : Int32) (x1 : Int32) (x8 : Int32) (x9 : Int32) (x10 : Int32) (x11 : Int64) (x13 : Int64) (x17 : Int32) (s0 : Int32) : Option (Int64 × HS) :=
  if (x13 &&& (1 : Int64)) = (1 : Int64) then (
    Mdl_rounded_p153 rec96 σ x0 x1 x8 x9 x10 x11 x13 s0 x17 (1 : Int32))
  else (
    Mdl_rounded_p153 rec96 σ x0 x1 x8 x9 x10 x11 x13 s0 x17 (0 : Int32))
theorem V.gX17_rounded_p137 {X : CX} (rec96 : HS → Int32 → Int32 → Int32 → Int32 → Int32 → Int64 → Int64 → Int32 → Int32 → Int32 → Option (Int64 × HS)) (hrec96 : ∀ (σ : HS) (x0 : Int32) (x1 : Int32) (x8 : Int32) (x9 : Int32) (x10 : Int32) (x11 : Int64) (x13 : Int64) (x15 : Int32) (x16 : Int32) (x17 : Int32), G X RX17 "rounded" cX17_rounded 19 (some .long) 2 43 enJ 96 [(0, iv x0), (1, iv x1), (8, iv x8), (9, iv x9), (10, iv x10), (11, jv x11), (13, jv x13), (15, iv x15), (16, iv x16), (17, iv x17)] [] σ (rec96 σ x0 x1 x8 x9 x10 x11 x13 x15 x16 x17)) (σ : HS) (x0 : Int32) (x1 : Int32) (x8 : Int32) (x9 : Int32) (x10 : Int32) (x11 : Int64) (x13 : Int64) (x17 : Int32) (s0 : Int32) : G X RX17 "rounded" cX17_rounded 19 (some .long) 2 43 enJ 137 [(0, iv x0), (1, iv x1), (8, iv x8), (9, iv x9), (10, iv x10), (11, jv x11), (13, jv x13), (17, iv x17)] [iv s0] σ (Mdl_rounded_p137 rec96 σ x0 x1 x8 x9 x10 x11 x13 x17 s0) := by
  unfold Mdl_rounded_p137
  refine g_istore dX17_rounded_137 (by decide) rfl ?_
  refine g_lload 7 dX17_rounded_139 rfl ?_
  refine g_lconst (v := 1) dX17_rounded_141 (by decide) ?_
  refine g_land dX17_rounded_142 ?_
  refine g_lconst (v := 1) dX17_rounded_143 (by decide) ?_
  refine g_lcmp_ne 152 dX17_rounded_144 dX17_rounded_145 (by decide) ?_ ?_
  · refine g_iconst (v := 0) dX17_rounded_152 (by decide) ?_
    refine G.sub [1, 2, 3, 4, 5, 6, 7, 0, 8] rfl ?_
    exact gX17_rounded_p153 rec96 hrec96 _ _ _ _ _ _ _ _ _ _ _
  · refine g_iconst (v := 1) dX17_rounded_148 (by decide) ?_
    refine g_goto 153 dX17_rounded_149 (by decide) ?_
    refine G.sub [1, 2, 3, 4, 5, 6, 7, 0, 8] rfl ?_
    exact gX17_rounded_p153 rec96 hrec96 _ _ _ _ _ _ _ _ _ _ _
def V.Mdl_rounded_p132 (rec96 : HS → Int32 → Int32 → Int32 → Int32 → Int32 → Int64 → Int64 → Int32 → Int32 → Int32 → Option (Int64 × HS)) (σ : HS) (x0 : Int32) (x1 : Int32) (x8 : Int32) (x9 : Int32) (x10 : Int32) (x11 : Int64) (x13 : Int64) (x17 : Int32) : Option (Int64 × HS) :=
  Mdl_rounded_p137 rec96 σ x0 x1 x8 x9 x10 x11 x13 x17 (1 : Int32)
theorem V.gX17_rounded_p132 {X : CX} (rec96 : HS → Int32 → Int32 → Int32 → Int32 → Int32 → Int64 → Int64 → Int32 → Int32 → Int32 → Option (Int64 × HS)) (hrec96 : ∀ (σ : HS) (x0 : Int32) (x1 : Int32) (x8 : Int32) (x9 : Int32) (x10 : Int32) (x11 : Int64) (x13 : Int64) (x15 : Int32) (x16 : Int32) (x17 : Int32), G X RX17 "rounded" cX17_rounded 19 (some .long) 2 43 enJ 96 [(0, iv x0), (1, iv x1), (8, iv x8), (9, iv x9), (10, iv x10), (11, jv x11), (13, jv x13), (15, iv x15), (16, iv x16), (17, iv x17)] [] σ (rec96 σ x0 x1 x8 x9 x10 x11 x13 x15 x16 x17)) (σ : HS) (x0 : Int32) (x1 : Int32) (x8 : Int32) (x9 : Int32) (x10 : Int32) (x11 : Int64) (x13 : Int64) (x17 : Int32) : G X RX17 "rounded" cX17_rounded 19 (some .long) 2 43 enJ 132 [(0, iv x0), (1, iv x1), (8, iv x8), (9, iv x9), (10, iv x10), (11, jv x11), (13, jv x13), (17, iv x17)] [] σ (Mdl_rounded_p132 rec96 σ x0 x1 x8 x9 x10 x11 x13 x17) := by
  unfold Mdl_rounded_p132
  refine g_iconst (v := 1) dX17_rounded_132 (by decide) ?_
  refine g_goto 137 dX17_rounded_133 (by decide) ?_
  exact gX17_rounded_p137 rec96 hrec96 _ _ _ _ _ _ _ _ _ _
def V.Mdl_rounded_p122 (rec96 : HS → Int32 → Int32 → Int32 → Int32 → Int32 → Int64 → Int64 → Int32 → Int32 → Int32 → Option (Int64 × HS)) (σ : HS) (x0 : Int32) (x1 : Int32) (x8 : Int32) (x9 : Int32) (x10 : Int32) (x11 : Int64) (x13 : Int64) (x15 : Int32) (x16 : Int32) (x17 : Int32) : Option (Int64 × HS) :=
  if x16 = 0 then (
    if x15 = 0 then (
      Mdl_rounded_p137 rec96 σ x0 x1 x8 x9 x10 x11 x13 x17 (0 : Int32))
    else (
      Mdl_rounded_p132 rec96 σ x0 x1 x8 x9 x10 x11 x13 x17))
  else (
    Mdl_rounded_p132 rec96 σ x0 x1 x8 x9 x10 x11 x13 x17)
theorem V.gX17_rounded_p122 {X : CX} (rec96 : HS → Int32 → Int32 → Int32 → Int32 → Int32 → Int64 → Int64 → Int32 → Int32 → Int32 → Option (Int64 × HS)) (hrec96 : ∀ (σ : HS) (x0 : Int32) (x1 : Int32) (x8 : Int32) (x9 : Int32) (x10 : Int32) (x11 : Int64) (x13 : Int64) (x15 : Int32) (x16 : Int32) (x17 : Int32), G X RX17 "rounded" cX17_rounded 19 (some .long) 2 43 enJ 96 [(0, iv x0), (1, iv x1), (8, iv x8), (9, iv x9), (10, iv x10), (11, jv x11), (13, jv x13), (15, iv x15), (16, iv x16), (17, iv x17)] [] σ (rec96 σ x0 x1 x8 x9 x10 x11 x13 x15 x16 x17)) (σ : HS) (x0 : Int32) (x1 : Int32) (x8 : Int32) (x9 : Int32) (x10 : Int32) (x11 : Int64) (x13 : Int64) (x15 : Int32) (x16 : Int32) (x17 : Int32) : G X RX17 "rounded" cX17_rounded 19 (some .long) 2 43 enJ 122 [(0, iv x0), (1, iv x1), (8, iv x8), (9, iv x9), (10, iv x10), (11, jv x11), (13, jv x13), (15, iv x15), (16, iv x16), (17, iv x17)] [] σ (Mdl_rounded_p122 rec96 σ x0 x1 x8 x9 x10 x11 x13 x15 x16 x17) := by
  unfold Mdl_rounded_p122
  refine g_iload 8 dX17_rounded_122 rfl ?_
  refine g_if_ne 132 dX17_rounded_124 (by decide) ?_ ?_
  · refine G.sub [0, 1, 2, 3, 4, 5, 6, 9] rfl ?_
    exact gX17_rounded_p132 rec96 hrec96 _ _ _ _ _ _ _ _ _
  · refine g_iload 7 dX17_rounded_127 rfl ?_
    refine g_if_eq 136 dX17_rounded_129 (by decide) ?_ ?_
    · refine g_iconst (v := 0) dX17_rounded_136 (by decide) ?_
      refine G.sub [0, 1, 2, 3, 4, 5, 6, 9] rfl ?_
      exact gX17_rounded_p137 rec96 hrec96 _ _ _ _ _ _ _ _ _ _
    · refine G.sub [0, 1, 2, 3, 4, 5, 6, 9] rfl ?_
      exact gX17_rounded_p132 rec96 hrec96 _ _ _ _ _ _ _ _ _
def V.Mdl_rounded_p96  : Nat → HS → Int32 → Int32 → Int32 → Int32 → Int32 → Int64 → Int64 → Int32 → Int32 → Int32 → Option (Int64 × HS)
  | 0, _, _, _, _, _, _, _, _, _, _, _ => none
  | n + 1, σ, x0, x1, x8, x9, x10, x11, x13, x15, x16, x17 =>
    if x10 ≤ x17 then (
      Mdl_rounded_p179 σ x0 x1 x8 x9 x10 x13 x15 x16)
    else (
      if x11 = (0 : Int64) then (
        if x13 = (0 : Int64) then (
          if x15 = 0 then (
            Mdl_rounded_p179 σ x0 x1 x8 x9 x10 x13 x15 x16)
          else (
            Mdl_rounded_p122 (Mdl_rounded_p96 n) σ x0 x1 x8 x9 x10 x11 x13 x15 x16 x17))
        else (
          Mdl_rounded_p122 (Mdl_rounded_p96 n) σ x0 x1 x8 x9 x10 x11 x13 x15 x16 x17))
      else (
        Mdl_rounded_p122 (Mdl_rounded_p96 n) σ x0 x1 x8 x9 x10 x11 x13 x15 x16 x17))
theorem V.gX17_rounded_p96 {X : CX}  : ∀ (n : Nat) (σ : HS) (x0 : Int32) (x1 : Int32) (x8 : Int32) (x9 : Int32) (x10 : Int32) (x11 : Int64) (x13 : Int64) (x15 : Int32) (x16 : Int32) (x17 : Int32), G X RX17 "rounded" cX17_rounded 19 (some .long) 2 43 enJ 96 [(0, iv x0), (1, iv x1), (8, iv x8), (9, iv x9), (10, iv x10), (11, jv x11), (13, jv x13), (15, iv x15), (16, iv x16), (17, iv x17)] [] σ (Mdl_rounded_p96 n σ x0 x1 x8 x9 x10 x11 x13 x15 x16 x17)
  | 0, σ, x0, x1, x8, x9, x10, x11, x13, x15, x16, x17 => by rw [Mdl_rounded_p96]; exact G.nul
  | n + 1, σ, x0, x1, x8, x9, x10, x11, x13, x15, x16, x17 => by
    rw [Mdl_rounded_p96]
    refine g_iload 9 dX17_rounded_96 rfl ?_
    refine g_iload 4 dX17_rounded_98 rfl ?_
    refine g_icmp_ge 179 dX17_rounded_100 (by decide) ?_ ?_
    · refine G.sub [0, 1, 2, 3, 4, 6, 7, 8] rfl ?_
      exact gX17_rounded_p179 _ _ _ _ _ _ _ _ _
    · refine g_lload 5 dX17_rounded_103 rfl ?_
      refine g_lconst (v := 0) dX17_rounded_105 (by decide) ?_
      refine g_lcmp_ne 122 dX17_rounded_106 dX17_rounded_107 (by decide) ?_ ?_
      · exact gX17_rounded_p122 (Mdl_rounded_p96 n) (gX17_rounded_p96 n) _ _ _ _ _ _ _ _ _ _ _
      · refine g_lload 6 dX17_rounded_110 rfl ?_
        refine g_lconst (v := 0) dX17_rounded_112 (by decide) ?_
        refine g_lcmp_ne 122 dX17_rounded_113 dX17_rounded_114 (by decide) ?_ ?_
        · exact gX17_rounded_p122 (Mdl_rounded_p96 n) (gX17_rounded_p96 n) _ _ _ _ _ _ _ _ _ _ _
        · refine g_iload 7 dX17_rounded_117 rfl ?_
          refine g_if_eq 179 dX17_rounded_119 (by decide) ?_ ?_
          · refine G.sub [0, 1, 2, 3, 4, 6, 7, 8] rfl ?_
            exact gX17_rounded_p179 _ _ _ _ _ _ _ _ _
          · exact gX17_rounded_p122 (Mdl_rounded_p96 n) (gX17_rounded_p96 n) _ _ _ _ _ _ _ _ _ _ _
def V.Mdl_rounded_p83  (σ : HS) (x0 : Int32) (x1 : Int32) (x6 : Int32) (x7 : Int32) (x8 : Int32) (x9 : Int32) (x10 : Int32) (x11 : Int64) (s0 : Int64) : Option (Int64 × HS) :=
  Mdl_rounded_p96 FU σ x0 x1 x8 x9 x10 x11 s0 (0 : Int32) x7 x6
theorem V.gX17_rounded_p83 {X : CX}  (σ : HS) (x0 : Int32) (x1 : Int32) (x6 : Int32) (x7 : Int32) (x8 : Int32) (x9 : Int32) (x10 : Int32) (x11 : Int64) (s0 : Int64) : G X RX17 "rounded" cX17_rounded 19 (some .long) 2 43 enJ 83 [(0, iv x0), (1, iv x1), (6, iv x6), (7, iv x7), (8, iv x8), (9, iv x9), (10, iv x10), (11, jv x11)] [jv s0] σ (Mdl_rounded_p83 σ x0 x1 x6 x7 x8 x9 x10 x11 s0) := by
  unfold Mdl_rounded_p83
  refine g_lstore dX17_rounded_83 (by decide) rfl ?_
  refine g_iconst (v := 0) dX17_rounded_85 (by decide) ?_
  refine g_istore dX17_rounded_86 (by decide) rfl ?_
  refine g_iload 5 dX17_rounded_88 rfl ?_
  refine g_istore dX17_rounded_90 (by decide) rfl ?_
  refine g_iload 5 dX17_rounded_92 rfl ?_
  refine g_istore dX17_rounded_94 (by decide) rfl ?_
  refine G.sub [4, 5, 8, 9, 10, 11, 3, 2, 1, 0] rfl ?_
  exact gX17_rounded_p96 FU _ _ _ _ _ _ _ _ _ _ _
def V.Mdl_rounded_p58  (σ : HS) (x0 : Int32) (x1 : Int32) (x2 : Int64) (x4 : Int64) (x6 : Int32) (x7 : Int32) (x8 : Int32) (x9 : Int32) (s0 : Int32) : Option (Int64 × HS) :=
  if s0 ≤ x6 then (
    Mdl_rounded_p83 σ x0 x1 x6 x7 x8 x9 s0 x2 (lshl x4 (x6 - s0)))
  else (
    Mdl_rounded_p83 σ x0 x1 x6 x7 x8 x9 s0 x2 x4)
theorem V.gX17_rounded_p58 {X : CX}  (σ : HS) (x0 : Int32) (x1 : Int32) (x2 : Int64) (x4 : Int64) (x6 : Int32) (x7 : Int32) (x8 : Int32) (x9 : Int32) (s0 : Int32) : G X RX17 "rounded" cX17_rounded 19 (some .long) 2 43 enJ 58 [(0, iv x0), (1, iv x1), (2, jv x2), (4, jv x4), (6, iv x6), (7, iv x7), (8, iv x8), (9, iv x9)] [iv s0] σ (Mdl_rounded_p58 σ x0 x1 x2 x4 x6 x7 x8 x9 s0) := by
  unfold Mdl_rounded_p58
  refine g_istore dX17_rounded_58 (by decide) rfl ?_
  refine g_lload_n 2 3 dX17_rounded_60 rfl rfl ?_
  refine g_lstore dX17_rounded_61 (by decide) rfl ?_
  refine g_iload 1 dX17_rounded_63 rfl ?_
  refine g_iload 6 dX17_rounded_65 rfl ?_
  refine g_icmp_le 75 dX17_rounded_67 (by decide) ?_ ?_
  · refine g_lload 5 dX17_rounded_75 rfl ?_
    refine g_iload 6 dX17_rounded_77 rfl ?_
    refine g_iload 1 dX17_rounded_79 rfl ?_
    refine g_isub dX17_rounded_81 ?_
    refine g_lshl dX17_rounded_82 ?_
    refine G.sub [2, 3, 6, 7, 8, 9, 1, 0] rfl ?_
    exact gX17_rounded_p83 _ _ _ _ _ _ _ _ _ _
  · refine g_lload 5 dX17_rounded_70 rfl ?_
    refine g_goto 83 dX17_rounded_72 (by decide) ?_
    refine G.sub [2, 3, 6, 7, 8, 9, 1, 0] rfl ?_
    exact gX17_rounded_p83 _ _ _ _ _ _ _ _ _ _
def V.Mdl_rounded_p28  (σ : HS) (x0 : Int32) (x1 : Int32) (x2 : Int64) (x4 : Int64) (x6 : Int32) (x7 : Int32) (x8 : Int32) (s0 : Int32) : Option (Int64 × HS) :=
  cl (Mdl_length σ x2 x4) fun r2 σ1 =>
  bn ((x6 + r2) - x8) fun y3 =>
  if s0 ≤ y3 then (
    Mdl_rounded_p58 σ1 x0 x1 x2 x4 x6 x7 x8 s0 y3)
  else (
    Mdl_rounded_p58 σ1 x0 x1 x2 x4 x6 x7 x8 s0 s0)
theorem V.gX17_rounded_p28 {X : CX}  (σ : HS) (x0 : Int32) (x1 : Int32) (x2 : Int64) (x4 : Int64) (x6 : Int32) (x7 : Int32) (x8 : Int32) (s0 : Int32) : G X RX17 "rounded" cX17_rounded 19 (some .long) 2 43 enJ 28 [(0, iv x0), (1, iv x1), (2, jv x2), (4, jv x4), (6, iv x6), (7, iv x7), (8, iv x8)] [iv s0] σ (Mdl_rounded_p28 σ x0 x1 x2 x4 x6 x7 x8 s0) := by
  unfold Mdl_rounded_p28
  refine g_istore dX17_rounded_28 (by decide) rfl ?_
  refine g_iload 5 dX17_rounded_30 rfl ?_
  refine g_lload_n 2 3 dX17_rounded_32 rfl rfl ?_
  refine g_lload 4 dX17_rounded_33 rfl ?_
  refine g_callS (fc := fun sς => Mdl_length sς x2 x4) (as := [jv x2, jv x4]) q4263 mdX17_878 (ctX17_length x2 x4) rfl (Nat.le_of_ble_eq_true rfl) (Nat.le_of_ble_eq_true rfl) (Nat.le_of_ble_eq_true rfl) pu_I dX17_rounded_35 (fun r2 σ1 => ?_)
  refine g_iadd dX17_rounded_38 ?_
  refine g_iload 7 dX17_rounded_39 rfl ?_
  refine g_isub dX17_rounded_41 ?_
  refine g_nmI (fun y3 => ?_)
  refine g_istore dX17_rounded_42 (by decide) rfl ?_
  refine g_iload 0 dX17_rounded_44 rfl ?_
  refine g_iload 1 dX17_rounded_46 rfl ?_
  refine g_icmp_ge 56 dX17_rounded_48 (by decide) ?_ ?_
  · refine g_iload 0 dX17_rounded_56 rfl ?_
    refine G.sub [2, 3, 4, 5, 6, 7, 8, 1] rfl ?_
    exact gX17_rounded_p58 _ _ _ _ _ _ _ _ _ _
  · refine g_iload 1 dX17_rounded_51 rfl ?_
    refine g_goto 58 dX17_rounded_53 (by decide) ?_
    refine G.sub [2, 3, 4, 5, 6, 7, 8, 1] rfl ?_
    exact gX17_rounded_p58 _ _ _ _ _ _ _ _ _ _
def V.Mdl_rounded_p12  (σ : HS) (x0 : Int32) (x1 : Int32) (x2 : Int64) (x4 : Int64) (x6 : Int32) (x7 : Int32) (s0 : Int32) : Option (Int64 × HS) :=
  if x0 = (2 : Int32) then (
    Mdl_rounded_p28 σ x0 x1 x2 x4 x6 x7 s0 (-149 : Int32))
  else (
    Mdl_rounded_p28 σ x0 x1 x2 x4 x6 x7 s0 (-1074 : Int32))
theorem V.gX17_rounded_p12 {X : CX}  (σ : HS) (x0 : Int32) (x1 : Int32) (x2 : Int64) (x4 : Int64) (x6 : Int32) (x7 : Int32) (s0 : Int32) : G X RX17 "rounded" cX17_rounded 19 (some .long) 2 43 enJ 12 [(0, iv x0), (1, iv x1), (2, jv x2), (4, jv x4), (6, iv x6), (7, iv x7)] [iv s0] σ (Mdl_rounded_p12 σ x0 x1 x2 x4 x6 x7 s0) := by
  unfold Mdl_rounded_p12
  refine g_istore dX17_rounded_12 (by decide) rfl ?_
  refine g_iload_n 0 1 dX17_rounded_14 rfl rfl ?_
  refine g_iconst (v := 2) dX17_rounded_15 (by decide) ?_
  refine g_icmp_ne 25 dX17_rounded_16 (by decide) ?_ ?_
  · refine g_sipush (v := (-1074)) dX17_rounded_25 (by decide) ?_
    refine G.sub [1, 2, 3, 4, 5, 6, 0] rfl ?_
    exact gX17_rounded_p28 _ _ _ _ _ _ _ _ _
  · refine g_sipush (v := (-149)) dX17_rounded_19 (by decide) ?_
    refine g_goto 28 dX17_rounded_22 (by decide) ?_
    refine G.sub [1, 2, 3, 4, 5, 6, 0] rfl ?_
    exact gX17_rounded_p28 _ _ _ _ _ _ _ _ _
def V.Mdl_rounded (σ : HS) (x0 : Int32) (x1 : Int32) (x2 : Int64) (x4 : Int64) (x6 : Int32) (x7 : Int32) : Option (Int64 × HS) :=
  if x0 = (2 : Int32) then (
    Mdl_rounded_p12 σ x0 x1 x2 x4 x6 x7 (24 : Int32))
  else (
    Mdl_rounded_p12 σ x0 x1 x2 x4 x6 x7 (53 : Int32))
theorem V.ctX17_rounded (x0 : Int32) (x1 : Int32) (x2 : Int64) (x4 : Int64) (x6 : Int32) (x7 : Int32) : Ct yX17_rounded  cX17_rounded 19 (some .long) 2 43 eJ [iv x0, iv x1, jv x2, jv x4, iv x6, iv x7] (fun σ => Mdl_rounded σ x0 x1 x2 x4 x6 x7) := by
  refine Ct.of (own := RX17) (nm := "rounded") (desc := "(IZJJIZ)J") rfl (by decide) (Nat.le_of_ble_eq_true rfl) (by decide) (fun X σ => ?_)
  show G X RX17 "rounded" cX17_rounded 19 (some .long) 2 43 enJ 0 [(0, iv x0), (1, iv x1), (2, jv x2), (4, jv x4), (6, iv x6), (7, iv x7)] [] σ (Mdl_rounded σ x0 x1 x2 x4 x6 x7)
  unfold Mdl_rounded
  refine g_iload_n 0 0 dX17_rounded_0 rfl rfl ?_
  refine g_iconst (v := 2) dX17_rounded_1 (by decide) ?_
  refine g_icmp_ne 10 dX17_rounded_2 (by decide) ?_ ?_
  · refine g_bipush (v := 53) dX17_rounded_10 (by decide) ?_
    exact gX17_rounded_p12 _ _ _ _ _ _ _ _
  · refine g_bipush (v := 24) dX17_rounded_5 (by decide) ?_
    refine g_goto 12 dX17_rounded_7 (by decide) ?_
    exact gX17_rounded_p12 _ _ _ _ _ _ _ _
theorem V.dX17_wholeOf_0 : decode cX17_wholeOf 0 = .ok (.aload_n 0, 1) := by decide +kernel
theorem V.dX17_wholeOf_1 : decode cX17_wholeOf 1 = .ok (.getfield 61, 3) := by decide +kernel
theorem V.dX17_wholeOf_4 : decode cX17_wholeOf 4 = .ok (.iload_n 2, 1) := by decide +kernel
theorem V.dX17_wholeOf_5 : decode cX17_wholeOf 5 = .ok (.lload_n 3, 1) := by decide +kernel
theorem V.dX17_wholeOf_6 : decode cX17_wholeOf 6 = .ok (.invokevirtual 868, 3) := by decide +kernel
theorem V.dX17_wholeOf_9 : decode cX17_wholeOf 9 = .ok (.aload_n 0, 1) := by decide +kernel
theorem V.dX17_wholeOf_10 : decode cX17_wholeOf 10 = .ok (.getfield 61, 3) := by decide +kernel
theorem V.dX17_wholeOf_13 : decode cX17_wholeOf 13 = .ok (.getfield 871, 3) := by decide +kernel
theorem V.dX17_wholeOf_16 : decode cX17_wholeOf 16 = .ok (.iconst 3, 1) := by decide +kernel
theorem V.dX17_wholeOf_17 : decode cX17_wholeOf 17 = .ok (.if_icmp .ne 8, 3) := by decide +kernel
theorem V.dX17_wholeOf_20 : decode cX17_wholeOf 20 = .ok (.iload_n 2, 1) := by decide +kernel
theorem V.dX17_wholeOf_21 : decode cX17_wholeOf 21 = .ok (.invokestatic 910, 3) := by decide +kernel
theorem V.dX17_wholeOf_24 : decode cX17_wholeOf 24 = .ok (.lreturn, 1) := by decide +kernel
theorem V.dX17_wholeOf_25 : decode cX17_wholeOf 25 = .ok (.aload_n 0, 1) := by decide +kernel
theorem V.dX17_wholeOf_26 : decode cX17_wholeOf 26 = .ok (.getfield 61, 3) := by decide +kernel
theorem V.dX17_wholeOf_29 : decode cX17_wholeOf 29 = .ok (.getfield 871, 3) := by decide +kernel
theorem V.dX17_wholeOf_32 : decode cX17_wholeOf 32 = .ok (.ifCond .ne 13, 3) := by decide +kernel
theorem V.dX17_wholeOf_35 : decode cX17_wholeOf 35 = .ok (.aload_n 0, 1) := by decide +kernel
theorem V.dX17_wholeOf_36 : decode cX17_wholeOf 36 = .ok (.getfield 61, 3) := by decide +kernel
theorem V.dX17_wholeOf_39 : decode cX17_wholeOf 39 = .ok (.getfield 913, 3) := by decide +kernel
theorem V.dX17_wholeOf_42 : decode cX17_wholeOf 42 = .ok (.ifCond .lt 5, 3) := by decide +kernel
theorem V.dX17_wholeOf_45 : decode cX17_wholeOf 45 = .ok (.lload_n 3, 1) := by decide +kernel
theorem V.dX17_wholeOf_46 : decode cX17_wholeOf 46 = .ok (.lreturn, 1) := by decide +kernel
theorem V.dX17_wholeOf_47 : decode cX17_wholeOf 47 = .ok (.aload_n 0, 1) := by decide +kernel
theorem V.dX17_wholeOf_48 : decode cX17_wholeOf 48 = .ok (.getfield 61, 3) := by decide +kernel
theorem V.dX17_wholeOf_51 : decode cX17_wholeOf 51 = .ok (.getfield 913, 3) := by decide +kernel
theorem V.dX17_wholeOf_54 : decode cX17_wholeOf 54 = .ok (.ineg, 1) := by decide +kernel
theorem V.dX17_wholeOf_55 : decode cX17_wholeOf 55 = .ok (.istore 5, 2) := by decide +kernel
theorem V.dX17_wholeOf_57 : decode cX17_wholeOf 57 = .ok (.iload 5, 2) := by decide +kernel
theorem V.dX17_wholeOf_59 : decode cX17_wholeOf 59 = .ok (.bipush 62, 2) := by decide +kernel
theorem V.dX17_wholeOf_61 : decode cX17_wholeOf 61 = .ok (.if_icmp .le 7, 3) := by decide +kernel
theorem V.dX17_wholeOf_64 : decode cX17_wholeOf 64 = .ok (.lconst 0, 1) := by decide +kernel
theorem V.dX17_wholeOf_65 : decode cX17_wholeOf 65 = .ok (.goto 13, 3) := by decide +kernel
theorem V.dX17_wholeOf_68 : decode cX17_wholeOf 68 = .ok (.aload_n 0, 1) := by decide +kernel
theorem V.dX17_wholeOf_69 : decode cX17_wholeOf 69 = .ok (.getfield 61, 3) := by decide +kernel
theorem V.dX17_wholeOf_72 : decode cX17_wholeOf 72 = .ok (.getfield 916, 3) := by decide +kernel
theorem V.dX17_wholeOf_75 : decode cX17_wholeOf 75 = .ok (.iload 5, 2) := by decide +kernel
theorem V.dX17_wholeOf_77 : decode cX17_wholeOf 77 = .ok (.lushr, 1) := by decide +kernel
theorem V.dX17_wholeOf_78 : decode cX17_wholeOf 78 = .ok (.lstore 6, 2) := by decide +kernel
theorem V.dX17_wholeOf_80 : decode cX17_wholeOf 80 = .ok (.iload 5, 2) := by decide +kernel
theorem V.dX17_wholeOf_82 : decode cX17_wholeOf 82 = .ok (.bipush 62, 2) := by decide +kernel
theorem V.dX17_wholeOf_84 : decode cX17_wholeOf 84 = .ok (.if_icmp .le 13, 3) := by decide +kernel
theorem V.dX17_wholeOf_87 : decode cX17_wholeOf 87 = .ok (.aload_n 0, 1) := by decide +kernel
theorem V.dX17_wholeOf_88 : decode cX17_wholeOf 88 = .ok (.getfield 61, 3) := by decide +kernel
theorem V.dX17_wholeOf_91 : decode cX17_wholeOf 91 = .ok (.getfield 916, 3) := by decide +kernel
theorem V.dX17_wholeOf_94 : decode cX17_wholeOf 94 = .ok (.goto 16, 3) := by decide +kernel
theorem V.dX17_wholeOf_97 : decode cX17_wholeOf 97 = .ok (.aload_n 0, 1) := by decide +kernel
theorem V.dX17_wholeOf_98 : decode cX17_wholeOf 98 = .ok (.getfield 61, 3) := by decide +kernel
theorem V.dX17_wholeOf_101 : decode cX17_wholeOf 101 = .ok (.getfield 916, 3) := by decide +kernel
theorem V.dX17_wholeOf_104 : decode cX17_wholeOf 104 = .ok (.lload 6, 2) := by decide +kernel
theorem V.dX17_wholeOf_106 : decode cX17_wholeOf 106 = .ok (.iload 5, 2) := by decide +kernel
theorem V.dX17_wholeOf_108 : decode cX17_wholeOf 108 = .ok (.lshl, 1) := by decide +kernel
theorem V.dX17_wholeOf_109 : decode cX17_wholeOf 109 = .ok (.lsub, 1) := by decide +kernel
theorem V.dX17_wholeOf_110 : decode cX17_wholeOf 110 = .ok (.lstore 8, 2) := by decide +kernel
theorem V.dX17_wholeOf_112 : decode cX17_wholeOf 112 = .ok (.iload 5, 2) := by decide +kernel
theorem V.dX17_wholeOf_114 : decode cX17_wholeOf 114 = .ok (.bipush 62, 2) := by decide +kernel
theorem V.dX17_wholeOf_116 : decode cX17_wholeOf 116 = .ok (.if_icmp .le 9, 3) := by decide +kernel
theorem V.dX17_wholeOf_119 : decode cX17_wholeOf 119 = .ok (.ldc2_w 919, 3) := by decide +kernel
theorem V.dX17_wholeOf_122 : decode cX17_wholeOf 122 = .ok (.goto 9, 3) := by decide +kernel
theorem V.dX17_wholeOf_125 : decode cX17_wholeOf 125 = .ok (.lconst 1, 1) := by decide +kernel
theorem V.dX17_wholeOf_126 : decode cX17_wholeOf 126 = .ok (.iload 5, 2) := by decide +kernel
theorem V.dX17_wholeOf_128 : decode cX17_wholeOf 128 = .ok (.iconst 1, 1) := by decide +kernel
theorem V.dX17_wholeOf_129 : decode cX17_wholeOf 129 = .ok (.isub, 1) := by decide +kernel
theorem V.dX17_wholeOf_130 : decode cX17_wholeOf 130 = .ok (.lshl, 1) := by decide +kernel
theorem V.dX17_wholeOf_131 : decode cX17_wholeOf 131 = .ok (.lstore 10, 2) := by decide +kernel
theorem V.dX17_wholeOf_133 : decode cX17_wholeOf 133 = .ok (.lload 8, 2) := by decide +kernel
theorem V.dX17_wholeOf_135 : decode cX17_wholeOf 135 = .ok (.lconst 0, 1) := by decide +kernel
theorem V.dX17_wholeOf_136 : decode cX17_wholeOf 136 = .ok (.lcmp, 1) := by decide +kernel
theorem V.dX17_wholeOf_137 : decode cX17_wholeOf 137 = .ok (.ifCond .eq 66, 3) := by decide +kernel
theorem V.dX17_wholeOf_140 : decode cX17_wholeOf 140 = .ok (.iload_n 1, 1) := by decide +kernel
theorem V.dX17_wholeOf_141 : decode cX17_wholeOf 141 = .ok (.ifCond .ne 13, 3) := by decide +kernel
theorem V.dX17_wholeOf_144 : decode cX17_wholeOf 144 = .ok (.aload_n 0, 1) := by decide +kernel
theorem V.dX17_wholeOf_145 : decode cX17_wholeOf 145 = .ok (.getfield 61, 3) := by decide +kernel
theorem V.dX17_wholeOf_148 : decode cX17_wholeOf 148 = .ok (.getfield 921, 3) := by decide +kernel
theorem V.dX17_wholeOf_151 : decode cX17_wholeOf 151 = .ok (.ifCond .eq 48, 3) := by decide +kernel
theorem V.dX17_wholeOf_154 : decode cX17_wholeOf 154 = .ok (.iload_n 1, 1) := by decide +kernel
theorem V.dX17_wholeOf_155 : decode cX17_wholeOf 155 = .ok (.iconst 1, 1) := by decide +kernel
theorem V.dX17_wholeOf_156 : decode cX17_wholeOf 156 = .ok (.if_icmp .ne 13, 3) := by decide +kernel
theorem V.dX17_wholeOf_159 : decode cX17_wholeOf 159 = .ok (.aload_n 0, 1) := by decide +kernel
theorem V.dX17_wholeOf_160 : decode cX17_wholeOf 160 = .ok (.getfield 61, 3) := by decide +kernel
theorem V.dX17_wholeOf_163 : decode cX17_wholeOf 163 = .ok (.getfield 921, 3) := by decide +kernel
theorem V.dX17_wholeOf_166 : decode cX17_wholeOf 166 = .ok (.ifCond .ne 33, 3) := by decide +kernel
theorem V.dX17_wholeOf_169 : decode cX17_wholeOf 169 = .ok (.iload_n 1, 1) := by decide +kernel
theorem V.dX17_wholeOf_170 : decode cX17_wholeOf 170 = .ok (.iconst 3, 1) := by decide +kernel
theorem V.dX17_wholeOf_171 : decode cX17_wholeOf 171 = .ok (.if_icmp .ne 32, 3) := by decide +kernel
theorem V.dX17_wholeOf_174 : decode cX17_wholeOf 174 = .ok (.lload 8, 2) := by decide +kernel
theorem V.dX17_wholeOf_176 : decode cX17_wholeOf 176 = .ok (.lload 10, 2) := by decide +kernel
theorem V.dX17_wholeOf_178 : decode cX17_wholeOf 178 = .ok (.lcmp, 1) := by decide +kernel
theorem V.dX17_wholeOf_179 : decode cX17_wholeOf 179 = .ok (.ifCond .gt 20, 3) := by decide +kernel
theorem V.dX17_wholeOf_182 : decode cX17_wholeOf 182 = .ok (.lload 8, 2) := by decide +kernel
theorem V.dX17_wholeOf_184 : decode cX17_wholeOf 184 = .ok (.lload 10, 2) := by decide +kernel
theorem V.dX17_wholeOf_186 : decode cX17_wholeOf 186 = .ok (.lcmp, 1) := by decide +kernel
theorem V.dX17_wholeOf_187 : decode cX17_wholeOf 187 = .ok (.ifCond .ne 16, 3) := by decide +kernel
theorem V.dX17_wholeOf_190 : decode cX17_wholeOf 190 = .ok (.lload 6, 2) := by decide +kernel
theorem V.dX17_wholeOf_192 : decode cX17_wholeOf 192 = .ok (.lconst 1, 1) := by decide +kernel
theorem V.dX17_wholeOf_193 : decode cX17_wholeOf 193 = .ok (.land, 1) := by decide +kernel
theorem V.dX17_wholeOf_194 : decode cX17_wholeOf 194 = .ok (.lconst 1, 1) := by decide +kernel
theorem V.dX17_wholeOf_195 : decode cX17_wholeOf 195 = .ok (.lcmp, 1) := by decide +kernel
theorem V.dX17_wholeOf_196 : decode cX17_wholeOf 196 = .ok (.ifCond .ne 7, 3) := by decide +kernel
theorem V.dX17_wholeOf_199 : decode cX17_wholeOf 199 = .ok (.iconst 1, 1) := by decide +kernel
theorem V.dX17_wholeOf_200 : decode cX17_wholeOf 200 = .ok (.goto 4, 3) := by decide +kernel
theorem V.dX17_wholeOf_203 : decode cX17_wholeOf 203 = .ok (.iconst 0, 1) := by decide +kernel
theorem V.dX17_wholeOf_204 : decode cX17_wholeOf 204 = .ok (.istore 12, 2) := by decide +kernel
theorem V.dX17_wholeOf_206 : decode cX17_wholeOf 206 = .ok (.iload 12, 2) := by decide +kernel
theorem V.dX17_wholeOf_208 : decode cX17_wholeOf 208 = .ok (.ifCond .eq 10, 3) := by decide +kernel
theorem V.dX17_wholeOf_211 : decode cX17_wholeOf 211 = .ok (.lload 6, 2) := by decide +kernel
theorem V.dX17_wholeOf_213 : decode cX17_wholeOf 213 = .ok (.lconst 1, 1) := by decide +kernel
theorem V.dX17_wholeOf_214 : decode cX17_wholeOf 214 = .ok (.ladd, 1) := by decide +kernel
theorem V.dX17_wholeOf_215 : decode cX17_wholeOf 215 = .ok (.goto 5, 3) := by decide +kernel
theorem V.dX17_wholeOf_218 : decode cX17_wholeOf 218 = .ok (.lload 6, 2) := by decide +kernel
theorem V.dX17_wholeOf_220 : decode cX17_wholeOf 220 = .ok (.lstore 6, 2) := by decide +kernel
theorem V.dX17_wholeOf_222 : decode cX17_wholeOf 222 = .ok (.lload 6, 2) := by decide +kernel
theorem V.dX17_wholeOf_224 : decode cX17_wholeOf 224 = .ok (.lconst 0, 1) := by decide +kernel
theorem V.dX17_wholeOf_225 : decode cX17_wholeOf 225 = .ok (.lcmp, 1) := by decide +kernel
theorem V.dX17_wholeOf_226 : decode cX17_wholeOf 226 = .ok (.ifCond .ne 18, 3) := by decide +kernel
theorem V.dX17_wholeOf_229 : decode cX17_wholeOf 229 = .ok (.iload_n 2, 1) := by decide +kernel
theorem V.dX17_wholeOf_230 : decode cX17_wholeOf 230 = .ok (.aload_n 0, 1) := by decide +kernel
theorem V.dX17_wholeOf_231 : decode cX17_wholeOf 231 = .ok (.getfield 61, 3) := by decide +kernel
theorem V.dX17_wholeOf_234 : decode cX17_wholeOf 234 = .ok (.getfield 921, 3) := by decide +kernel
theorem V.dX17_wholeOf_237 : decode cX17_wholeOf 237 = .ok (.lconst 0, 1) := by decide +kernel
theorem V.dX17_wholeOf_238 : decode cX17_wholeOf 238 = .ok (.invokestatic 882, 3) := by decide +kernel
theorem V.dX17_wholeOf_241 : decode cX17_wholeOf 241 = .ok (.goto 19, 3) := by decide +kernel
theorem V.dX17_wholeOf_244 : decode cX17_wholeOf 244 = .ok (.iload_n 2, 1) := by decide +kernel
theorem V.dX17_wholeOf_245 : decode cX17_wholeOf 245 = .ok (.aload_n 0, 1) := by decide +kernel
theorem V.dX17_wholeOf_246 : decode cX17_wholeOf 246 = .ok (.getfield 61, 3) := by decide +kernel
theorem V.dX17_wholeOf_249 : decode cX17_wholeOf 249 = .ok (.getfield 921, 3) := by decide +kernel
theorem V.dX17_wholeOf_252 : decode cX17_wholeOf 252 = .ok (.lconst 0, 1) := by decide +kernel
theorem V.dX17_wholeOf_253 : decode cX17_wholeOf 253 = .ok (.lload 6, 2) := by decide +kernel
theorem V.dX17_wholeOf_255 : decode cX17_wholeOf 255 = .ok (.iconst 0, 1) := by decide +kernel
theorem V.dX17_wholeOf_256 : decode cX17_wholeOf 256 = .ok (.iconst 0, 1) := by decide +kernel
theorem V.dX17_wholeOf_257 : decode cX17_wholeOf 257 = .ok (.invokestatic 924, 3) := by decide +kernel
theorem V.dX17_wholeOf_260 : decode cX17_wholeOf 260 = .ok (.lreturn, 1) := by decide +kernel
theorem V.fdX17_913 : FD RX17 913 19 3 0 := ⟨(RX19, TX19, 4), tyX19, rfl, rfl, in_X19, by decide, Or.inr ⟨_, q3023⟩, rfl⟩
theorem V.fdX17_916 : FD RX17 916 19 2 1 := ⟨(RX19, TX19, 4), tyX19, rfl, rfl, in_X19, by decide, Or.inr ⟨_, q3021⟩, rfl⟩
theorem V.mdX17_910 : MD RX17 910 yX17_noneOf cX17_noneOf 1 (some .long) 1 := ⟨Or.inl q4250, q377, q4252, by decide, by decide, by decide +kernel⟩
theorem V.fdX17_921 : FD RX17 921 19 0 0 := ⟨(RX19, TX19, 4), tyX19, rfl, rfl, in_X19, by decide, Or.inr ⟨_, q3017⟩, rfl⟩
theorem V.mdX17_924 : MD RX17 924 yX17_rounded cX17_rounded 19 (some .long) 6 := ⟨Or.inl q4259, q377, q4261, by decide, by decide, by decide +kernel⟩
/-! ModuleEngineModel.wholeOf(IIJ)J -/
def V.Mdl_wholeOf_p220  (σ : HS) (x0 : Nat) (x2 : Int32) (s0 : Int64) : Option (Int64 × HS) :=
  if s0 = (0 : Int64) then (
    ck (tg σ x0 = 18) <|
    ck (tg σ (gR σ x0 34) = 20) <|
    cl (Mdl_withSign σ x2 (gI σ (gR σ x0 34) 0) (0 : Int64)) fun r4 σ3 =>
    some (r4, σ3))
  else (
    ck (tg σ x0 = 18) <|
    ck (tg σ (gR σ x0 34) = 20) <|
    cl (Mdl_rounded σ x2 (gI σ (gR σ x0 34) 0) (0 : Int64) s0 (0 : Int32) (0 : Int32)) fun r2 σ1 =>
    some (r2, σ1))
theorem V.gX17_wholeOf_p220 {X : CX}  (σ : HS) (x0 : Nat) (x2 : Int32) (s0 : Int64) : G X RX17 "wholeOf" cX17_wholeOf 13 (some .long) 3 81 enJ 220 [(0, av x0), (2, iv x2)] [jv s0] σ (Mdl_wholeOf_p220 σ x0 x2 s0) := by
  unfold Mdl_wholeOf_p220
  refine g_lstore dX17_wholeOf_220 (by decide) rfl ?_
  refine g_lload 0 dX17_wholeOf_222 rfl ?_
  refine g_lconst (v := 0) dX17_wholeOf_224 (by decide) ?_
  refine g_lcmp_ne 244 dX17_wholeOf_225 dX17_wholeOf_226 (by decide) ?_ ?_
  · refine g_iload_n 2 2 dX17_wholeOf_244 rfl rfl ?_
    refine g_aload_n 0 1 dX17_wholeOf_245 rfl rfl ?_
    refine g_getR fdX17_61 dX17_wholeOf_246 ?_
    refine g_getI fdX17_921 dX17_wholeOf_249 ?_
    refine g_lconst (v := 0) dX17_wholeOf_252 (by decide) ?_
    refine g_lload 0 dX17_wholeOf_253 rfl ?_
    refine g_iconst (v := 0) dX17_wholeOf_255 (by decide) ?_
    refine g_iconst (v := 0) dX17_wholeOf_256 (by decide) ?_
    refine g_callS (fc := fun sς => Mdl_rounded sς x2 (gI σ (gR σ x0 34) 0) (0 : Int64) s0 (0 : Int32) (0 : Int32)) (as := [iv x2, iv (gI σ (gR σ x0 34) 0), jv (0 : Int64), jv s0, iv (0 : Int32), iv (0 : Int32)]) q4260 mdX17_924 (ctX17_rounded x2 (gI σ (gR σ x0 34) 0) (0 : Int64) s0 (0 : Int32) (0 : Int32)) rfl (Nat.le_of_ble_eq_true rfl) (Nat.le_of_ble_eq_true rfl) (Nat.le_of_ble_eq_true rfl) pu_J dX17_wholeOf_257 (fun r2 σ1 => ?_)
    exact g_lreturn rfl dX17_wholeOf_260
  · refine g_iload_n 2 2 dX17_wholeOf_229 rfl rfl ?_
    refine g_aload_n 0 1 dX17_wholeOf_230 rfl rfl ?_
    refine g_getR fdX17_61 dX17_wholeOf_231 ?_
    refine g_getI fdX17_921 dX17_wholeOf_234 ?_
    refine g_lconst (v := 0) dX17_wholeOf_237 (by decide) ?_
    refine g_callS (fc := fun sς => Mdl_withSign sς x2 (gI σ (gR σ x0 34) 0) (0 : Int64)) (as := [iv x2, iv (gI σ (gR σ x0 34) 0), jv (0 : Int64)]) q4257 mdX17_882 (ctX17_withSign x2 (gI σ (gR σ x0 34) 0) (0 : Int64)) rfl (Nat.le_of_ble_eq_true rfl) (Nat.le_of_ble_eq_true rfl) (Nat.le_of_ble_eq_true rfl) pu_J dX17_wholeOf_238 (fun r4 σ3 => ?_)
    refine g_goto 260 dX17_wholeOf_241 (by decide) ?_
    exact g_lreturn rfl dX17_wholeOf_260
def V.Mdl_wholeOf_p204  (σ : HS) (x0 : Nat) (x2 : Int32) (x6 : Int64) (s0 : Int32) : Option (Int64 × HS) :=
  if s0 = 0 then (
    Mdl_wholeOf_p220 σ x0 x2 x6)
  else (
    Mdl_wholeOf_p220 σ x0 x2 (x6 + (1 : Int64)))
theorem V.gX17_wholeOf_p204 {X : CX}  (σ : HS) (x0 : Nat) (x2 : Int32) (x6 : Int64) (s0 : Int32) : G X RX17 "wholeOf" cX17_wholeOf 13 (some .long) 3 81 enJ 204 [(0, av x0), (2, iv x2), (6, jv x6)] [iv s0] σ (Mdl_wholeOf_p204 σ x0 x2 x6 s0) := by
  unfold Mdl_wholeOf_p204
  refine g_istore dX17_wholeOf_204 (by decide) rfl ?_
  refine g_iload 0 dX17_wholeOf_206 rfl ?_
  refine g_if_eq 218 dX17_wholeOf_208 (by decide) ?_ ?_
  · refine g_lload 3 dX17_wholeOf_218 rfl ?_
    refine G.sub [1, 2] rfl ?_
    exact gX17_wholeOf_p220 _ _ _ _
  · refine g_lload 3 dX17_wholeOf_211 rfl ?_
    refine g_lconst (v := 1) dX17_wholeOf_213 (by decide) ?_
    refine g_ladd dX17_wholeOf_214 ?_
    refine g_goto 220 dX17_wholeOf_215 (by decide) ?_
    refine G.sub [1, 2] rfl ?_
    exact gX17_wholeOf_p220 _ _ _ _
def V.Mdl_wholeOf_p203  (σ : HS) (x0 : Nat) (x2 : Int32) (x6 : Int64) : Option (Int64 × HS) :=
  Mdl_wholeOf_p204 σ x0 x2 x6 (0 : Int32)
theorem V.gX17_wholeOf_p203 {X : CX}  (σ : HS) (x0 : Nat) (x2 : Int32) (x6 : Int64) : G X RX17 "wholeOf" cX17_wholeOf 13 (some .long) 3 81 enJ 203 [(0, av x0), (2, iv x2), (6, jv x6)] [] σ (Mdl_wholeOf_p203 σ x0 x2 x6) := by
  unfold Mdl_wholeOf_p203
  refine g_iconst (v := 0) dX17_wholeOf_203 (by decide) ?_
  exact gX17_wholeOf_p204 _ _ _ _ _
def V.Mdl_wholeOf_p199  (σ : HS) (x0 : Nat) (x2 : Int32) (x6 : Int64) : Option (Int64 × HS) :=
  Mdl_wholeOf_p204 σ x0 x2 x6 (1 : Int32)
theorem V.gX17_wholeOf_p199 {X : CX}  (σ : HS) (x0 : Nat) (x2 : Int32) (x6 : Int64) : G X RX17 "wholeOf" cX17_wholeOf 13 (some .long) 3 81 enJ 199 [(0, av x0), (2, iv x2), (6, jv x6)] [] σ (Mdl_wholeOf_p199 σ x0 x2 x6) := by
  unfold Mdl_wholeOf_p199
  refine g_iconst (v := 1) dX17_wholeOf_199 (by decide) ?_
  refine g_goto 204 dX17_wholeOf_200 (by decide) ?_
  exact gX17_wholeOf_p204 _ _ _ _ _
def V.Mdl_wholeOf_p169  (σ : HS) (x0 : Nat) (x1 : Int32) (x2 : Int32) (x6 : Int64) (x8 : Int64) (x10 : Int64) : Option (Int64 × HS) :=
  if x1 = (3 : Int32) then (
    if x10 < x8 then (
      Mdl_wholeOf_p199 σ x0 x2 x6)
    else (
      if x8 = x10 then (
        if (x6 &&& (1 : Int64)) = (1 : Int64) then (
          Mdl_wholeOf_p199 σ x0 x2 x6)
        else (
          Mdl_wholeOf_p203 σ x0 x2 x6))
      else (
        Mdl_wholeOf_p203 σ x0 x2 x6)))
  else (
    Mdl_wholeOf_p203 σ x0 x2 x6)
theorem V.gX17_wholeOf_p169 {X : CX}  (σ : HS) (x0 : Nat) (x1 : Int32) (x2 : Int32) (x6 : Int64) (x8 : Int64) (x10 : Int64) : G X RX17 "wholeOf" cX17_wholeOf 13 (some .long) 3 81 enJ 169 [(0, av x0), (1, iv x1), (2, iv x2), (6, jv x6), (8, jv x8), (10, jv x10)] [] σ (Mdl_wholeOf_p169 σ x0 x1 x2 x6 x8 x10) := by
  unfold Mdl_wholeOf_p169
  refine g_iload_n 1 1 dX17_wholeOf_169 rfl rfl ?_
  refine g_iconst (v := 3) dX17_wholeOf_170 (by decide) ?_
  refine g_icmp_ne 203 dX17_wholeOf_171 (by decide) ?_ ?_
  · refine G.sub [0, 2, 3] rfl ?_
    exact gX17_wholeOf_p203 _ _ _ _
  · refine g_lload 4 dX17_wholeOf_174 rfl ?_
    refine g_lload 5 dX17_wholeOf_176 rfl ?_
    refine g_lcmp_gt 199 dX17_wholeOf_178 dX17_wholeOf_179 (by decide) ?_ ?_
    · refine G.sub [0, 2, 3] rfl ?_
      exact gX17_wholeOf_p199 _ _ _ _
    · refine g_lload 4 dX17_wholeOf_182 rfl ?_
      refine g_lload 5 dX17_wholeOf_184 rfl ?_
      refine g_lcmp_ne 203 dX17_wholeOf_186 dX17_wholeOf_187 (by decide) ?_ ?_
      · refine G.sub [0, 2, 3] rfl ?_
        exact gX17_wholeOf_p203 _ _ _ _
      · refine g_lload 3 dX17_wholeOf_190 rfl ?_
        refine g_lconst (v := 1) dX17_wholeOf_192 (by decide) ?_
        refine g_land dX17_wholeOf_193 ?_
        refine g_lconst (v := 1) dX17_wholeOf_194 (by decide) ?_
        refine g_lcmp_ne 203 dX17_wholeOf_195 dX17_wholeOf_196 (by decide) ?_ ?_
        · refine G.sub [0, 2, 3] rfl ?_
          exact gX17_wholeOf_p203 _ _ _ _
        · refine G.sub [0, 2, 3] rfl ?_
          exact gX17_wholeOf_p199 _ _ _ _
def V.Mdl_wholeOf_p154  (σ : HS) (x0 : Nat) (x1 : Int32) (x2 : Int32) (x6 : Int64) (x8 : Int64) (x10 : Int64) : Option (Int64 × HS) :=
  if x1 = (1 : Int32) then (
    ck (tg σ x0 = 18) <|
    ck (tg σ (gR σ x0 34) = 20) <|
    if (gI σ (gR σ x0 34) 0) = 0 then (
      Mdl_wholeOf_p169 σ x0 x1 x2 x6 x8 x10)
    else (
      Mdl_wholeOf_p199 σ x0 x2 x6))
  else (
    Mdl_wholeOf_p169 σ x0 x1 x2 x6 x8 x10)
theorem V.gX17_wholeOf_p154 {X : CX}  (σ : HS) (x0 : Nat) (x1 : Int32) (x2 : Int32) (x6 : Int64) (x8 : Int64) (x10 : Int64) : G X RX17 "wholeOf" cX17_wholeOf 13 (some .long) 3 81 enJ 154 [(0, av x0), (1, iv x1), (2, iv x2), (6, jv x6), (8, jv x8), (10, jv x10)] [] σ (Mdl_wholeOf_p154 σ x0 x1 x2 x6 x8 x10) := by
  unfold Mdl_wholeOf_p154
  refine g_iload_n 1 1 dX17_wholeOf_154 rfl rfl ?_
  refine g_iconst (v := 1) dX17_wholeOf_155 (by decide) ?_
  refine g_icmp_ne 169 dX17_wholeOf_156 (by decide) ?_ ?_
  · exact gX17_wholeOf_p169 _ _ _ _ _ _ _
  · refine g_aload_n 0 0 dX17_wholeOf_159 rfl rfl ?_
    refine g_getR fdX17_61 dX17_wholeOf_160 ?_
    refine g_getI fdX17_921 dX17_wholeOf_163 ?_
    refine g_if_ne 199 dX17_wholeOf_166 (by decide) ?_ ?_
    · refine G.sub [0, 2, 3] rfl ?_
      exact gX17_wholeOf_p199 _ _ _ _
    · exact gX17_wholeOf_p169 _ _ _ _ _ _ _
def V.Mdl_wholeOf_p131  (σ : HS) (x0 : Nat) (x1 : Int32) (x2 : Int32) (x6 : Int64) (x8 : Int64) (s0 : Int64) : Option (Int64 × HS) :=
  if x8 = (0 : Int64) then (
    Mdl_wholeOf_p203 σ x0 x2 x6)
  else (
    if x1 = 0 then (
      ck (tg σ x0 = 18) <|
      ck (tg σ (gR σ x0 34) = 20) <|
      if (gI σ (gR σ x0 34) 0) = 0 then (
        Mdl_wholeOf_p199 σ x0 x2 x6)
      else (
        Mdl_wholeOf_p154 σ x0 x1 x2 x6 x8 s0))
    else (
      Mdl_wholeOf_p154 σ x0 x1 x2 x6 x8 s0))
theorem V.gX17_wholeOf_p131 {X : CX}  (σ : HS) (x0 : Nat) (x1 : Int32) (x2 : Int32) (x6 : Int64) (x8 : Int64) (s0 : Int64) : G X RX17 "wholeOf" cX17_wholeOf 13 (some .long) 3 81 enJ 131 [(0, av x0), (1, iv x1), (2, iv x2), (6, jv x6), (8, jv x8)] [jv s0] σ (Mdl_wholeOf_p131 σ x0 x1 x2 x6 x8 s0) := by
  unfold Mdl_wholeOf_p131
  refine g_lstore dX17_wholeOf_131 (by decide) rfl ?_
  refine g_lload 5 dX17_wholeOf_133 rfl ?_
  refine g_lconst (v := 0) dX17_wholeOf_135 (by decide) ?_
  refine g_lcmp_eq 203 dX17_wholeOf_136 dX17_wholeOf_137 (by decide) ?_ ?_
  · refine G.sub [1, 3, 4] rfl ?_
    exact gX17_wholeOf_p203 _ _ _ _
  · refine g_iload_n 1 2 dX17_wholeOf_140 rfl rfl ?_
    refine g_if_ne 154 dX17_wholeOf_141 (by decide) ?_ ?_
    · refine G.sub [1, 2, 3, 4, 5, 0] rfl ?_
      exact gX17_wholeOf_p154 _ _ _ _ _ _ _
    · refine g_aload_n 0 1 dX17_wholeOf_144 rfl rfl ?_
      refine g_getR fdX17_61 dX17_wholeOf_145 ?_
      refine g_getI fdX17_921 dX17_wholeOf_148 ?_
      refine g_if_eq 199 dX17_wholeOf_151 (by decide) ?_ ?_
      · refine G.sub [1, 3, 4] rfl ?_
        exact gX17_wholeOf_p199 _ _ _ _
      · refine G.sub [1, 2, 3, 4, 5, 0] rfl ?_
        exact gX17_wholeOf_p154 _ _ _ _ _ _ _
def V.Mdl_wholeOf_p110  (σ : HS) (x0 : Nat) (x1 : Int32) (x2 : Int32) (x5 : Int32) (x6 : Int64) (s0 : Int64) : Option (Int64 × HS) :=
  if x5 ≤ (62 : Int32) then (
    Mdl_wholeOf_p131 σ x0 x1 x2 x6 s0 (lshl (1 : Int64) (x5 - (1 : Int32))))
  else (
    Mdl_wholeOf_p131 σ x0 x1 x2 x6 s0 (9223372036854775807 : Int64))
theorem V.gX17_wholeOf_p110 {X : CX}  (σ : HS) (x0 : Nat) (x1 : Int32) (x2 : Int32) (x5 : Int32) (x6 : Int64) (s0 : Int64) : G X RX17 "wholeOf" cX17_wholeOf 13 (some .long) 3 81 enJ 110 [(0, av x0), (1, iv x1), (2, iv x2), (5, iv x5), (6, jv x6)] [jv s0] σ (Mdl_wholeOf_p110 σ x0 x1 x2 x5 x6 s0) := by
  unfold Mdl_wholeOf_p110
  refine g_lstore dX17_wholeOf_110 (by decide) rfl ?_
  refine g_iload 4 dX17_wholeOf_112 rfl ?_
  refine g_bipush (v := 62) dX17_wholeOf_114 (by decide) ?_
  refine g_icmp_le 125 dX17_wholeOf_116 (by decide) ?_ ?_
  · refine g_lconst (v := 1) dX17_wholeOf_125 (by decide) ?_
    refine g_iload 4 dX17_wholeOf_126 rfl ?_
    refine g_iconst (v := 1) dX17_wholeOf_128 (by decide) ?_
    refine g_isub dX17_wholeOf_129 ?_
    refine g_lshl dX17_wholeOf_130 ?_
    refine G.sub [1, 2, 3, 5, 0] rfl ?_
    exact gX17_wholeOf_p131 _ _ _ _ _ _ _
  · refine g_ldc2 q4255 dX17_wholeOf_119 ?_
    refine g_goto 131 dX17_wholeOf_122 (by decide) ?_
    refine G.sub [1, 2, 3, 5, 0] rfl ?_
    exact gX17_wholeOf_p131 _ _ _ _ _ _ _
def V.Mdl_wholeOf_p78  (σ : HS) (x0 : Nat) (x1 : Int32) (x2 : Int32) (x5 : Int32) (s0 : Int64) : Option (Int64 × HS) :=
  if x5 ≤ (62 : Int32) then (
    ck (tg σ x0 = 18) <|
    ck (tg σ (gR σ x0 34) = 20) <|
    Mdl_wholeOf_p110 σ x0 x1 x2 x5 s0 ((gJ σ (gR σ x0 34) 2) - (lshl s0 x5)))
  else (
    ck (tg σ x0 = 18) <|
    ck (tg σ (gR σ x0 34) = 20) <|
    Mdl_wholeOf_p110 σ x0 x1 x2 x5 s0 (gJ σ (gR σ x0 34) 2))
theorem V.gX17_wholeOf_p78 {X : CX}  (σ : HS) (x0 : Nat) (x1 : Int32) (x2 : Int32) (x5 : Int32) (s0 : Int64) : G X RX17 "wholeOf" cX17_wholeOf 13 (some .long) 3 81 enJ 78 [(0, av x0), (1, iv x1), (2, iv x2), (5, iv x5)] [jv s0] σ (Mdl_wholeOf_p78 σ x0 x1 x2 x5 s0) := by
  unfold Mdl_wholeOf_p78
  refine g_lstore dX17_wholeOf_78 (by decide) rfl ?_
  refine g_iload 4 dX17_wholeOf_80 rfl ?_
  refine g_bipush (v := 62) dX17_wholeOf_82 (by decide) ?_
  refine g_icmp_le 97 dX17_wholeOf_84 (by decide) ?_ ?_
  · refine g_aload_n 0 1 dX17_wholeOf_97 rfl rfl ?_
    refine g_getR fdX17_61 dX17_wholeOf_98 ?_
    refine g_getJ fdX17_916 dX17_wholeOf_101 ?_
    refine g_lload 0 dX17_wholeOf_104 rfl ?_
    refine g_iload 4 dX17_wholeOf_106 rfl ?_
    refine g_lshl dX17_wholeOf_108 ?_
    refine g_lsub dX17_wholeOf_109 ?_
    refine G.sub [1, 2, 3, 4, 0] rfl ?_
    exact gX17_wholeOf_p110 _ _ _ _ _ _ _
  · refine g_aload_n 0 1 dX17_wholeOf_87 rfl rfl ?_
    refine g_getR fdX17_61 dX17_wholeOf_88 ?_
    refine g_getJ fdX17_916 dX17_wholeOf_91 ?_
    refine g_goto 110 dX17_wholeOf_94 (by decide) ?_
    refine G.sub [1, 2, 3, 4, 0] rfl ?_
    exact gX17_wholeOf_p110 _ _ _ _ _ _ _
def V.Mdl_wholeOf (σ : HS) (x0 : Nat) (x1 : Int32) (x2 : Int32) (x3 : Int64) : Option (Int64 × HS) :=
  ck (tg σ x0 = 18) <|
  ck (tg σ (gR σ x0 34) = 20) <| cl (Rea_read σ (gR σ x0 34) x2 x3) fun _ σ1 =>
  ck (tg σ1 x0 = 18) <|
  ck (tg σ1 (gR σ1 x0 34) = 20) <|
  if (gI σ1 (gR σ1 x0 34) 1) = (3 : Int32) then (
    cl (Mdl_noneOf σ1 x2) fun r4 σ3 =>
    some (r4, σ3))
  else (
    ck (tg σ1 x0 = 18) <|
    ck (tg σ1 (gR σ1 x0 34) = 20) <|
    if (gI σ1 (gR σ1 x0 34) 1) = 0 then (
      ck (tg σ1 x0 = 18) <|
      ck (tg σ1 (gR σ1 x0 34) = 20) <|
      if (gI σ1 (gR σ1 x0 34) 3) < 0 then (
        ck (tg σ1 x0 = 18) <|
        ck (tg σ1 (gR σ1 x0 34) = 20) <|
        bn (-(gI σ1 (gR σ1 x0 34) 3)) fun y2 =>
        if y2 ≤ (62 : Int32) then (
          ck (tg σ1 x0 = 18) <|
          ck (tg σ1 (gR σ1 x0 34) = 20) <|
          Mdl_wholeOf_p78 σ1 x0 x1 x2 y2 (lushr (gJ σ1 (gR σ1 x0 34) 2) y2))
        else (
          Mdl_wholeOf_p78 σ1 x0 x1 x2 y2 (0 : Int64)))
      else (
        some (x3, σ1)))
    else (
      some (x3, σ1)))
theorem V.ctX17_wholeOf (x0 : Nat) (x1 : Int32) (x2 : Int32) (x3 : Int64) : Ct yX17_wholeOf  cX17_wholeOf 13 (some .long) 3 81 eJ [av x0, iv x1, iv x2, jv x3] (fun σ => Mdl_wholeOf σ x0 x1 x2 x3) := by
  refine Ct.of (own := RX17) (nm := "wholeOf") (desc := "(IIJ)J") rfl (by decide) (Nat.le_of_ble_eq_true rfl) (by decide) (fun X σ => ?_)
  show G X RX17 "wholeOf" cX17_wholeOf 13 (some .long) 3 81 enJ 0 [(0, av x0), (1, iv x1), (2, iv x2), (3, jv x3)] [] σ (Mdl_wholeOf σ x0 x1 x2 x3)
  unfold Mdl_wholeOf
  refine g_aload_n 0 0 dX17_wholeOf_0 rfl rfl ?_
  refine g_getR fdX17_61 dX17_wholeOf_1 ?_
  refine g_iload_n 2 2 dX17_wholeOf_4 rfl rfl ?_
  refine g_lload_n 3 3 dX17_wholeOf_5 rfl rfl ?_
  refine g_callV (fc := fun sς => Rea_read sς (gR σ x0 34) x2 x3) (ci := 19) (as := [iv x2, jv x3]) rfl rfl rfl q4200 q4201 mdX17_868 (ctX19_read (gR σ x0 34) x2 x3) rfl (Nat.le_of_ble_eq_true rfl) (Nat.le_of_ble_eq_true rfl) (Nat.le_of_ble_eq_true rfl) pu_V dX17_wholeOf_6 (fun _ σ1 => ?_)
  refine g_aload_n 0 0 dX17_wholeOf_9 rfl rfl ?_
  refine g_getR fdX17_61 dX17_wholeOf_10 ?_
  refine g_getI fdX17_871 dX17_wholeOf_13 ?_
  refine g_iconst (v := 3) dX17_wholeOf_16 (by decide) ?_
  refine g_icmp_ne 25 dX17_wholeOf_17 (by decide) ?_ ?_
  · refine g_aload_n 0 0 dX17_wholeOf_25 rfl rfl ?_
    refine g_getR fdX17_61 dX17_wholeOf_26 ?_
    refine g_getI fdX17_871 dX17_wholeOf_29 ?_
    refine g_if_ne 45 dX17_wholeOf_32 (by decide) ?_ ?_
    · refine g_lload_n 3 3 dX17_wholeOf_45 rfl rfl ?_
      exact g_lreturn rfl dX17_wholeOf_46
    · refine g_aload_n 0 0 dX17_wholeOf_35 rfl rfl ?_
      refine g_getR fdX17_61 dX17_wholeOf_36 ?_
      refine g_getI fdX17_913 dX17_wholeOf_39 ?_
      refine g_if_lt 47 dX17_wholeOf_42 (by decide) ?_ ?_
      · refine g_aload_n 0 0 dX17_wholeOf_47 rfl rfl ?_
        refine g_getR fdX17_61 dX17_wholeOf_48 ?_
        refine g_getI fdX17_913 dX17_wholeOf_51 ?_
        refine g_ineg dX17_wholeOf_54 ?_
        refine g_nmI (fun y2 => ?_)
        refine g_istore dX17_wholeOf_55 (by decide) rfl ?_
        refine g_iload 0 dX17_wholeOf_57 rfl ?_
        refine g_bipush (v := 62) dX17_wholeOf_59 (by decide) ?_
        refine g_icmp_le 68 dX17_wholeOf_61 (by decide) ?_ ?_
        · refine g_aload_n 0 1 dX17_wholeOf_68 rfl rfl ?_
          refine g_getR fdX17_61 dX17_wholeOf_69 ?_
          refine g_getJ fdX17_916 dX17_wholeOf_72 ?_
          refine g_iload 0 dX17_wholeOf_75 rfl ?_
          refine g_lushr dX17_wholeOf_77 ?_
          refine G.sub [1, 2, 3, 0] rfl ?_
          exact gX17_wholeOf_p78 _ _ _ _ _ _
        · refine g_lconst (v := 0) dX17_wholeOf_64 (by decide) ?_
          refine g_goto 78 dX17_wholeOf_65 (by decide) ?_
          refine G.sub [1, 2, 3, 0] rfl ?_
          exact gX17_wholeOf_p78 _ _ _ _ _ _
      · refine g_lload_n 3 3 dX17_wholeOf_45 rfl rfl ?_
        exact g_lreturn rfl dX17_wholeOf_46
  · refine g_iload_n 2 2 dX17_wholeOf_20 rfl rfl ?_
    refine g_callS (fc := fun sς => Mdl_noneOf sς x2) (as := [iv x2]) q4251 mdX17_910 (ctX17_noneOf x2) rfl (Nat.le_of_ble_eq_true rfl) (Nat.le_of_ble_eq_true rfl) (Nat.le_of_ble_eq_true rfl) pu_J dX17_wholeOf_21 (fun r4 σ3 => ?_)
    exact g_lreturn rfl dX17_wholeOf_24
