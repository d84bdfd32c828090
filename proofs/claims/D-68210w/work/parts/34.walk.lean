set_option maxRecDepth 100000
theorem V.dX17_offer_0 : decode cX17_offer 0 = .ok (.iload_n 1, 1) := by decide +kernel
theorem V.dX17_offer_1 : decode cX17_offer 1 = .ok (.iconst (-1), 1) := by decide +kernel
theorem V.dX17_offer_2 : decode cX17_offer 2 = .ok (.if_icmp .ne 7, 3) := by decide +kernel
theorem V.dX17_offer_5 : decode cX17_offer 5 = .ok (.iconst 1, 1) := by decide +kernel
theorem V.dX17_offer_6 : decode cX17_offer 6 = .ok (.goto 4, 3) := by decide +kernel
theorem V.dX17_offer_9 : decode cX17_offer 9 = .ok (.iconst 0, 1) := by decide +kernel
theorem V.dX17_offer_10 : decode cX17_offer 10 = .ok (.istore_n 3, 1) := by decide +kernel
theorem V.dX17_offer_11 : decode cX17_offer 11 = .ok (.aload_n 0, 1) := by decide +kernel
theorem V.dX17_offer_12 : decode cX17_offer 12 = .ok (.getfield 967, 3) := by decide +kernel
theorem V.dX17_offer_15 : decode cX17_offer 15 = .ok (.bipush 64, 2) := by decide +kernel
theorem V.dX17_offer_17 : decode cX17_offer 17 = .ok (.if_icmp .eq 29, 3) := by decide +kernel
theorem V.dX17_offer_20 : decode cX17_offer 20 = .ok (.iload_n 3, 1) := by decide +kernel
theorem V.dX17_offer_21 : decode cX17_offer 21 = .ok (.ifCond .eq 16, 3) := by decide +kernel
theorem V.dX17_offer_24 : decode cX17_offer 24 = .ok (.iload_n 2, 1) := by decide +kernel
theorem V.dX17_offer_25 : decode cX17_offer 25 = .ok (.ifCond .lt 21, 3) := by decide +kernel
theorem V.dX17_offer_28 : decode cX17_offer 28 = .ok (.iload_n 2, 1) := by decide +kernel
theorem V.dX17_offer_29 : decode cX17_offer 29 = .ok (.bipush 63, 2) := by decide +kernel
theorem V.dX17_offer_31 : decode cX17_offer 31 = .ok (.if_icmp .le 17, 3) := by decide +kernel
theorem V.dX17_offer_34 : decode cX17_offer 34 = .ok (.goto 12, 3) := by decide +kernel
theorem V.dX17_offer_37 : decode cX17_offer 37 = .ok (.aload_n 0, 1) := by decide +kernel
theorem V.dX17_offer_38 : decode cX17_offer 38 = .ok (.iload_n 1, 1) := by decide +kernel
theorem V.dX17_offer_39 : decode cX17_offer 39 = .ok (.iload_n 2, 1) := by decide +kernel
theorem V.dX17_offer_40 : decode cX17_offer 40 = .ok (.invokevirtual 961, 3) := by decide +kernel
theorem V.dX17_offer_43 : decode cX17_offer 43 = .ok (.ifCond .ne 5, 3) := by decide +kernel
theorem V.dX17_offer_46 : decode cX17_offer 46 = .ok (.iconst (-1), 1) := by decide +kernel
theorem V.dX17_offer_47 : decode cX17_offer 47 = .ok (.ireturn, 1) := by decide +kernel
theorem V.dX17_offer_48 : decode cX17_offer 48 = .ok (.aload_n 0, 1) := by decide +kernel
theorem V.dX17_offer_49 : decode cX17_offer 49 = .ok (.getfield 158, 3) := by decide +kernel
theorem V.dX17_offer_52 : decode cX17_offer 52 = .ok (.aload_n 0, 1) := by decide +kernel
theorem V.dX17_offer_53 : decode cX17_offer 53 = .ok (.getfield 967, 3) := by decide +kernel
theorem V.dX17_offer_56 : decode cX17_offer 56 = .ok (.iload_n 3, 1) := by decide +kernel
theorem V.dX17_offer_57 : decode cX17_offer 57 = .ok (.ifCond .eq 7, 3) := by decide +kernel
theorem V.dX17_offer_60 : decode cX17_offer 60 = .ok (.iconst (-1), 1) := by decide +kernel
theorem V.dX17_offer_61 : decode cX17_offer 61 = .ok (.goto 9, 3) := by decide +kernel
theorem V.dX17_offer_64 : decode cX17_offer 64 = .ok (.aload_n 0, 1) := by decide +kernel
theorem V.dX17_offer_65 : decode cX17_offer 65 = .ok (.iload_n 1, 1) := by decide +kernel
theorem V.dX17_offer_66 : decode cX17_offer 66 = .ok (.iload_n 2, 1) := by decide +kernel
theorem V.dX17_offer_67 : decode cX17_offer 67 = .ok (.invokevirtual 955, 3) := by decide +kernel
theorem V.dX17_offer_70 : decode cX17_offer 70 = .ok (.iastore, 1) := by decide +kernel
theorem V.dX17_offer_71 : decode cX17_offer 71 = .ok (.aload_n 0, 1) := by decide +kernel
theorem V.dX17_offer_72 : decode cX17_offer 72 = .ok (.getfield 161, 3) := by decide +kernel
theorem V.dX17_offer_75 : decode cX17_offer 75 = .ok (.aload_n 0, 1) := by decide +kernel
theorem V.dX17_offer_76 : decode cX17_offer 76 = .ok (.getfield 967, 3) := by decide +kernel
theorem V.dX17_offer_79 : decode cX17_offer 79 = .ok (.iload_n 3, 1) := by decide +kernel
theorem V.dX17_offer_80 : decode cX17_offer 80 = .ok (.ifCond .eq 7, 3) := by decide +kernel
theorem V.dX17_offer_83 : decode cX17_offer 83 = .ok (.iload_n 2, 1) := by decide +kernel
theorem V.dX17_offer_84 : decode cX17_offer 84 = .ok (.goto 9, 3) := by decide +kernel
theorem V.dX17_offer_87 : decode cX17_offer 87 = .ok (.aload_n 0, 1) := by decide +kernel
theorem V.dX17_offer_88 : decode cX17_offer 88 = .ok (.iload_n 1, 1) := by decide +kernel
theorem V.dX17_offer_89 : decode cX17_offer 89 = .ok (.iload_n 2, 1) := by decide +kernel
theorem V.dX17_offer_90 : decode cX17_offer 90 = .ok (.invokevirtual 964, 3) := by decide +kernel
theorem V.dX17_offer_93 : decode cX17_offer 93 = .ok (.iastore, 1) := by decide +kernel
theorem V.dX17_offer_94 : decode cX17_offer 94 = .ok (.aload_n 0, 1) := by decide +kernel
theorem V.dX17_offer_95 : decode cX17_offer 95 = .ok (.dup, 1) := by decide +kernel
theorem V.dX17_offer_96 : decode cX17_offer 96 = .ok (.getfield 967, 3) := by decide +kernel
theorem V.dX17_offer_99 : decode cX17_offer 99 = .ok (.iconst 1, 1) := by decide +kernel
theorem V.dX17_offer_100 : decode cX17_offer 100 = .ok (.iadd, 1) := by decide +kernel
theorem V.dX17_offer_101 : decode cX17_offer 101 = .ok (.putfield 967, 3) := by decide +kernel
theorem V.dX17_offer_104 : decode cX17_offer 104 = .ok (.aload_n 0, 1) := by decide +kernel
theorem V.dX17_offer_105 : decode cX17_offer 105 = .ok (.getfield 967, 3) := by decide +kernel
theorem V.dX17_offer_108 : decode cX17_offer 108 = .ok (.ireturn, 1) := by decide +kernel
theorem V.fdX17_967 : FD RX17 967 17 73 0 := ⟨(RX17, TX17, 101), tyX17, rfl, rfl, in_X17, by decide, Or.inl q3109, rfl⟩
theorem V.mdX17_961 : MD RX17 961 yX17_isExport cX17_isExport 3 (some .boolean) 2 := ⟨Or.inl q4001, q377, q4004, by decide, by decide, by decide +kernel⟩
theorem V.fdX17_158 : FD RX17 158 17 74 2 := ⟨(RX17, TX17, 101), tyX17, rfl, rfl, in_X17, by decide, Or.inl q3110, rfl⟩
theorem V.fdX17_161 : FD RX17 161 17 75 2 := ⟨(RX17, TX17, 101), tyX17, rfl, rfl, in_X17, by decide, Or.inl q3111, rfl⟩
theorem V.mdX17_964 : MD RX17 964 yX17_exported cX17_exported 3 (some .int) 2 := ⟨Or.inl q4013, q377, q4016, by decide, by decide, by decide +kernel⟩
theorem V.fpX17_967 {nm : String} : FP RX17 nm 967 17 73 (.int) := ⟨(RX17, TX17, 101), tyX17, rfl, rfl, in_X17, by decide, tyX17_ok, nmX17, rfl, Or.inl ⟨rfl, Or.inl q3109⟩⟩
/-! ModuleEngineModel.offer(II)I -/
def V.Mdl_offer_p93  (σ : HS) (x0 : Nat) (s0 : Int32) (s1 : Int32) (s2 : Nat) : Option (Int32 × HS) :=
  ck (tg σ s2 = 100 ∧ inb s1 (ln σ s2)) <| bn (sI σ s2 (ix s1) s0) fun σ1 =>
  ck (tg σ1 x0 = 18) <|
  ck (tg σ1 x0 = 18) <| bn (sI σ1 x0 73 ((gI σ1 x0 73) + (1 : Int32))) fun σ2 =>
  ck (tg σ2 x0 = 18) <|
  some (gI σ2 x0 73, σ2)
theorem V.gX17_offer_p93 {X : CX}  (σ : HS) (x0 : Nat) (s0 : Int32) (s1 : Int32) (s2 : Nat) : G X RX17 "offer" cX17_offer 4 (some .int) 2 46 enI 93 [(0, av x0)] [iv s0, iv s1, av s2] σ (Mdl_offer_p93 σ x0 s0 s1 s2) := by
  unfold Mdl_offer_p93
  refine g_iastore dX17_offer_93 (fun σ1 => ?_)
  refine g_aload_n 0 0 dX17_offer_94 rfl rfl ?_
  refine g_dup dX17_offer_95 rfl ?_
  refine g_getI fdX17_967 dX17_offer_96 ?_
  refine g_iconst (v := 1) dX17_offer_99 (by decide) ?_
  refine g_iadd dX17_offer_100 ?_
  refine g_putI fpX17_967 dX17_offer_101 (fun σ2 => ?_)
  refine g_aload_n 0 0 dX17_offer_104 rfl rfl ?_
  refine g_getI fdX17_967 dX17_offer_105 ?_
  exact g_ireturn rfl dX17_offer_108
def V.Mdl_offer_p70  (σ : HS) (x0 : Nat) (x1 : Int32) (x2 : Int32) (x3 : Int32) (s0 : Int32) (s1 : Int32) (s2 : Nat) : Option (Int32 × HS) :=
  ck (tg σ s2 = 100 ∧ inb s1 (ln σ s2)) <| bn (sI σ s2 (ix s1) s0) fun σ1 =>
  ck (tg σ1 x0 = 18) <|
  ck (tg σ1 x0 = 18) <|
  if x3 = 0 then (
    ck (tg σ1 x0 = 18) <| cl (Mdl_exported σ1 x0 x1 x2) fun r3 σ2 =>
    Mdl_offer_p93 σ2 x0 r3 (gI σ1 x0 73) (gR σ1 x0 75))
  else (
    Mdl_offer_p93 σ1 x0 x2 (gI σ1 x0 73) (gR σ1 x0 75))
theorem V.gX17_offer_p70 {X : CX}  (σ : HS) (x0 : Nat) (x1 : Int32) (x2 : Int32) (x3 : Int32) (s0 : Int32) (s1 : Int32) (s2 : Nat) : G X RX17 "offer" cX17_offer 4 (some .int) 2 46 enI 70 [(0, av x0), (1, iv x1), (2, iv x2), (3, iv x3)] [iv s0, iv s1, av s2] σ (Mdl_offer_p70 σ x0 x1 x2 x3 s0 s1 s2) := by
  unfold Mdl_offer_p70
  refine g_iastore dX17_offer_70 (fun σ1 => ?_)
  refine g_aload_n 0 0 dX17_offer_71 rfl rfl ?_
  refine g_getR fdX17_161 dX17_offer_72 ?_
  refine g_aload_n 0 0 dX17_offer_75 rfl rfl ?_
  refine g_getI fdX17_967 dX17_offer_76 ?_
  refine g_iload_n 3 3 dX17_offer_79 rfl rfl ?_
  refine g_if_eq 87 dX17_offer_80 (by decide) ?_ ?_
  · refine g_aload_n 0 0 dX17_offer_87 rfl rfl ?_
    refine g_iload_n 1 1 dX17_offer_88 rfl rfl ?_
    refine g_iload_n 2 2 dX17_offer_89 rfl rfl ?_
    refine g_callV (fc := fun sς => Mdl_exported sς x0 x1 x2) (ci := 17) (as := [iv x1, iv x2]) rfl rfl rfl q4015 qs291 mdX17_964 (ctX17_exported x0 x1 x2) rfl (Nat.le_of_ble_eq_true rfl) (Nat.le_of_ble_eq_true rfl) (Nat.le_of_ble_eq_true rfl) pu_I dX17_offer_90 (fun r3 σ2 => ?_)
    refine G.sub [0] rfl ?_
    exact gX17_offer_p93 _ _ _ _ _
  · refine g_iload_n 2 2 dX17_offer_83 rfl rfl ?_
    refine g_goto 93 dX17_offer_84 (by decide) ?_
    refine G.sub [0] rfl ?_
    exact gX17_offer_p93 _ _ _ _ _
def V.Mdl_offer_p48  (σ : HS) (x0 : Nat) (x1 : Int32) (x2 : Int32) (x3 : Int32) : Option (Int32 × HS) :=
  ck (tg σ x0 = 18) <|
  ck (tg σ x0 = 18) <|
  if x3 = 0 then (
    ck (tg σ x0 = 18) <| cl (Mdl_exportKind σ x0 x1 x2) fun r2 σ1 =>
    Mdl_offer_p70 σ1 x0 x1 x2 x3 r2 (gI σ x0 73) (gR σ x0 74))
  else (
    Mdl_offer_p70 σ x0 x1 x2 x3 (-1 : Int32) (gI σ x0 73) (gR σ x0 74))
theorem V.gX17_offer_p48 {X : CX}  (σ : HS) (x0 : Nat) (x1 : Int32) (x2 : Int32) (x3 : Int32) : G X RX17 "offer" cX17_offer 4 (some .int) 2 46 enI 48 [(0, av x0), (1, iv x1), (2, iv x2), (3, iv x3)] [] σ (Mdl_offer_p48 σ x0 x1 x2 x3) := by
  unfold Mdl_offer_p48
  refine g_aload_n 0 0 dX17_offer_48 rfl rfl ?_
  refine g_getR fdX17_158 dX17_offer_49 ?_
  refine g_aload_n 0 0 dX17_offer_52 rfl rfl ?_
  refine g_getI fdX17_967 dX17_offer_53 ?_
  refine g_iload_n 3 3 dX17_offer_56 rfl rfl ?_
  refine g_if_eq 64 dX17_offer_57 (by decide) ?_ ?_
  · refine g_aload_n 0 0 dX17_offer_64 rfl rfl ?_
    refine g_iload_n 1 1 dX17_offer_65 rfl rfl ?_
    refine g_iload_n 2 2 dX17_offer_66 rfl rfl ?_
    refine g_callV (fc := fun sς => Mdl_exportKind sς x0 x1 x2) (ci := 17) (as := [iv x1, iv x2]) rfl rfl rfl q4011 qs290 mdX17_955 (ctX17_exportKind x0 x1 x2) rfl (Nat.le_of_ble_eq_true rfl) (Nat.le_of_ble_eq_true rfl) (Nat.le_of_ble_eq_true rfl) pu_I dX17_offer_67 (fun r2 σ1 => ?_)
    exact gX17_offer_p70 _ _ _ _ _ _ _ _
  · refine g_iconst (v := (-1)) dX17_offer_60 (by decide) ?_
    refine g_goto 70 dX17_offer_61 (by decide) ?_
    exact gX17_offer_p70 _ _ _ _ _ _ _ _
def V.Mdl_offer_p10  (σ : HS) (x0 : Nat) (x1 : Int32) (x2 : Int32) (s0 : Int32) : Option (Int32 × HS) :=
  ck (tg σ x0 = 18) <|
  if (gI σ x0 73) = (64 : Int32) then (
    some ((-1 : Int32), σ))
  else (
    if s0 = 0 then (
      ck (tg σ x0 = 18) <| cl (Mdl_isExport σ x0 x1 x2) fun r2 σ1 =>
      if r2 = 0 then (
        some ((-1 : Int32), σ1))
      else (
        Mdl_offer_p48 σ1 x0 x1 x2 s0))
    else (
      if x2 < 0 then (
        some ((-1 : Int32), σ))
      else (
        if x2 ≤ (63 : Int32) then (
          Mdl_offer_p48 σ x0 x1 x2 s0)
        else (
          some ((-1 : Int32), σ)))))
theorem V.gX17_offer_p10 {X : CX}  (σ : HS) (x0 : Nat) (x1 : Int32) (x2 : Int32) (s0 : Int32) : G X RX17 "offer" cX17_offer 4 (some .int) 2 46 enI 10 [(0, av x0), (1, iv x1), (2, iv x2)] [iv s0] σ (Mdl_offer_p10 σ x0 x1 x2 s0) := by
  unfold Mdl_offer_p10
  refine g_istore_n 3 dX17_offer_10 rfl (by decide) rfl ?_
  refine g_aload_n 0 1 dX17_offer_11 rfl rfl ?_
  refine g_getI fdX17_967 dX17_offer_12 ?_
  refine g_bipush (v := 64) dX17_offer_15 (by decide) ?_
  refine g_icmp_eq 46 dX17_offer_17 (by decide) ?_ ?_
  · refine g_iconst (v := (-1)) dX17_offer_46 (by decide) ?_
    exact g_ireturn rfl dX17_offer_47
  · refine g_iload_n 3 0 dX17_offer_20 rfl rfl ?_
    refine g_if_eq 37 dX17_offer_21 (by decide) ?_ ?_
    · refine g_aload_n 0 1 dX17_offer_37 rfl rfl ?_
      refine g_iload_n 1 2 dX17_offer_38 rfl rfl ?_
      refine g_iload_n 2 3 dX17_offer_39 rfl rfl ?_
      refine g_callV (fc := fun sς => Mdl_isExport sς x0 x1 x2) (ci := 17) (as := [iv x1, iv x2]) rfl rfl rfl q4003 qs288 mdX17_961 (ctX17_isExport x0 x1 x2) rfl (Nat.le_of_ble_eq_true rfl) (Nat.le_of_ble_eq_true rfl) (Nat.le_of_ble_eq_true rfl) pu_I dX17_offer_40 (fun r2 σ1 => ?_)
      refine g_if_ne 48 dX17_offer_43 (by decide) ?_ ?_
      · refine G.sub [1, 2, 3, 0] rfl ?_
        exact gX17_offer_p48 _ _ _ _ _
      · refine g_iconst (v := (-1)) dX17_offer_46 (by decide) ?_
        exact g_ireturn rfl dX17_offer_47
    · refine g_iload_n 2 3 dX17_offer_24 rfl rfl ?_
      refine g_if_lt 46 dX17_offer_25 (by decide) ?_ ?_
      · refine g_iconst (v := (-1)) dX17_offer_46 (by decide) ?_
        exact g_ireturn rfl dX17_offer_47
      · refine g_iload_n 2 3 dX17_offer_28 rfl rfl ?_
        refine g_bipush (v := 63) dX17_offer_29 (by decide) ?_
        refine g_icmp_le 48 dX17_offer_31 (by decide) ?_ ?_
        · refine G.sub [1, 2, 3, 0] rfl ?_
          exact gX17_offer_p48 _ _ _ _ _
        · refine g_goto 46 dX17_offer_34 (by decide) ?_
          refine g_iconst (v := (-1)) dX17_offer_46 (by decide) ?_
          exact g_ireturn rfl dX17_offer_47
def V.Mdl_offer (σ : HS) (x0 : Nat) (x1 : Int32) (x2 : Int32) : Option (Int32 × HS) :=
  if x1 = (-1 : Int32) then (
    Mdl_offer_p10 σ x0 x1 x2 (1 : Int32))
  else (
    Mdl_offer_p10 σ x0 x1 x2 (0 : Int32))
theorem V.ctX17_offer (x0 : Nat) (x1 : Int32) (x2 : Int32) : Ct yX17_offer  cX17_offer 4 (some .int) 2 46 eI [av x0, iv x1, iv x2] (fun σ => Mdl_offer σ x0 x1 x2) := by
  refine Ct.of (own := RX17) (nm := "offer") (desc := "(II)I") rfl (by decide) (Nat.le_of_ble_eq_true rfl) (by decide) (fun X σ => ?_)
  show G X RX17 "offer" cX17_offer 4 (some .int) 2 46 enI 0 [(0, av x0), (1, iv x1), (2, iv x2)] [] σ (Mdl_offer σ x0 x1 x2)
  unfold Mdl_offer
  refine g_iload_n 1 1 dX17_offer_0 rfl rfl ?_
  refine g_iconst (v := (-1)) dX17_offer_1 (by decide) ?_
  refine g_icmp_ne 9 dX17_offer_2 (by decide) ?_ ?_
  · refine g_iconst (v := 0) dX17_offer_9 (by decide) ?_
    exact gX17_offer_p10 _ _ _ _ _
  · refine g_iconst (v := 1) dX17_offer_5 (by decide) ?_
    refine g_goto 10 dX17_offer_6 (by decide) ?_
    exact gX17_offer_p10 _ _ _ _ _
theorem V.dX17_runs_0 : decode cX17_runs 0 = .ok (.aload_n 0, 1) := by decide +kernel
theorem V.dX17_runs_1 : decode cX17_runs 1 = .ok (.getfield 970, 3) := by decide +kernel
theorem V.dX17_runs_4 : decode cX17_runs 4 = .ok (.iconst 1, 1) := by decide +kernel
theorem V.dX17_runs_5 : decode cX17_runs 5 = .ok (.if_icmp .eq 11, 3) := by decide +kernel
theorem V.dX17_runs_8 : decode cX17_runs 8 = .ok (.aload_n 0, 1) := by decide +kernel
theorem V.dX17_runs_9 : decode cX17_runs 9 = .ok (.getfield 970, 3) := by decide +kernel
theorem V.dX17_runs_12 : decode cX17_runs 12 = .ok (.iconst 5, 1) := by decide +kernel
theorem V.dX17_runs_13 : decode cX17_runs 13 = .ok (.if_icmp .ne 7, 3) := by decide +kernel
theorem V.dX17_runs_16 : decode cX17_runs 16 = .ok (.iconst 1, 1) := by decide +kernel
theorem V.dX17_runs_17 : decode cX17_runs 17 = .ok (.goto 4, 3) := by decide +kernel
theorem V.dX17_runs_20 : decode cX17_runs 20 = .ok (.iconst 0, 1) := by decide +kernel
theorem V.dX17_runs_21 : decode cX17_runs 21 = .ok (.ireturn, 1) := by decide +kernel
theorem V.fdX17_970 : FD RX17 970 17 76 0 := ⟨(RX17, TX17, 101), tyX17, rfl, rfl, in_X17, by decide, Or.inl q3112, rfl⟩
/-! ModuleEngineModel.runs()Z -/
def V.Mdl_runs_p16  (σ : HS)  : Option (Int32 × HS) :=
  some ((1 : Int32), σ)
theorem V.gX17_runs_p16 {X : CX}  (σ : HS)  : G X RX17 "runs" cX17_runs 1 (some .boolean) 0 0 enI 16 [] [] σ (Mdl_runs_p16 σ ) := by
  unfold Mdl_runs_p16
  refine g_iconst (v := 1) dX17_runs_16 (by decide) ?_
  refine g_goto 21 dX17_runs_17 (by decide) ?_
  exact g_zreturn rfl (by decide +kernel) dX17_runs_21
def V.Mdl_runs (σ : HS) (x0 : Nat) : Option (Int32 × HS) :=
  ck (tg σ x0 = 18) <|
  if (gI σ x0 76) = (1 : Int32) then (
    Mdl_runs_p16 σ)
  else (
    ck (tg σ x0 = 18) <|
    if (gI σ x0 76) = (5 : Int32) then (
      Mdl_runs_p16 σ)
    else (
      some ((0 : Int32), σ)))
theorem V.ctX17_runs (x0 : Nat) : Ct yX17_runs  cX17_runs 1 (some .boolean) 0 0 eI [av x0] (fun σ => Mdl_runs σ x0) := by
  refine Ct.of (own := RX17) (nm := "runs") (desc := "()Z") rfl (by decide) (Nat.le_of_ble_eq_true rfl) (by decide) (fun X σ => ?_)
  show G X RX17 "runs" cX17_runs 1 (some .boolean) 0 0 enI 0 [(0, av x0)] [] σ (Mdl_runs σ x0)
  unfold Mdl_runs
  refine g_aload_n 0 0 dX17_runs_0 rfl rfl ?_
  refine g_getI fdX17_970 dX17_runs_1 ?_
  refine g_iconst (v := 1) dX17_runs_4 (by decide) ?_
  refine g_icmp_eq 16 dX17_runs_5 (by decide) ?_ ?_
  · refine G.sub [] rfl ?_
    exact gX17_runs_p16 _
  · refine g_aload_n 0 0 dX17_runs_8 rfl rfl ?_
    refine g_getI fdX17_970 dX17_runs_9 ?_
    refine g_iconst (v := 5) dX17_runs_12 (by decide) ?_
    refine g_icmp_ne 20 dX17_runs_13 (by decide) ?_ ?_
    · refine g_iconst (v := 0) dX17_runs_20 (by decide) ?_
      exact g_zreturn rfl (by decide +kernel) dX17_runs_21
    · refine G.sub [] rfl ?_
      exact gX17_runs_p16 _
theorem V.dX17_haveSameRows_0 : decode cX17_haveSameRows 0 = .ok (.aload_n 0, 1) := by decide +kernel
theorem V.dX17_haveSameRows_1 : decode cX17_haveSameRows 1 = .ok (.getfield 16, 3) := by decide +kernel
theorem V.dX17_haveSameRows_4 : decode cX17_haveSameRows 4 = .ok (.iload_n 1, 1) := by decide +kernel
theorem V.dX17_haveSameRows_5 : decode cX17_haveSameRows 5 = .ok (.aaload, 1) := by decide +kernel
theorem V.dX17_haveSameRows_6 : decode cX17_haveSameRows 6 = .ok (.astore 5, 2) := by decide +kernel
theorem V.dX17_haveSameRows_8 : decode cX17_haveSameRows 8 = .ok (.aload_n 0, 1) := by decide +kernel
theorem V.dX17_haveSameRows_9 : decode cX17_haveSameRows 9 = .ok (.getfield 16, 3) := by decide +kernel
theorem V.dX17_haveSameRows_12 : decode cX17_haveSameRows 12 = .ok (.iload_n 3, 1) := by decide +kernel
theorem V.dX17_haveSameRows_13 : decode cX17_haveSameRows 13 = .ok (.aaload, 1) := by decide +kernel
theorem V.dX17_haveSameRows_14 : decode cX17_haveSameRows 14 = .ok (.astore 6, 2) := by decide +kernel
theorem V.dX17_haveSameRows_16 : decode cX17_haveSameRows 16 = .ok (.aload 5, 2) := by decide +kernel
theorem V.dX17_haveSameRows_18 : decode cX17_haveSameRows 18 = .ok (.getfield 387, 3) := by decide +kernel
theorem V.dX17_haveSameRows_21 : decode cX17_haveSameRows 21 = .ok (.iload_n 2, 1) := by decide +kernel
theorem V.dX17_haveSameRows_22 : decode cX17_haveSameRows 22 = .ok (.iaload, 1) := by decide +kernel
theorem V.dX17_haveSameRows_23 : decode cX17_haveSameRows 23 = .ok (.aload 6, 2) := by decide +kernel
theorem V.dX17_haveSameRows_25 : decode cX17_haveSameRows 25 = .ok (.getfield 387, 3) := by decide +kernel
theorem V.dX17_haveSameRows_28 : decode cX17_haveSameRows 28 = .ok (.iload 4, 2) := by decide +kernel
theorem V.dX17_haveSameRows_30 : decode cX17_haveSameRows 30 = .ok (.iaload, 1) := by decide +kernel
theorem V.dX17_haveSameRows_31 : decode cX17_haveSameRows 31 = .ok (.if_icmp .ne 25, 3) := by decide +kernel
theorem V.dX17_haveSameRows_34 : decode cX17_haveSameRows 34 = .ok (.aload 5, 2) := by decide +kernel
theorem V.dX17_haveSameRows_36 : decode cX17_haveSameRows 36 = .ok (.getfield 390, 3) := by decide +kernel
theorem V.dX17_haveSameRows_39 : decode cX17_haveSameRows 39 = .ok (.iload_n 2, 1) := by decide +kernel
theorem V.dX17_haveSameRows_40 : decode cX17_haveSameRows 40 = .ok (.iaload, 1) := by decide +kernel
theorem V.dX17_haveSameRows_41 : decode cX17_haveSameRows 41 = .ok (.aload 6, 2) := by decide +kernel
theorem V.dX17_haveSameRows_43 : decode cX17_haveSameRows 43 = .ok (.getfield 390, 3) := by decide +kernel
theorem V.dX17_haveSameRows_46 : decode cX17_haveSameRows 46 = .ok (.iload 4, 2) := by decide +kernel
theorem V.dX17_haveSameRows_48 : decode cX17_haveSameRows 48 = .ok (.iaload, 1) := by decide +kernel
theorem V.dX17_haveSameRows_49 : decode cX17_haveSameRows 49 = .ok (.if_icmp .ne 7, 3) := by decide +kernel
theorem V.dX17_haveSameRows_52 : decode cX17_haveSameRows 52 = .ok (.iconst 1, 1) := by decide +kernel
theorem V.dX17_haveSameRows_53 : decode cX17_haveSameRows 53 = .ok (.goto 4, 3) := by decide +kernel
theorem V.dX17_haveSameRows_56 : decode cX17_haveSameRows 56 = .ok (.iconst 0, 1) := by decide +kernel
theorem V.dX17_haveSameRows_57 : decode cX17_haveSameRows 57 = .ok (.istore 7, 2) := by decide +kernel
theorem V.dX17_haveSameRows_59 : decode cX17_haveSameRows 59 = .ok (.iconst 0, 1) := by decide +kernel
theorem V.dX17_haveSameRows_60 : decode cX17_haveSameRows 60 = .ok (.istore 8, 2) := by decide +kernel
theorem V.dX17_haveSameRows_62 : decode cX17_haveSameRows 62 = .ok (.iload 8, 2) := by decide +kernel
theorem V.dX17_haveSameRows_64 : decode cX17_haveSameRows 64 = .ok (.aload 5, 2) := by decide +kernel
theorem V.dX17_haveSameRows_66 : decode cX17_haveSameRows 66 = .ok (.getfield 387, 3) := by decide +kernel
theorem V.dX17_haveSameRows_69 : decode cX17_haveSameRows 69 = .ok (.iload_n 2, 1) := by decide +kernel
theorem V.dX17_haveSameRows_70 : decode cX17_haveSameRows 70 = .ok (.iaload, 1) := by decide +kernel
theorem V.dX17_haveSameRows_71 : decode cX17_haveSameRows 71 = .ok (.if_icmp .ge 51, 3) := by decide +kernel
theorem V.dX17_haveSameRows_74 : decode cX17_haveSameRows 74 = .ok (.iload 7, 2) := by decide +kernel
theorem V.dX17_haveSameRows_76 : decode cX17_haveSameRows 76 = .ok (.ifCond .eq 46, 3) := by decide +kernel
theorem V.dX17_haveSameRows_79 : decode cX17_haveSameRows 79 = .ok (.aload 5, 2) := by decide +kernel
theorem V.dX17_haveSameRows_81 : decode cX17_haveSameRows 81 = .ok (.getfield 374, 3) := by decide +kernel
theorem V.dX17_haveSameRows_84 : decode cX17_haveSameRows 84 = .ok (.bipush 32, 2) := by decide +kernel
theorem V.dX17_haveSameRows_86 : decode cX17_haveSameRows 86 = .ok (.iload_n 2, 1) := by decide +kernel
theorem V.dX17_haveSameRows_87 : decode cX17_haveSameRows 87 = .ok (.imul, 1) := by decide +kernel
theorem V.dX17_haveSameRows_88 : decode cX17_haveSameRows 88 = .ok (.iload 8, 2) := by decide +kernel
theorem V.dX17_haveSameRows_90 : decode cX17_haveSameRows 90 = .ok (.iadd, 1) := by decide +kernel
theorem V.dX17_haveSameRows_91 : decode cX17_haveSameRows 91 = .ok (.iaload, 1) := by decide +kernel
theorem V.dX17_haveSameRows_92 : decode cX17_haveSameRows 92 = .ok (.aload 6, 2) := by decide +kernel
theorem V.dX17_haveSameRows_94 : decode cX17_haveSameRows 94 = .ok (.getfield 374, 3) := by decide +kernel
theorem V.dX17_haveSameRows_97 : decode cX17_haveSameRows 97 = .ok (.bipush 32, 2) := by decide +kernel
theorem V.dX17_haveSameRows_99 : decode cX17_haveSameRows 99 = .ok (.iload 4, 2) := by decide +kernel
theorem V.dX17_haveSameRows_101 : decode cX17_haveSameRows 101 = .ok (.imul, 1) := by decide +kernel
theorem V.dX17_haveSameRows_102 : decode cX17_haveSameRows 102 = .ok (.iload 8, 2) := by decide +kernel
theorem V.dX17_haveSameRows_104 : decode cX17_haveSameRows 104 = .ok (.iadd, 1) := by decide +kernel
theorem V.dX17_haveSameRows_105 : decode cX17_haveSameRows 105 = .ok (.iaload, 1) := by decide +kernel
theorem V.dX17_haveSameRows_106 : decode cX17_haveSameRows 106 = .ok (.if_icmp .ne 7, 3) := by decide +kernel
theorem V.dX17_haveSameRows_109 : decode cX17_haveSameRows 109 = .ok (.iconst 1, 1) := by decide +kernel
theorem V.dX17_haveSameRows_110 : decode cX17_haveSameRows 110 = .ok (.goto 4, 3) := by decide +kernel
theorem V.dX17_haveSameRows_113 : decode cX17_haveSameRows 113 = .ok (.iconst 0, 1) := by decide +kernel
theorem V.dX17_haveSameRows_114 : decode cX17_haveSameRows 114 = .ok (.istore 7, 2) := by decide +kernel
theorem V.dX17_haveSameRows_116 : decode cX17_haveSameRows 116 = .ok (.iinc 8 1, 3) := by decide +kernel
theorem V.dX17_haveSameRows_119 : decode cX17_haveSameRows 119 = .ok (.goto (-57), 3) := by decide +kernel
theorem V.dX17_haveSameRows_122 : decode cX17_haveSameRows 122 = .ok (.iconst 0, 1) := by decide +kernel
theorem V.dX17_haveSameRows_123 : decode cX17_haveSameRows 123 = .ok (.istore 8, 2) := by decide +kernel
theorem V.dX17_haveSameRows_125 : decode cX17_haveSameRows 125 = .ok (.iload 8, 2) := by decide +kernel
theorem V.dX17_haveSameRows_127 : decode cX17_haveSameRows 127 = .ok (.aload 5, 2) := by decide +kernel
theorem V.dX17_haveSameRows_129 : decode cX17_haveSameRows 129 = .ok (.getfield 390, 3) := by decide +kernel
theorem V.dX17_haveSameRows_132 : decode cX17_haveSameRows 132 = .ok (.iload_n 2, 1) := by decide +kernel
theorem V.dX17_haveSameRows_133 : decode cX17_haveSameRows 133 = .ok (.iaload, 1) := by decide +kernel
theorem V.dX17_haveSameRows_134 : decode cX17_haveSameRows 134 = .ok (.if_icmp .ge 57, 3) := by decide +kernel
theorem V.dX17_haveSameRows_137 : decode cX17_haveSameRows 137 = .ok (.iload 7, 2) := by decide +kernel
theorem V.dX17_haveSameRows_139 : decode cX17_haveSameRows 139 = .ok (.ifCond .eq 52, 3) := by decide +kernel
theorem V.dX17_haveSameRows_142 : decode cX17_haveSameRows 142 = .ok (.aload 5, 2) := by decide +kernel
theorem V.dX17_haveSameRows_144 : decode cX17_haveSameRows 144 = .ok (.getfield 374, 3) := by decide +kernel
theorem V.dX17_haveSameRows_147 : decode cX17_haveSameRows 147 = .ok (.bipush 32, 2) := by decide +kernel
theorem V.dX17_haveSameRows_149 : decode cX17_haveSameRows 149 = .ok (.iload_n 2, 1) := by decide +kernel
theorem V.dX17_haveSameRows_150 : decode cX17_haveSameRows 150 = .ok (.imul, 1) := by decide +kernel
theorem V.dX17_haveSameRows_151 : decode cX17_haveSameRows 151 = .ok (.bipush 16, 2) := by decide +kernel
theorem V.dX17_haveSameRows_153 : decode cX17_haveSameRows 153 = .ok (.iadd, 1) := by decide +kernel
theorem V.dX17_haveSameRows_154 : decode cX17_haveSameRows 154 = .ok (.iload 8, 2) := by decide +kernel
theorem V.dX17_haveSameRows_156 : decode cX17_haveSameRows 156 = .ok (.iadd, 1) := by decide +kernel
theorem V.dX17_haveSameRows_157 : decode cX17_haveSameRows 157 = .ok (.iaload, 1) := by decide +kernel
theorem V.dX17_haveSameRows_158 : decode cX17_haveSameRows 158 = .ok (.aload 6, 2) := by decide +kernel
theorem V.dX17_haveSameRows_160 : decode cX17_haveSameRows 160 = .ok (.getfield 374, 3) := by decide +kernel
theorem V.dX17_haveSameRows_163 : decode cX17_haveSameRows 163 = .ok (.bipush 32, 2) := by decide +kernel
theorem V.dX17_haveSameRows_165 : decode cX17_haveSameRows 165 = .ok (.iload 4, 2) := by decide +kernel
theorem V.dX17_haveSameRows_167 : decode cX17_haveSameRows 167 = .ok (.imul, 1) := by decide +kernel
theorem V.dX17_haveSameRows_168 : decode cX17_haveSameRows 168 = .ok (.bipush 16, 2) := by decide +kernel
theorem V.dX17_haveSameRows_170 : decode cX17_haveSameRows 170 = .ok (.iadd, 1) := by decide +kernel
theorem V.dX17_haveSameRows_171 : decode cX17_haveSameRows 171 = .ok (.iload 8, 2) := by decide +kernel
theorem V.dX17_haveSameRows_173 : decode cX17_haveSameRows 173 = .ok (.iadd, 1) := by decide +kernel
theorem V.dX17_haveSameRows_174 : decode cX17_haveSameRows 174 = .ok (.iaload, 1) := by decide +kernel
theorem V.dX17_haveSameRows_175 : decode cX17_haveSameRows 175 = .ok (.if_icmp .ne 7, 3) := by decide +kernel
theorem V.dX17_haveSameRows_178 : decode cX17_haveSameRows 178 = .ok (.iconst 1, 1) := by decide +kernel
theorem V.dX17_haveSameRows_179 : decode cX17_haveSameRows 179 = .ok (.goto 4, 3) := by decide +kernel
theorem V.dX17_haveSameRows_182 : decode cX17_haveSameRows 182 = .ok (.iconst 0, 1) := by decide +kernel
theorem V.dX17_haveSameRows_183 : decode cX17_haveSameRows 183 = .ok (.istore 7, 2) := by decide +kernel
theorem V.dX17_haveSameRows_185 : decode cX17_haveSameRows 185 = .ok (.iinc 8 1, 3) := by decide +kernel
theorem V.dX17_haveSameRows_188 : decode cX17_haveSameRows 188 = .ok (.goto (-63), 3) := by decide +kernel
theorem V.dX17_haveSameRows_191 : decode cX17_haveSameRows 191 = .ok (.iload 7, 2) := by decide +kernel
theorem V.dX17_haveSameRows_193 : decode cX17_haveSameRows 193 = .ok (.ireturn, 1) := by decide +kernel
/-! ModuleEngineModel.haveSameRows(IIII)Z -/
def V.Mdl_haveSameRows_p183 (rec125 : HS → Int32 → Int32 → Nat → Nat → Int32 → Int32 → Option (Int32 × HS)) (σ : HS) (x2 : Int32) (x4 : Int32) (x5 : Nat) (x6 : Nat) (x8 : Int32) (s0 : Int32) : Option (Int32 × HS) :=
  bn (x8 + (1 : Int32)) fun y1 =>
  rec125 σ x2 x4 x5 x6 s0 y1
theorem V.gX17_haveSameRows_p183 {X : CX} (rec125 : HS → Int32 → Int32 → Nat → Nat → Int32 → Int32 → Option (Int32 × HS)) (hrec125 : ∀ (σ : HS) (x2 : Int32) (x4 : Int32) (x5 : Nat) (x6 : Nat) (x7 : Int32) (x8 : Int32), G X RX17 "haveSameRows" cX17_haveSameRows 9 (some .boolean) 0 0 enI 125 [(2, iv x2), (4, iv x4), (5, av x5), (6, av x6), (7, iv x7), (8, iv x8)] [] σ (rec125 σ x2 x4 x5 x6 x7 x8)) (σ : HS) (x2 : Int32) (x4 : Int32) (x5 : Nat) (x6 : Nat) (x8 : Int32) (s0 : Int32) : G X RX17 "haveSameRows" cX17_haveSameRows 9 (some .boolean) 0 0 enI 183 [(2, iv x2), (4, iv x4), (5, av x5), (6, av x6), (8, iv x8)] [iv s0] σ (Mdl_haveSameRows_p183 rec125 σ x2 x4 x5 x6 x8 s0) := by
  unfold Mdl_haveSameRows_p183
  refine g_istore dX17_haveSameRows_183 (by decide) rfl ?_
  refine g_iincB (w := 1) 5 dX17_haveSameRows_185 rfl (by decide) (by decide) (fun _ => rfl) (fun y1 => ?_)
  refine g_goto 125 dX17_haveSameRows_188 (by decide) ?_
  refine G.sub [2, 3, 4, 5, 1, 0] rfl ?_
  exact hrec125 _ _ _ _ _ _ _
def V.Mdl_haveSameRows_p125  : Nat → HS → Int32 → Int32 → Nat → Nat → Int32 → Int32 → Option (Int32 × HS)
  | 0, _, _, _, _, _, _, _ => none
  | n + 1, σ, x2, x4, x5, x6, x7, x8 =>
    ck (tg σ x5 = 21) <|
    ck (tg σ (gR σ x5 6) = 100 ∧ inb x2 (ln σ (gR σ x5 6))) <|
    if (gI σ (gR σ x5 6) (ix x2)) ≤ x8 then (
      ck (zb x7) (some (x7, σ)))
    else (
      if x7 = 0 then (
        ck (zb x7) (some (x7, σ)))
      else (
        ck (tg σ x5 = 21) <|
        ck (tg σ (gR σ x5 7) = 100 ∧ inb ((((32 : Int32) * x2) + (16 : Int32)) + x8) (ln σ (gR σ x5 7))) <|
        ck (tg σ x6 = 21) <|
        ck (tg σ (gR σ x6 7) = 100 ∧ inb ((((32 : Int32) * x4) + (16 : Int32)) + x8) (ln σ (gR σ x6 7))) <|
        if (gI σ (gR σ x5 7) (ix ((((32 : Int32) * x2) + (16 : Int32)) + x8))) = (gI σ (gR σ x6 7) (ix ((((32 : Int32) * x4) + (16 : Int32)) + x8))) then (
          Mdl_haveSameRows_p183 (Mdl_haveSameRows_p125 n) σ x2 x4 x5 x6 x8 (1 : Int32))
        else (
          Mdl_haveSameRows_p183 (Mdl_haveSameRows_p125 n) σ x2 x4 x5 x6 x8 (0 : Int32))))
theorem V.gX17_haveSameRows_p125 {X : CX}  : ∀ (n : Nat) (σ : HS) (x2 : Int32) (x4 : Int32) (x5 : Nat) (x6 : Nat) (x7 : Int32) (x8 : Int32), G X RX17 "haveSameRows" cX17_haveSameRows 9 (some .boolean) 0 0 enI 125 [(2, iv x2), (4, iv x4), (5, av x5), (6, av x6), (7, iv x7), (8, iv x8)] [] σ (Mdl_haveSameRows_p125 n σ x2 x4 x5 x6 x7 x8)
  | 0, σ, x2, x4, x5, x6, x7, x8 => by rw [Mdl_haveSameRows_p125]; exact G.nul
  | n + 1, σ, x2, x4, x5, x6, x7, x8 => by
    rw [Mdl_haveSameRows_p125]
    refine g_iload 5 dX17_haveSameRows_125 rfl ?_
    refine g_aload 2 dX17_haveSameRows_127 rfl ?_
    refine g_getR fdX17_390 dX17_haveSameRows_129 ?_
    refine g_iload_n 2 0 dX17_haveSameRows_132 rfl rfl ?_
    refine g_iaload dX17_haveSameRows_133 ?_
    refine g_icmp_ge 191 dX17_haveSameRows_134 (by decide) ?_ ?_
    · refine g_iload 4 dX17_haveSameRows_191 rfl ?_
      exact g_zreturnc rfl dX17_haveSameRows_193
    · refine g_iload 4 dX17_haveSameRows_137 rfl ?_
      refine g_if_eq 191 dX17_haveSameRows_139 (by decide) ?_ ?_
      · refine g_iload 4 dX17_haveSameRows_191 rfl ?_
        exact g_zreturnc rfl dX17_haveSameRows_193
      · refine g_aload 2 dX17_haveSameRows_142 rfl ?_
        refine g_getR fdX17_374 dX17_haveSameRows_144 ?_
        refine g_bipush (v := 32) dX17_haveSameRows_147 (by decide) ?_
        refine g_iload_n 2 0 dX17_haveSameRows_149 rfl rfl ?_
        refine g_imul dX17_haveSameRows_150 ?_
        refine g_bipush (v := 16) dX17_haveSameRows_151 (by decide) ?_
        refine g_iadd dX17_haveSameRows_153 ?_
        refine g_iload 5 dX17_haveSameRows_154 rfl ?_
        refine g_iadd dX17_haveSameRows_156 ?_
        refine g_iaload dX17_haveSameRows_157 ?_
        refine g_aload 3 dX17_haveSameRows_158 rfl ?_
        refine g_getR fdX17_374 dX17_haveSameRows_160 ?_
        refine g_bipush (v := 32) dX17_haveSameRows_163 (by decide) ?_
        refine g_iload 1 dX17_haveSameRows_165 rfl ?_
        refine g_imul dX17_haveSameRows_167 ?_
        refine g_bipush (v := 16) dX17_haveSameRows_168 (by decide) ?_
        refine g_iadd dX17_haveSameRows_170 ?_
        refine g_iload 5 dX17_haveSameRows_171 rfl ?_
        refine g_iadd dX17_haveSameRows_173 ?_
        refine g_iaload dX17_haveSameRows_174 ?_
        refine g_icmp_ne 182 dX17_haveSameRows_175 (by decide) ?_ ?_
        · refine g_iconst (v := 0) dX17_haveSameRows_182 (by decide) ?_
          refine G.sub [0, 1, 2, 3, 5] rfl ?_
          exact gX17_haveSameRows_p183 (Mdl_haveSameRows_p125 n) (gX17_haveSameRows_p125 n) _ _ _ _ _ _ _
        · refine g_iconst (v := 1) dX17_haveSameRows_178 (by decide) ?_
          refine g_goto 183 dX17_haveSameRows_179 (by decide) ?_
          refine G.sub [0, 1, 2, 3, 5] rfl ?_
          exact gX17_haveSameRows_p183 (Mdl_haveSameRows_p125 n) (gX17_haveSameRows_p125 n) _ _ _ _ _ _ _
def V.Mdl_haveSameRows_p122  (σ : HS) (x2 : Int32) (x4 : Int32) (x5 : Nat) (x6 : Nat) (x7 : Int32) : Option (Int32 × HS) :=
  Mdl_haveSameRows_p125 FU σ x2 x4 x5 x6 x7 (0 : Int32)
theorem V.gX17_haveSameRows_p122 {X : CX}  (σ : HS) (x2 : Int32) (x4 : Int32) (x5 : Nat) (x6 : Nat) (x7 : Int32) : G X RX17 "haveSameRows" cX17_haveSameRows 9 (some .boolean) 0 0 enI 122 [(2, iv x2), (4, iv x4), (5, av x5), (6, av x6), (7, iv x7)] [] σ (Mdl_haveSameRows_p122 σ x2 x4 x5 x6 x7) := by
  unfold Mdl_haveSameRows_p122
  refine g_iconst (v := 0) dX17_haveSameRows_122 (by decide) ?_
  refine g_istore dX17_haveSameRows_123 (by decide) rfl ?_
  refine G.sub [1, 2, 3, 4, 5, 0] rfl ?_
  exact gX17_haveSameRows_p125 FU _ _ _ _ _ _ _
def V.Mdl_haveSameRows_p114 (rec62 : HS → Int32 → Int32 → Nat → Nat → Int32 → Int32 → Option (Int32 × HS)) (σ : HS) (x2 : Int32) (x4 : Int32) (x5 : Nat) (x6 : Nat) (x8 : Int32) (s0 : Int32) : Option (Int32 × HS) :=
  bn (x8 + (1 : Int32)) fun y1 =>
  rec62 σ x2 x4 x5 x6 s0 y1
theorem V.gX17_haveSameRows_p114 {X : CX} (rec62 : HS → Int32 → Int32 → Nat → Nat → Int32 → Int32 → Option (Int32 × HS)) (hrec62 : ∀ (σ : HS) (x2 : Int32) (x4 : Int32) (x5 : Nat) (x6 : Nat) (x7 : Int32) (x8 : Int32), G X RX17 "haveSameRows" cX17_haveSameRows 9 (some .boolean) 0 0 enI 62 [(2, iv x2), (4, iv x4), (5, av x5), (6, av x6), (7, iv x7), (8, iv x8)] [] σ (rec62 σ x2 x4 x5 x6 x7 x8)) (σ : HS) (x2 : Int32) (x4 : Int32) (x5 : Nat) (x6 : Nat) (x8 : Int32) (s0 : Int32) : G X RX17 "haveSameRows" cX17_haveSameRows 9 (some .boolean) 0 0 enI 114 [(2, iv x2), (4, iv x4), (5, av x5), (6, av x6), (8, iv x8)] [iv s0] σ (Mdl_haveSameRows_p114 rec62 σ x2 x4 x5 x6 x8 s0) := by
  unfold Mdl_haveSameRows_p114
  refine g_istore dX17_haveSameRows_114 (by decide) rfl ?_
  refine g_iincB (w := 1) 5 dX17_haveSameRows_116 rfl (by decide) (by decide) (fun _ => rfl) (fun y1 => ?_)
  refine g_goto 62 dX17_haveSameRows_119 (by decide) ?_
  refine G.sub [2, 3, 4, 5, 1, 0] rfl ?_
  exact hrec62 _ _ _ _ _ _ _
def V.Mdl_haveSameRows_p62  : Nat → HS → Int32 → Int32 → Nat → Nat → Int32 → Int32 → Option (Int32 × HS)
  | 0, _, _, _, _, _, _, _ => none
  | n + 1, σ, x2, x4, x5, x6, x7, x8 =>
    ck (tg σ x5 = 21) <|
    ck (tg σ (gR σ x5 5) = 100 ∧ inb x2 (ln σ (gR σ x5 5))) <|
    if (gI σ (gR σ x5 5) (ix x2)) ≤ x8 then (
      Mdl_haveSameRows_p122 σ x2 x4 x5 x6 x7)
    else (
      if x7 = 0 then (
        Mdl_haveSameRows_p122 σ x2 x4 x5 x6 x7)
      else (
        ck (tg σ x5 = 21) <|
        ck (tg σ (gR σ x5 7) = 100 ∧ inb (((32 : Int32) * x2) + x8) (ln σ (gR σ x5 7))) <|
        ck (tg σ x6 = 21) <|
        ck (tg σ (gR σ x6 7) = 100 ∧ inb (((32 : Int32) * x4) + x8) (ln σ (gR σ x6 7))) <|
        if (gI σ (gR σ x5 7) (ix (((32 : Int32) * x2) + x8))) = (gI σ (gR σ x6 7) (ix (((32 : Int32) * x4) + x8))) then (
          Mdl_haveSameRows_p114 (Mdl_haveSameRows_p62 n) σ x2 x4 x5 x6 x8 (1 : Int32))
        else (
          Mdl_haveSameRows_p114 (Mdl_haveSameRows_p62 n) σ x2 x4 x5 x6 x8 (0 : Int32))))
theorem V.gX17_haveSameRows_p62 {X : CX}  : ∀ (n : Nat) (σ : HS) (x2 : Int32) (x4 : Int32) (x5 : Nat) (x6 : Nat) (x7 : Int32) (x8 : Int32), G X RX17 "haveSameRows" cX17_haveSameRows 9 (some .boolean) 0 0 enI 62 [(2, iv x2), (4, iv x4), (5, av x5), (6, av x6), (7, iv x7), (8, iv x8)] [] σ (Mdl_haveSameRows_p62 n σ x2 x4 x5 x6 x7 x8)
  | 0, σ, x2, x4, x5, x6, x7, x8 => by rw [Mdl_haveSameRows_p62]; exact G.nul
  | n + 1, σ, x2, x4, x5, x6, x7, x8 => by
    rw [Mdl_haveSameRows_p62]
    refine g_iload 5 dX17_haveSameRows_62 rfl ?_
    refine g_aload 2 dX17_haveSameRows_64 rfl ?_
    refine g_getR fdX17_387 dX17_haveSameRows_66 ?_
    refine g_iload_n 2 0 dX17_haveSameRows_69 rfl rfl ?_
    refine g_iaload dX17_haveSameRows_70 ?_
    refine g_icmp_ge 122 dX17_haveSameRows_71 (by decide) ?_ ?_
    · refine G.sub [0, 1, 2, 3, 4] rfl ?_
      exact gX17_haveSameRows_p122 _ _ _ _ _ _
    · refine g_iload 4 dX17_haveSameRows_74 rfl ?_
      refine g_if_eq 122 dX17_haveSameRows_76 (by decide) ?_ ?_
      · refine G.sub [0, 1, 2, 3, 4] rfl ?_
        exact gX17_haveSameRows_p122 _ _ _ _ _ _
      · refine g_aload 2 dX17_haveSameRows_79 rfl ?_
        refine g_getR fdX17_374 dX17_haveSameRows_81 ?_
        refine g_bipush (v := 32) dX17_haveSameRows_84 (by decide) ?_
        refine g_iload_n 2 0 dX17_haveSameRows_86 rfl rfl ?_
        refine g_imul dX17_haveSameRows_87 ?_
        refine g_iload 5 dX17_haveSameRows_88 rfl ?_
        refine g_iadd dX17_haveSameRows_90 ?_
        refine g_iaload dX17_haveSameRows_91 ?_
        refine g_aload 3 dX17_haveSameRows_92 rfl ?_
        refine g_getR fdX17_374 dX17_haveSameRows_94 ?_
        refine g_bipush (v := 32) dX17_haveSameRows_97 (by decide) ?_
        refine g_iload 1 dX17_haveSameRows_99 rfl ?_
        refine g_imul dX17_haveSameRows_101 ?_
        refine g_iload 5 dX17_haveSameRows_102 rfl ?_
        refine g_iadd dX17_haveSameRows_104 ?_
        refine g_iaload dX17_haveSameRows_105 ?_
        refine g_icmp_ne 113 dX17_haveSameRows_106 (by decide) ?_ ?_
        · refine g_iconst (v := 0) dX17_haveSameRows_113 (by decide) ?_
          refine G.sub [0, 1, 2, 3, 5] rfl ?_
          exact gX17_haveSameRows_p114 (Mdl_haveSameRows_p62 n) (gX17_haveSameRows_p62 n) _ _ _ _ _ _ _
        · refine g_iconst (v := 1) dX17_haveSameRows_109 (by decide) ?_
          refine g_goto 114 dX17_haveSameRows_110 (by decide) ?_
          refine G.sub [0, 1, 2, 3, 5] rfl ?_
          exact gX17_haveSameRows_p114 (Mdl_haveSameRows_p62 n) (gX17_haveSameRows_p62 n) _ _ _ _ _ _ _
def V.Mdl_haveSameRows_p57  (σ : HS) (x2 : Int32) (x4 : Int32) (x5 : Nat) (x6 : Nat) (s0 : Int32) : Option (Int32 × HS) :=
  Mdl_haveSameRows_p62 FU σ x2 x4 x5 x6 s0 (0 : Int32)
theorem V.gX17_haveSameRows_p57 {X : CX}  (σ : HS) (x2 : Int32) (x4 : Int32) (x5 : Nat) (x6 : Nat) (s0 : Int32) : G X RX17 "haveSameRows" cX17_haveSameRows 9 (some .boolean) 0 0 enI 57 [(2, iv x2), (4, iv x4), (5, av x5), (6, av x6)] [iv s0] σ (Mdl_haveSameRows_p57 σ x2 x4 x5 x6 s0) := by
  unfold Mdl_haveSameRows_p57
  refine g_istore dX17_haveSameRows_57 (by decide) rfl ?_
  refine g_iconst (v := 0) dX17_haveSameRows_59 (by decide) ?_
  refine g_istore dX17_haveSameRows_60 (by decide) rfl ?_
  refine G.sub [2, 3, 4, 5, 1, 0] rfl ?_
  exact gX17_haveSameRows_p62 FU _ _ _ _ _ _ _
def V.Mdl_haveSameRows_p56  (σ : HS) (x2 : Int32) (x4 : Int32) (x5 : Nat) (x6 : Nat) : Option (Int32 × HS) :=
  Mdl_haveSameRows_p57 σ x2 x4 x5 x6 (0 : Int32)
theorem V.gX17_haveSameRows_p56 {X : CX}  (σ : HS) (x2 : Int32) (x4 : Int32) (x5 : Nat) (x6 : Nat) : G X RX17 "haveSameRows" cX17_haveSameRows 9 (some .boolean) 0 0 enI 56 [(2, iv x2), (4, iv x4), (5, av x5), (6, av x6)] [] σ (Mdl_haveSameRows_p56 σ x2 x4 x5 x6) := by
  unfold Mdl_haveSameRows_p56
  refine g_iconst (v := 0) dX17_haveSameRows_56 (by decide) ?_
  exact gX17_haveSameRows_p57 _ _ _ _ _ _
def V.Mdl_haveSameRows (σ : HS) (x0 : Nat) (x1 : Int32) (x2 : Int32) (x3 : Int32) (x4 : Int32) : Option (Int32 × HS) :=
  ck (tg σ x0 = 18) <|
  ck (tg σ (gR σ x0 4) = 107 ∧ inb x1 (ln σ (gR σ x0 4))) <|
  bn (gR σ (gR σ x0 4) (ix x1)) fun y1 =>
  ck (tg σ x0 = 18) <|
  ck (tg σ (gR σ x0 4) = 107 ∧ inb x3 (ln σ (gR σ x0 4))) <|
  bn (gR σ (gR σ x0 4) (ix x3)) fun y2 =>
  ck (tg σ y1 = 21) <|
  ck (tg σ (gR σ y1 5) = 100 ∧ inb x2 (ln σ (gR σ y1 5))) <|
  ck (tg σ y2 = 21) <|
  ck (tg σ (gR σ y2 5) = 100 ∧ inb x4 (ln σ (gR σ y2 5))) <|
  if (gI σ (gR σ y1 5) (ix x2)) = (gI σ (gR σ y2 5) (ix x4)) then (
    ck (tg σ y1 = 21) <|
    ck (tg σ (gR σ y1 6) = 100 ∧ inb x2 (ln σ (gR σ y1 6))) <|
    ck (tg σ y2 = 21) <|
    ck (tg σ (gR σ y2 6) = 100 ∧ inb x4 (ln σ (gR σ y2 6))) <|
    if (gI σ (gR σ y1 6) (ix x2)) = (gI σ (gR σ y2 6) (ix x4)) then (
      Mdl_haveSameRows_p57 σ x2 x4 y1 y2 (1 : Int32))
    else (
      Mdl_haveSameRows_p56 σ x2 x4 y1 y2))
  else (
    Mdl_haveSameRows_p56 σ x2 x4 y1 y2)
theorem V.ctX17_haveSameRows (x0 : Nat) (x1 : Int32) (x2 : Int32) (x3 : Int32) (x4 : Int32) : Ct yX17_haveSameRows  cX17_haveSameRows 9 (some .boolean) 0 0 eI [av x0, iv x1, iv x2, iv x3, iv x4] (fun σ => Mdl_haveSameRows σ x0 x1 x2 x3 x4) := by
  refine Ct.of (own := RX17) (nm := "haveSameRows") (desc := "(IIII)Z") rfl (by decide) (Nat.le_of_ble_eq_true rfl) (by decide) (fun X σ => ?_)
  show G X RX17 "haveSameRows" cX17_haveSameRows 9 (some .boolean) 0 0 enI 0 [(0, av x0), (1, iv x1), (2, iv x2), (3, iv x3), (4, iv x4)] [] σ (Mdl_haveSameRows σ x0 x1 x2 x3 x4)
  unfold Mdl_haveSameRows
  refine g_aload_n 0 0 dX17_haveSameRows_0 rfl rfl ?_
  refine g_getR fdX17_16 dX17_haveSameRows_1 ?_
  refine g_iload_n 1 1 dX17_haveSameRows_4 rfl rfl ?_
  refine g_aaload 7 rfl dX17_haveSameRows_5 ?_
  refine g_nmA (fun y1 => ?_)
  refine g_astore dX17_haveSameRows_6 (by decide) rfl ?_
  refine g_aload_n 0 1 dX17_haveSameRows_8 rfl rfl ?_
  refine g_getR fdX17_16 dX17_haveSameRows_9 ?_
  refine g_iload_n 3 4 dX17_haveSameRows_12 rfl rfl ?_
  refine g_aaload 7 rfl dX17_haveSameRows_13 ?_
  refine g_nmA (fun y2 => ?_)
  refine g_astore dX17_haveSameRows_14 (by decide) rfl ?_
  refine g_aload 1 dX17_haveSameRows_16 rfl ?_
  refine g_getR fdX17_387 dX17_haveSameRows_18 ?_
  refine g_iload_n 2 4 dX17_haveSameRows_21 rfl rfl ?_
  refine g_iaload dX17_haveSameRows_22 ?_
  refine g_aload 0 dX17_haveSameRows_23 rfl ?_
  refine g_getR fdX17_387 dX17_haveSameRows_25 ?_
  refine g_iload 6 dX17_haveSameRows_28 rfl ?_
  refine g_iaload dX17_haveSameRows_30 ?_
  refine g_icmp_ne 56 dX17_haveSameRows_31 (by decide) ?_ ?_
  · refine G.sub [4, 6, 1, 0] rfl ?_
    exact gX17_haveSameRows_p56 _ _ _ _ _
  · refine g_aload 1 dX17_haveSameRows_34 rfl ?_
    refine g_getR fdX17_390 dX17_haveSameRows_36 ?_
    refine g_iload_n 2 4 dX17_haveSameRows_39 rfl rfl ?_
    refine g_iaload dX17_haveSameRows_40 ?_
    refine g_aload 0 dX17_haveSameRows_41 rfl ?_
    refine g_getR fdX17_390 dX17_haveSameRows_43 ?_
    refine g_iload 6 dX17_haveSameRows_46 rfl ?_
    refine g_iaload dX17_haveSameRows_48 ?_
    refine g_icmp_ne 56 dX17_haveSameRows_49 (by decide) ?_ ?_
    · refine G.sub [4, 6, 1, 0] rfl ?_
      exact gX17_haveSameRows_p56 _ _ _ _ _
    · refine g_iconst (v := 1) dX17_haveSameRows_52 (by decide) ?_
      refine g_goto 57 dX17_haveSameRows_53 (by decide) ?_
      refine G.sub [4, 6, 1, 0] rfl ?_
      exact gX17_haveSameRows_p57 _ _ _ _ _ _
theorem V.dX17_fits_0 : decode cX17_fits 0 = .ok (.aload_n 0, 1) := by decide +kernel
theorem V.dX17_fits_1 : decode cX17_fits 1 = .ok (.getfield 16, 3) := by decide +kernel
theorem V.dX17_fits_4 : decode cX17_fits 4 = .ok (.iload_n 1, 1) := by decide +kernel
theorem V.dX17_fits_5 : decode cX17_fits 5 = .ok (.aaload, 1) := by decide +kernel
theorem V.dX17_fits_6 : decode cX17_fits 6 = .ok (.astore_n 3, 1) := by decide +kernel
theorem V.dX17_fits_7 : decode cX17_fits 7 = .ok (.aload_n 3, 1) := by decide +kernel
theorem V.dX17_fits_8 : decode cX17_fits 8 = .ok (.getfield 411, 3) := by decide +kernel
theorem V.dX17_fits_11 : decode cX17_fits 11 = .ok (.iload_n 2, 1) := by decide +kernel
theorem V.dX17_fits_12 : decode cX17_fits 12 = .ok (.iaload, 1) := by decide +kernel
theorem V.dX17_fits_13 : decode cX17_fits 13 = .ok (.istore 4, 2) := by decide +kernel
theorem V.dX17_fits_15 : decode cX17_fits 15 = .ok (.aload_n 0, 1) := by decide +kernel
theorem V.dX17_fits_16 : decode cX17_fits 16 = .ok (.getfield 161, 3) := by decide +kernel
theorem V.dX17_fits_19 : decode cX17_fits 19 = .ok (.iload_n 2, 1) := by decide +kernel
theorem V.dX17_fits_20 : decode cX17_fits 20 = .ok (.iaload, 1) := by decide +kernel
theorem V.dX17_fits_21 : decode cX17_fits 21 = .ok (.istore 5, 2) := by decide +kernel
theorem V.dX17_fits_23 : decode cX17_fits 23 = .ok (.aload_n 0, 1) := by decide +kernel
theorem V.dX17_fits_24 : decode cX17_fits 24 = .ok (.getfield 158, 3) := by decide +kernel
theorem V.dX17_fits_27 : decode cX17_fits 27 = .ok (.iload_n 2, 1) := by decide +kernel
theorem V.dX17_fits_28 : decode cX17_fits 28 = .ok (.iaload, 1) := by decide +kernel
theorem V.dX17_fits_29 : decode cX17_fits 29 = .ok (.iconst (-1), 1) := by decide +kernel
theorem V.dX17_fits_30 : decode cX17_fits 30 = .ok (.if_icmp .ne 14, 3) := by decide +kernel
theorem V.dX17_fits_33 : decode cX17_fits 33 = .ok (.iload 4, 2) := by decide +kernel
theorem V.dX17_fits_35 : decode cX17_fits 35 = .ok (.ifCond .ne 7, 3) := by decide +kernel
theorem V.dX17_fits_38 : decode cX17_fits 38 = .ok (.iconst 1, 1) := by decide +kernel
theorem V.dX17_fits_39 : decode cX17_fits 39 = .ok (.goto 4, 3) := by decide +kernel
theorem V.dX17_fits_42 : decode cX17_fits 42 = .ok (.iconst 0, 1) := by decide +kernel
theorem V.dX17_fits_43 : decode cX17_fits 43 = .ok (.ireturn, 1) := by decide +kernel
theorem V.dX17_fits_44 : decode cX17_fits 44 = .ok (.aload_n 0, 1) := by decide +kernel
theorem V.dX17_fits_45 : decode cX17_fits 45 = .ok (.getfield 158, 3) := by decide +kernel
theorem V.dX17_fits_48 : decode cX17_fits 48 = .ok (.iload_n 2, 1) := by decide +kernel
theorem V.dX17_fits_49 : decode cX17_fits 49 = .ok (.iaload, 1) := by decide +kernel
theorem V.dX17_fits_50 : decode cX17_fits 50 = .ok (.iload 4, 2) := by decide +kernel
theorem V.dX17_fits_52 : decode cX17_fits 52 = .ok (.if_icmp .eq 5, 3) := by decide +kernel
theorem V.dX17_fits_55 : decode cX17_fits 55 = .ok (.iconst 0, 1) := by decide +kernel
theorem V.dX17_fits_56 : decode cX17_fits 56 = .ok (.ireturn, 1) := by decide +kernel
theorem V.dX17_fits_57 : decode cX17_fits 57 = .ok (.aload_n 3, 1) := by decide +kernel
theorem V.dX17_fits_58 : decode cX17_fits 58 = .ok (.getfield 417, 3) := by decide +kernel
theorem V.dX17_fits_61 : decode cX17_fits 61 = .ok (.iload_n 2, 1) := by decide +kernel
theorem V.dX17_fits_62 : decode cX17_fits 62 = .ok (.laload, 1) := by decide +kernel
theorem V.dX17_fits_63 : decode cX17_fits 63 = .ok (.lstore 6, 2) := by decide +kernel
theorem V.dX17_fits_65 : decode cX17_fits 65 = .ok (.aload_n 3, 1) := by decide +kernel
theorem V.dX17_fits_66 : decode cX17_fits 66 = .ok (.getfield 420, 3) := by decide +kernel
theorem V.dX17_fits_69 : decode cX17_fits 69 = .ok (.iload_n 2, 1) := by decide +kernel
theorem V.dX17_fits_70 : decode cX17_fits 70 = .ok (.laload, 1) := by decide +kernel
theorem V.dX17_fits_71 : decode cX17_fits 71 = .ok (.lstore 8, 2) := by decide +kernel
theorem V.dX17_fits_73 : decode cX17_fits 73 = .ok (.iload 4, 2) := by decide +kernel
theorem V.dX17_fits_75 : decode cX17_fits 75 = .ok (.tableswitch 174 0 2 #[25, 52, 122], 25) := by decide +kernel
theorem V.dX17_fits_100 : decode cX17_fits 100 = .ok (.aload_n 0, 1) := by decide +kernel
theorem V.dX17_fits_101 : decode cX17_fits 101 = .ok (.iload_n 1, 1) := by decide +kernel
theorem V.dX17_fits_102 : decode cX17_fits 102 = .ok (.aload_n 3, 1) := by decide +kernel
theorem V.dX17_fits_103 : decode cX17_fits 103 = .ok (.getfield 414, 3) := by decide +kernel
theorem V.dX17_fits_106 : decode cX17_fits 106 = .ok (.iload_n 2, 1) := by decide +kernel
theorem V.dX17_fits_107 : decode cX17_fits 107 = .ok (.laload, 1) := by decide +kernel
theorem V.dX17_fits_108 : decode cX17_fits 108 = .ok (.l2i, 1) := by decide +kernel
theorem V.dX17_fits_109 : decode cX17_fits 109 = .ok (.aload_n 0, 1) := by decide +kernel
theorem V.dX17_fits_110 : decode cX17_fits 110 = .ok (.getfield 68, 3) := by decide +kernel
theorem V.dX17_fits_113 : decode cX17_fits 113 = .ok (.iload 5, 2) := by decide +kernel
theorem V.dX17_fits_115 : decode cX17_fits 115 = .ok (.iaload, 1) := by decide +kernel
theorem V.dX17_fits_116 : decode cX17_fits 116 = .ok (.aload_n 0, 1) := by decide +kernel
theorem V.dX17_fits_117 : decode cX17_fits 117 = .ok (.getfield 71, 3) := by decide +kernel
theorem V.dX17_fits_120 : decode cX17_fits 120 = .ok (.iload 5, 2) := by decide +kernel
theorem V.dX17_fits_122 : decode cX17_fits 122 = .ok (.iaload, 1) := by decide +kernel
theorem V.dX17_fits_123 : decode cX17_fits 123 = .ok (.invokevirtual 973, 3) := by decide +kernel
theorem V.dX17_fits_126 : decode cX17_fits 126 = .ok (.ireturn, 1) := by decide +kernel
theorem V.dX17_fits_127 : decode cX17_fits 127 = .ok (.aload_n 0, 1) := by decide +kernel
theorem V.dX17_fits_128 : decode cX17_fits 128 = .ok (.getfield 93, 3) := by decide +kernel
theorem V.dX17_fits_131 : decode cX17_fits 131 = .ok (.iload 5, 2) := by decide +kernel
theorem V.dX17_fits_133 : decode cX17_fits 133 = .ok (.iaload, 1) := by decide +kernel
theorem V.dX17_fits_134 : decode cX17_fits 134 = .ok (.i2l, 1) := by decide +kernel
theorem V.dX17_fits_135 : decode cX17_fits 135 = .ok (.aload_n 3, 1) := by decide +kernel
theorem V.dX17_fits_136 : decode cX17_fits 136 = .ok (.getfield 414, 3) := by decide +kernel
theorem V.dX17_fits_139 : decode cX17_fits 139 = .ok (.iload_n 2, 1) := by decide +kernel
theorem V.dX17_fits_140 : decode cX17_fits 140 = .ok (.laload, 1) := by decide +kernel
theorem V.dX17_fits_141 : decode cX17_fits 141 = .ok (.lcmp, 1) := by decide +kernel
theorem V.dX17_fits_142 : decode cX17_fits 142 = .ok (.ifCond .ne 53, 3) := by decide +kernel
theorem V.dX17_fits_145 : decode cX17_fits 145 = .ok (.aload_n 0, 1) := by decide +kernel
theorem V.dX17_fits_146 : decode cX17_fits 146 = .ok (.getfield 96, 3) := by decide +kernel
theorem V.dX17_fits_149 : decode cX17_fits 149 = .ok (.iload 5, 2) := by decide +kernel
theorem V.dX17_fits_151 : decode cX17_fits 151 = .ok (.iaload, 1) := by decide +kernel
theorem V.dX17_fits_152 : decode cX17_fits 152 = .ok (.i2l, 1) := by decide +kernel
theorem V.dX17_fits_153 : decode cX17_fits 153 = .ok (.lload 6, 2) := by decide +kernel
theorem V.dX17_fits_155 : decode cX17_fits 155 = .ok (.lcmp, 1) := by decide +kernel
theorem V.dX17_fits_156 : decode cX17_fits 156 = .ok (.ifCond .lt 39, 3) := by decide +kernel
theorem V.dX17_fits_159 : decode cX17_fits 159 = .ok (.lload 8, 2) := by decide +kernel
theorem V.dX17_fits_161 : decode cX17_fits 161 = .ok (.lconst 0, 1) := by decide +kernel
theorem V.dX17_fits_162 : decode cX17_fits 162 = .ok (.lcmp, 1) := by decide +kernel
theorem V.dX17_fits_163 : decode cX17_fits 163 = .ok (.ifCond .lt 28, 3) := by decide +kernel
theorem V.dX17_fits_166 : decode cX17_fits 166 = .ok (.aload_n 0, 1) := by decide +kernel
theorem V.dX17_fits_167 : decode cX17_fits 167 = .ok (.getfield 99, 3) := by decide +kernel
theorem V.dX17_fits_170 : decode cX17_fits 170 = .ok (.iload 5, 2) := by decide +kernel
theorem V.dX17_fits_172 : decode cX17_fits 172 = .ok (.laload, 1) := by decide +kernel
theorem V.dX17_fits_173 : decode cX17_fits 173 = .ok (.lconst 0, 1) := by decide +kernel
theorem V.dX17_fits_174 : decode cX17_fits 174 = .ok (.lcmp, 1) := by decide +kernel
theorem V.dX17_fits_175 : decode cX17_fits 175 = .ok (.ifCond .lt 20, 3) := by decide +kernel
theorem V.dX17_fits_178 : decode cX17_fits 178 = .ok (.aload_n 0, 1) := by decide +kernel
theorem V.dX17_fits_179 : decode cX17_fits 179 = .ok (.getfield 99, 3) := by decide +kernel
theorem V.dX17_fits_182 : decode cX17_fits 182 = .ok (.iload 5, 2) := by decide +kernel
theorem V.dX17_fits_184 : decode cX17_fits 184 = .ok (.laload, 1) := by decide +kernel
theorem V.dX17_fits_185 : decode cX17_fits 185 = .ok (.lload 8, 2) := by decide +kernel
theorem V.dX17_fits_187 : decode cX17_fits 187 = .ok (.lcmp, 1) := by decide +kernel
theorem V.dX17_fits_188 : decode cX17_fits 188 = .ok (.ifCond .gt 7, 3) := by decide +kernel
theorem V.dX17_fits_191 : decode cX17_fits 191 = .ok (.iconst 1, 1) := by decide +kernel
theorem V.dX17_fits_192 : decode cX17_fits 192 = .ok (.goto 4, 3) := by decide +kernel
theorem V.dX17_fits_195 : decode cX17_fits 195 = .ok (.iconst 0, 1) := by decide +kernel
theorem V.dX17_fits_196 : decode cX17_fits 196 = .ok (.ireturn, 1) := by decide +kernel
theorem V.dX17_fits_197 : decode cX17_fits 197 = .ok (.aload_n 0, 1) := by decide +kernel
theorem V.dX17_fits_198 : decode cX17_fits 198 = .ok (.getfield 109, 3) := by decide +kernel
theorem V.dX17_fits_201 : decode cX17_fits 201 = .ok (.iload 5, 2) := by decide +kernel
theorem V.dX17_fits_203 : decode cX17_fits 203 = .ok (.iaload, 1) := by decide +kernel
theorem V.dX17_fits_204 : decode cX17_fits 204 = .ok (.i2l, 1) := by decide +kernel
theorem V.dX17_fits_205 : decode cX17_fits 205 = .ok (.lload 6, 2) := by decide +kernel
theorem V.dX17_fits_207 : decode cX17_fits 207 = .ok (.lcmp, 1) := by decide +kernel
theorem V.dX17_fits_208 : decode cX17_fits 208 = .ok (.ifCond .lt 39, 3) := by decide +kernel
theorem V.dX17_fits_211 : decode cX17_fits 211 = .ok (.lload 8, 2) := by decide +kernel
theorem V.dX17_fits_213 : decode cX17_fits 213 = .ok (.lconst 0, 1) := by decide +kernel
theorem V.dX17_fits_214 : decode cX17_fits 214 = .ok (.lcmp, 1) := by decide +kernel
theorem V.dX17_fits_215 : decode cX17_fits 215 = .ok (.ifCond .lt 28, 3) := by decide +kernel
theorem V.dX17_fits_218 : decode cX17_fits 218 = .ok (.aload_n 0, 1) := by decide +kernel
theorem V.dX17_fits_219 : decode cX17_fits 219 = .ok (.getfield 112, 3) := by decide +kernel
theorem V.dX17_fits_222 : decode cX17_fits 222 = .ok (.iload 5, 2) := by decide +kernel
theorem V.dX17_fits_224 : decode cX17_fits 224 = .ok (.laload, 1) := by decide +kernel
theorem V.dX17_fits_225 : decode cX17_fits 225 = .ok (.lconst 0, 1) := by decide +kernel
theorem V.dX17_fits_226 : decode cX17_fits 226 = .ok (.lcmp, 1) := by decide +kernel
theorem V.dX17_fits_227 : decode cX17_fits 227 = .ok (.ifCond .lt 20, 3) := by decide +kernel
theorem V.dX17_fits_230 : decode cX17_fits 230 = .ok (.aload_n 0, 1) := by decide +kernel
theorem V.dX17_fits_231 : decode cX17_fits 231 = .ok (.getfield 112, 3) := by decide +kernel
theorem V.dX17_fits_234 : decode cX17_fits 234 = .ok (.iload 5, 2) := by decide +kernel
theorem V.dX17_fits_236 : decode cX17_fits 236 = .ok (.laload, 1) := by decide +kernel
theorem V.dX17_fits_237 : decode cX17_fits 237 = .ok (.lload 8, 2) := by decide +kernel
theorem V.dX17_fits_239 : decode cX17_fits 239 = .ok (.lcmp, 1) := by decide +kernel
theorem V.dX17_fits_240 : decode cX17_fits 240 = .ok (.ifCond .gt 7, 3) := by decide +kernel
theorem V.dX17_fits_243 : decode cX17_fits 243 = .ok (.iconst 1, 1) := by decide +kernel
theorem V.dX17_fits_244 : decode cX17_fits 244 = .ok (.goto 4, 3) := by decide +kernel
theorem V.dX17_fits_247 : decode cX17_fits 247 = .ok (.iconst 0, 1) := by decide +kernel
theorem V.dX17_fits_248 : decode cX17_fits 248 = .ok (.ireturn, 1) := by decide +kernel
theorem V.dX17_fits_249 : decode cX17_fits 249 = .ok (.aload_n 0, 1) := by decide +kernel
theorem V.dX17_fits_250 : decode cX17_fits 250 = .ok (.getfield 122, 3) := by decide +kernel
theorem V.dX17_fits_253 : decode cX17_fits 253 = .ok (.iload 5, 2) := by decide +kernel
theorem V.dX17_fits_255 : decode cX17_fits 255 = .ok (.iaload, 1) := by decide +kernel
theorem V.dX17_fits_256 : decode cX17_fits 256 = .ok (.i2l, 1) := by decide +kernel
theorem V.dX17_fits_257 : decode cX17_fits 257 = .ok (.aload_n 3, 1) := by decide +kernel
theorem V.dX17_fits_258 : decode cX17_fits 258 = .ok (.getfield 414, 3) := by decide +kernel
theorem V.dX17_fits_261 : decode cX17_fits 261 = .ok (.iload_n 2, 1) := by decide +kernel
theorem V.dX17_fits_262 : decode cX17_fits 262 = .ok (.laload, 1) := by decide +kernel
theorem V.dX17_fits_263 : decode cX17_fits 263 = .ok (.lcmp, 1) := by decide +kernel
theorem V.dX17_fits_264 : decode cX17_fits 264 = .ok (.ifCond .ne 23, 3) := by decide +kernel
theorem V.dX17_fits_267 : decode cX17_fits 267 = .ok (.aload_n 0, 1) := by decide +kernel
theorem V.dX17_fits_268 : decode cX17_fits 268 = .ok (.getfield 125, 3) := by decide +kernel
theorem V.dX17_fits_271 : decode cX17_fits 271 = .ok (.iload 5, 2) := by decide +kernel
theorem V.dX17_fits_273 : decode cX17_fits 273 = .ok (.baload, 1) := by decide +kernel
theorem V.dX17_fits_274 : decode cX17_fits 274 = .ok (.aload_n 3, 1) := by decide +kernel
theorem V.dX17_fits_275 : decode cX17_fits 275 = .ok (.getfield 423, 3) := by decide +kernel
theorem V.dX17_fits_278 : decode cX17_fits 278 = .ok (.iload_n 2, 1) := by decide +kernel
theorem V.dX17_fits_279 : decode cX17_fits 279 = .ok (.baload, 1) := by decide +kernel
theorem V.dX17_fits_280 : decode cX17_fits 280 = .ok (.if_icmp .ne 7, 3) := by decide +kernel
theorem V.dX17_fits_283 : decode cX17_fits 283 = .ok (.iconst 1, 1) := by decide +kernel
theorem V.dX17_fits_284 : decode cX17_fits 284 = .ok (.goto 4, 3) := by decide +kernel
theorem V.dX17_fits_287 : decode cX17_fits 287 = .ok (.iconst 0, 1) := by decide +kernel
theorem V.dX17_fits_288 : decode cX17_fits 288 = .ok (.ireturn, 1) := by decide +kernel
theorem V.fdX17_68 : FD RX17 68 17 37 2 := ⟨(RX17, TX17, 101), tyX17, rfl, rfl, in_X17, by decide, Or.inl q3073, rfl⟩
theorem V.fdX17_71 : FD RX17 71 17 38 2 := ⟨(RX17, TX17, 101), tyX17, rfl, rfl, in_X17, by decide, Or.inl q3074, rfl⟩
theorem V.mdX17_973 : MD RX17 973 yX17_haveSameRows cX17_haveSameRows 9 (some .boolean) 4 := ⟨Or.inl q4033, q377, q4036, by decide, by decide, by decide +kernel⟩
theorem V.fdX17_93 : FD RX17 93 17 48 2 := ⟨(RX17, TX17, 101), tyX17, rfl, rfl, in_X17, by decide, Or.inl q3084, rfl⟩
theorem V.fdX17_96 : FD RX17 96 17 49 2 := ⟨(RX17, TX17, 101), tyX17, rfl, rfl, in_X17, by decide, Or.inl q3085, rfl⟩
theorem V.fdX17_99 : FD RX17 99 17 50 2 := ⟨(RX17, TX17, 101), tyX17, rfl, rfl, in_X17, by decide, Or.inl q3086, rfl⟩
theorem V.fdX17_109 : FD RX17 109 17 54 2 := ⟨(RX17, TX17, 101), tyX17, rfl, rfl, in_X17, by decide, Or.inl q3090, rfl⟩
theorem V.fdX17_112 : FD RX17 112 17 55 2 := ⟨(RX17, TX17, 101), tyX17, rfl, rfl, in_X17, by decide, Or.inl q3091, rfl⟩
theorem V.fdX17_122 : FD RX17 122 17 59 2 := ⟨(RX17, TX17, 101), tyX17, rfl, rfl, in_X17, by decide, Or.inl q3095, rfl⟩
theorem V.fdX17_125 : FD RX17 125 17 60 2 := ⟨(RX17, TX17, 101), tyX17, rfl, rfl, in_X17, by decide, Or.inl q3096, rfl⟩
/-! ModuleEngineModel.fits(II)Z -/
def V.Mdl_fits_p191  (σ : HS)  : Option (Int32 × HS) :=
  some ((1 : Int32), σ)
theorem V.gX17_fits_p191 {X : CX}  (σ : HS)  : G X RX17 "fits" cX17_fits 10 (some .boolean) 1 28 enI 191 [] [] σ (Mdl_fits_p191 σ ) := by
  unfold Mdl_fits_p191
  refine g_iconst (v := 1) dX17_fits_191 (by decide) ?_
  refine g_goto 196 dX17_fits_192 (by decide) ?_
  exact g_zreturn rfl (by decide +kernel) dX17_fits_196
def V.Mdl_fits_p243  (σ : HS)  : Option (Int32 × HS) :=
  some ((1 : Int32), σ)
theorem V.gX17_fits_p243 {X : CX}  (σ : HS)  : G X RX17 "fits" cX17_fits 10 (some .boolean) 1 28 enI 243 [] [] σ (Mdl_fits_p243 σ ) := by
  unfold Mdl_fits_p243
  refine g_iconst (v := 1) dX17_fits_243 (by decide) ?_
  refine g_goto 248 dX17_fits_244 (by decide) ?_
  exact g_zreturn rfl (by decide +kernel) dX17_fits_248
def V.Mdl_fits (σ : HS) (x0 : Nat) (x1 : Int32) (x2 : Int32) : Option (Int32 × HS) :=
  ck (tg σ x0 = 18) <|
  ck (tg σ (gR σ x0 4) = 107 ∧ inb x1 (ln σ (gR σ x0 4))) <|
  bn (gR σ (gR σ x0 4) (ix x1)) fun y1 =>
  ck (tg σ y1 = 21) <|
  ck (tg σ (gR σ y1 9) = 100 ∧ inb x2 (ln σ (gR σ y1 9))) <|
  bn (gI σ (gR σ y1 9) (ix x2)) fun y2 =>
  ck (tg σ x0 = 18) <|
  ck (tg σ (gR σ x0 75) = 100 ∧ inb x2 (ln σ (gR σ x0 75))) <|
  bn (gI σ (gR σ x0 75) (ix x2)) fun y3 =>
  ck (tg σ x0 = 18) <|
  ck (tg σ (gR σ x0 74) = 100 ∧ inb x2 (ln σ (gR σ x0 74))) <|
  if (gI σ (gR σ x0 74) (ix x2)) = (-1 : Int32) then (
    if y2 = 0 then (
      some ((1 : Int32), σ))
    else (
      some ((0 : Int32), σ)))
  else (
    ck (tg σ x0 = 18) <|
    ck (tg σ (gR σ x0 74) = 100 ∧ inb x2 (ln σ (gR σ x0 74))) <|
    if (gI σ (gR σ x0 74) (ix x2)) = y2 then (
      ck (tg σ y1 = 21) <|
      ck (tg σ (gR σ y1 11) = 101 ∧ inb x2 (ln σ (gR σ y1 11))) <|
      bn (gJ σ (gR σ y1 11) (ix x2)) fun y4 =>
      ck (tg σ y1 = 21) <|
      ck (tg σ (gR σ y1 12) = 101 ∧ inb x2 (ln σ (gR σ y1 12))) <|
      bn (gJ σ (gR σ y1 12) (ix x2)) fun y5 =>
      swx y2 [
        (0, (
          ck (tg σ y1 = 21) <|
          ck (tg σ (gR σ y1 10) = 101 ∧ inb x2 (ln σ (gR σ y1 10))) <|
          ck (tg σ x0 = 18) <|
          ck (tg σ (gR σ x0 37) = 100 ∧ inb y3 (ln σ (gR σ x0 37))) <|
          ck (tg σ x0 = 18) <|
          ck (tg σ (gR σ x0 38) = 100 ∧ inb y3 (ln σ (gR σ x0 38))) <|
          ck (tg σ x0 = 18) <| cl (Mdl_haveSameRows σ x0 x1 ((gJ σ (gR σ y1 10) (ix x2)).toInt32) (gI σ (gR σ x0 37) (ix y3)) (gI σ (gR σ x0 38) (ix y3))) fun r7 σ6 =>
          ck (zb r7) (some (r7, σ6)))),
        (1, (
          ck (tg σ x0 = 18) <|
          ck (tg σ (gR σ x0 48) = 100 ∧ inb y3 (ln σ (gR σ x0 48))) <|
          ck (tg σ y1 = 21) <|
          ck (tg σ (gR σ y1 10) = 101 ∧ inb x2 (ln σ (gR σ y1 10))) <|
          if ((gI σ (gR σ x0 48) (ix y3)).toInt64) = (gJ σ (gR σ y1 10) (ix x2)) then (
            ck (tg σ x0 = 18) <|
            ck (tg σ (gR σ x0 49) = 100 ∧ inb y3 (ln σ (gR σ x0 49))) <|
            if ((gI σ (gR σ x0 49) (ix y3)).toInt64) < y4 then (
              some ((0 : Int32), σ))
            else (
              if y5 < (0 : Int64) then (
                Mdl_fits_p191 σ)
              else (
                ck (tg σ x0 = 18) <|
                ck (tg σ (gR σ x0 50) = 101 ∧ inb y3 (ln σ (gR σ x0 50))) <|
                if (gJ σ (gR σ x0 50) (ix y3)) < (0 : Int64) then (
                  some ((0 : Int32), σ))
                else (
                  ck (tg σ x0 = 18) <|
                  ck (tg σ (gR σ x0 50) = 101 ∧ inb y3 (ln σ (gR σ x0 50))) <|
                  if y5 < (gJ σ (gR σ x0 50) (ix y3)) then (
                    some ((0 : Int32), σ))
                  else (
                    Mdl_fits_p191 σ)))))
          else (
            some ((0 : Int32), σ)))),
        (2, (
          ck (tg σ x0 = 18) <|
          ck (tg σ (gR σ x0 54) = 100 ∧ inb y3 (ln σ (gR σ x0 54))) <|
          if ((gI σ (gR σ x0 54) (ix y3)).toInt64) < y4 then (
            some ((0 : Int32), σ))
          else (
            if y5 < (0 : Int64) then (
              Mdl_fits_p243 σ)
            else (
              ck (tg σ x0 = 18) <|
              ck (tg σ (gR σ x0 55) = 101 ∧ inb y3 (ln σ (gR σ x0 55))) <|
              if (gJ σ (gR σ x0 55) (ix y3)) < (0 : Int64) then (
                some ((0 : Int32), σ))
              else (
                ck (tg σ x0 = 18) <|
                ck (tg σ (gR σ x0 55) = 101 ∧ inb y3 (ln σ (gR σ x0 55))) <|
                if y5 < (gJ σ (gR σ x0 55) (ix y3)) then (
                  some ((0 : Int32), σ))
                else (
                  Mdl_fits_p243 σ))))))
        ] (
        ck (tg σ x0 = 18) <|
        ck (tg σ (gR σ x0 59) = 100 ∧ inb y3 (ln σ (gR σ x0 59))) <|
        ck (tg σ y1 = 21) <|
        ck (tg σ (gR σ y1 10) = 101 ∧ inb x2 (ln σ (gR σ y1 10))) <|
        if ((gI σ (gR σ x0 59) (ix y3)).toInt64) = (gJ σ (gR σ y1 10) (ix x2)) then (
          ck (tg σ x0 = 18) <|
          ck (tg σ (gR σ x0 60) = 103 ∧ inb y3 (ln σ (gR σ x0 60))) <|
          ck (tg σ y1 = 21) <|
          ck (tg σ (gR σ y1 13) = 103 ∧ inb x2 (ln σ (gR σ y1 13))) <|
          if (gI σ (gR σ x0 60) (ix y3)) = (gI σ (gR σ y1 13) (ix x2)) then (
            some ((1 : Int32), σ))
          else (
            some ((0 : Int32), σ)))
        else (
          some ((0 : Int32), σ))))
    else (
      some ((0 : Int32), σ)))
theorem V.ctX17_fits (x0 : Nat) (x1 : Int32) (x2 : Int32) : Ct yX17_fits  cX17_fits 10 (some .boolean) 1 28 eI [av x0, iv x1, iv x2] (fun σ => Mdl_fits σ x0 x1 x2) := by
  refine Ct.of (own := RX17) (nm := "fits") (desc := "(II)Z") rfl (by decide) (Nat.le_of_ble_eq_true rfl) (by decide) (fun X σ => ?_)
  show G X RX17 "fits" cX17_fits 10 (some .boolean) 1 28 enI 0 [(0, av x0), (1, iv x1), (2, iv x2)] [] σ (Mdl_fits σ x0 x1 x2)
  unfold Mdl_fits
  refine g_aload_n 0 0 dX17_fits_0 rfl rfl ?_
  refine g_getR fdX17_16 dX17_fits_1 ?_
  refine g_iload_n 1 1 dX17_fits_4 rfl rfl ?_
  refine g_aaload 7 rfl dX17_fits_5 ?_
  refine g_nmA (fun y1 => ?_)
  refine g_astore_n 3 dX17_fits_6 rfl (by decide) rfl ?_
  refine g_aload_n 3 0 dX17_fits_7 rfl rfl ?_
  refine g_getR fdX17_411 dX17_fits_8 ?_
  refine g_iload_n 2 3 dX17_fits_11 rfl rfl ?_
  refine g_iaload dX17_fits_12 ?_
  refine g_nmI (fun y2 => ?_)
  refine g_istore dX17_fits_13 (by decide) rfl ?_
  refine g_aload_n 0 2 dX17_fits_15 rfl rfl ?_
  refine g_getR fdX17_161 dX17_fits_16 ?_
  refine g_iload_n 2 4 dX17_fits_19 rfl rfl ?_
  refine g_iaload dX17_fits_20 ?_
  refine g_nmI (fun y3 => ?_)
  refine g_istore dX17_fits_21 (by decide) rfl ?_
  refine g_aload_n 0 3 dX17_fits_23 rfl rfl ?_
  refine g_getR fdX17_158 dX17_fits_24 ?_
  refine g_iload_n 2 5 dX17_fits_27 rfl rfl ?_
  refine g_iaload dX17_fits_28 ?_
  refine g_iconst (v := (-1)) dX17_fits_29 (by decide) ?_
  refine g_icmp_ne 44 dX17_fits_30 (by decide) ?_ ?_
  · refine g_aload_n 0 3 dX17_fits_44 rfl rfl ?_
    refine g_getR fdX17_158 dX17_fits_45 ?_
    refine g_iload_n 2 5 dX17_fits_48 rfl rfl ?_
    refine g_iaload dX17_fits_49 ?_
    refine g_iload 1 dX17_fits_50 rfl ?_
    refine g_icmp_eq 57 dX17_fits_52 (by decide) ?_ ?_
    · refine g_aload_n 3 2 dX17_fits_57 rfl rfl ?_
      refine g_getR fdX17_417 dX17_fits_58 ?_
      refine g_iload_n 2 5 dX17_fits_61 rfl rfl ?_
      refine g_laload dX17_fits_62 ?_
      refine g_nmJ (fun y4 => ?_)
      refine g_lstore dX17_fits_63 (by decide) rfl ?_
      refine g_aload_n 3 3 dX17_fits_65 rfl rfl ?_
      refine g_getR fdX17_420 dX17_fits_66 ?_
      refine g_iload_n 2 6 dX17_fits_69 rfl rfl ?_
      refine g_laload dX17_fits_70 ?_
      refine g_nmJ (fun y5 => ?_)
      refine g_lstore dX17_fits_71 (by decide) rfl ?_
      refine g_iload 3 dX17_fits_73 rfl ?_
      refine g_tsw dX17_fits_75 (by decide +kernel) ?_
      refine g_case ex0 (t := 100) (by decide +kernel) ?_ (fun hx => ?_)
      · refine g_aload_n 0 5 dX17_fits_100 rfl rfl ?_
        refine g_iload_n 1 6 dX17_fits_101 rfl rfl ?_
        refine g_aload_n 3 4 dX17_fits_102 rfl rfl ?_
        refine g_getR fdX17_414 dX17_fits_103 ?_
        refine g_iload_n 2 7 dX17_fits_106 rfl rfl ?_
        refine g_laload dX17_fits_107 ?_
        refine g_l2i dX17_fits_108 ?_
        refine g_aload_n 0 5 dX17_fits_109 rfl rfl ?_
        refine g_getR fdX17_68 dX17_fits_110 ?_
        refine g_iload 2 dX17_fits_113 rfl ?_
        refine g_iaload dX17_fits_115 ?_
        refine g_aload_n 0 5 dX17_fits_116 rfl rfl ?_
        refine g_getR fdX17_71 dX17_fits_117 ?_
        refine g_iload 2 dX17_fits_120 rfl ?_
        refine g_iaload dX17_fits_122 ?_
        refine g_callV (fc := fun sς => Mdl_haveSameRows sς x0 x1 ((gJ σ (gR σ y1 10) (ix x2)).toInt32) (gI σ (gR σ x0 37) (ix y3)) (gI σ (gR σ x0 38) (ix y3))) (ci := 17) (as := [iv x1, iv ((gJ σ (gR σ y1 10) (ix x2)).toInt32), iv (gI σ (gR σ x0 37) (ix y3)), iv (gI σ (gR σ x0 38) (ix y3))]) rfl rfl rfl q4035 qs295 mdX17_973 (ctX17_haveSameRows x0 x1 ((gJ σ (gR σ y1 10) (ix x2)).toInt32) (gI σ (gR σ x0 37) (ix y3)) (gI σ (gR σ x0 38) (ix y3))) rfl (Nat.le_of_ble_eq_true rfl) (Nat.le_of_ble_eq_true rfl) (Nat.le_of_ble_eq_true rfl) pu_I dX17_fits_123 (fun r7 σ6 => ?_)
        exact g_zreturnc rfl dX17_fits_126
      refine g_case hx (t := 127) (by decide +kernel) ?_ (fun hx => ?_)
      · refine g_aload_n 0 5 dX17_fits_127 rfl rfl ?_
        refine g_getR fdX17_93 dX17_fits_128 ?_
        refine g_iload 2 dX17_fits_131 rfl ?_
        refine g_iaload dX17_fits_133 ?_
        refine g_i2l dX17_fits_134 ?_
        refine g_aload_n 3 4 dX17_fits_135 rfl rfl ?_
        refine g_getR fdX17_414 dX17_fits_136 ?_
        refine g_iload_n 2 7 dX17_fits_139 rfl rfl ?_
        refine g_laload dX17_fits_140 ?_
        refine g_lcmp_ne 195 dX17_fits_141 dX17_fits_142 (by decide) ?_ ?_
        · refine g_iconst (v := 0) dX17_fits_195 (by decide) ?_
          exact g_zreturn rfl (by decide +kernel) dX17_fits_196
        · refine g_aload_n 0 5 dX17_fits_145 rfl rfl ?_
          refine g_getR fdX17_96 dX17_fits_146 ?_
          refine g_iload 2 dX17_fits_149 rfl ?_
          refine g_iaload dX17_fits_151 ?_
          refine g_i2l dX17_fits_152 ?_
          refine g_lload 1 dX17_fits_153 rfl ?_
          refine g_lcmp_lt 195 dX17_fits_155 dX17_fits_156 (by decide) ?_ ?_
          · refine g_iconst (v := 0) dX17_fits_195 (by decide) ?_
            exact g_zreturn rfl (by decide +kernel) dX17_fits_196
          · refine g_lload 0 dX17_fits_159 rfl ?_
            refine g_lconst (v := 0) dX17_fits_161 (by decide) ?_
            refine g_lcmp_lt 191 dX17_fits_162 dX17_fits_163 (by decide) ?_ ?_
            · refine G.sub [] rfl ?_
              exact gX17_fits_p191 _
            · refine g_aload_n 0 5 dX17_fits_166 rfl rfl ?_
              refine g_getR fdX17_99 dX17_fits_167 ?_
              refine g_iload 2 dX17_fits_170 rfl ?_
              refine g_laload dX17_fits_172 ?_
              refine g_lconst (v := 0) dX17_fits_173 (by decide) ?_
              refine g_lcmp_lt 195 dX17_fits_174 dX17_fits_175 (by decide) ?_ ?_
              · refine g_iconst (v := 0) dX17_fits_195 (by decide) ?_
                exact g_zreturn rfl (by decide +kernel) dX17_fits_196
              · refine g_aload_n 0 5 dX17_fits_178 rfl rfl ?_
                refine g_getR fdX17_99 dX17_fits_179 ?_
                refine g_iload 2 dX17_fits_182 rfl ?_
                refine g_laload dX17_fits_184 ?_
                refine g_lload 0 dX17_fits_185 rfl ?_
                refine g_lcmp_gt 195 dX17_fits_187 dX17_fits_188 (by decide) ?_ ?_
                · refine g_iconst (v := 0) dX17_fits_195 (by decide) ?_
                  exact g_zreturn rfl (by decide +kernel) dX17_fits_196
                · refine G.sub [] rfl ?_
                  exact gX17_fits_p191 _
      refine g_case hx (t := 197) (by decide +kernel) ?_ (fun hx => ?_)
      · refine g_aload_n 0 5 dX17_fits_197 rfl rfl ?_
        refine g_getR fdX17_109 dX17_fits_198 ?_
        refine g_iload 2 dX17_fits_201 rfl ?_
        refine g_iaload dX17_fits_203 ?_
        refine g_i2l dX17_fits_204 ?_
        refine g_lload 1 dX17_fits_205 rfl ?_
        refine g_lcmp_lt 247 dX17_fits_207 dX17_fits_208 (by decide) ?_ ?_
        · refine g_iconst (v := 0) dX17_fits_247 (by decide) ?_
          exact g_zreturn rfl (by decide +kernel) dX17_fits_248
        · refine g_lload 0 dX17_fits_211 rfl ?_
          refine g_lconst (v := 0) dX17_fits_213 (by decide) ?_
          refine g_lcmp_lt 243 dX17_fits_214 dX17_fits_215 (by decide) ?_ ?_
          · refine G.sub [] rfl ?_
            exact gX17_fits_p243 _
          · refine g_aload_n 0 5 dX17_fits_218 rfl rfl ?_
            refine g_getR fdX17_112 dX17_fits_219 ?_
            refine g_iload 2 dX17_fits_222 rfl ?_
            refine g_laload dX17_fits_224 ?_
            refine g_lconst (v := 0) dX17_fits_225 (by decide) ?_
            refine g_lcmp_lt 247 dX17_fits_226 dX17_fits_227 (by decide) ?_ ?_
            · refine g_iconst (v := 0) dX17_fits_247 (by decide) ?_
              exact g_zreturn rfl (by decide +kernel) dX17_fits_248
            · refine g_aload_n 0 5 dX17_fits_230 rfl rfl ?_
              refine g_getR fdX17_112 dX17_fits_231 ?_
              refine g_iload 2 dX17_fits_234 rfl ?_
              refine g_laload dX17_fits_236 ?_
              refine g_lload 0 dX17_fits_237 rfl ?_
              refine g_lcmp_gt 247 dX17_fits_239 dX17_fits_240 (by decide) ?_ ?_
              · refine g_iconst (v := 0) dX17_fits_247 (by decide) ?_
                exact g_zreturn rfl (by decide +kernel) dX17_fits_248
              · refine G.sub [] rfl ?_
                exact gX17_fits_p243 _
      refine g_dflt (t := 249) (tswT_d (by decide +kernel) (by decide +kernel) hx) ?_
      refine g_aload_n 0 5 dX17_fits_249 rfl rfl ?_
      refine g_getR fdX17_122 dX17_fits_250 ?_
      refine g_iload 2 dX17_fits_253 rfl ?_
      refine g_iaload dX17_fits_255 ?_
      refine g_i2l dX17_fits_256 ?_
      refine g_aload_n 3 4 dX17_fits_257 rfl rfl ?_
      refine g_getR fdX17_414 dX17_fits_258 ?_
      refine g_iload_n 2 7 dX17_fits_261 rfl rfl ?_
      refine g_laload dX17_fits_262 ?_
      refine g_lcmp_ne 287 dX17_fits_263 dX17_fits_264 (by decide) ?_ ?_
      · refine g_iconst (v := 0) dX17_fits_287 (by decide) ?_
        exact g_zreturn rfl (by decide +kernel) dX17_fits_288
      · refine g_aload_n 0 5 dX17_fits_267 rfl rfl ?_
        refine g_getR fdX17_125 dX17_fits_268 ?_
        refine g_iload 2 dX17_fits_271 rfl ?_
        refine g_zaload dX17_fits_273 ?_
        refine g_aload_n 3 4 dX17_fits_274 rfl rfl ?_
        refine g_getR fdX17_423 dX17_fits_275 ?_
        refine g_iload_n 2 7 dX17_fits_278 rfl rfl ?_
        refine g_zaload dX17_fits_279 ?_
        refine g_icmp_ne 287 dX17_fits_280 (by decide) ?_ ?_
        · refine g_iconst (v := 0) dX17_fits_287 (by decide) ?_
          exact g_zreturn rfl (by decide +kernel) dX17_fits_288
        · refine g_iconst (v := 1) dX17_fits_283 (by decide) ?_
          refine g_goto 288 dX17_fits_284 (by decide) ?_
          exact g_zreturn rfl (by decide +kernel) dX17_fits_288
    · refine g_iconst (v := 0) dX17_fits_55 (by decide) ?_
      exact g_zreturn rfl (by decide +kernel) dX17_fits_56
  · refine g_iload 1 dX17_fits_33 rfl ?_
    refine g_if_ne 42 dX17_fits_35 (by decide) ?_ ?_
    · refine g_iconst (v := 0) dX17_fits_42 (by decide) ?_
      exact g_zreturn rfl (by decide +kernel) dX17_fits_43
    · refine g_iconst (v := 1) dX17_fits_38 (by decide) ?_
      refine g_goto 43 dX17_fits_39 (by decide) ?_
      exact g_zreturn rfl (by decide +kernel) dX17_fits_43
theorem V.dX17_hasRoom_0 : decode cX17_hasRoom 0 = .ok (.lconst 0, 1) := by decide +kernel
theorem V.dX17_hasRoom_1 : decode cX17_hasRoom 1 = .ok (.lstore_n 3, 1) := by decide +kernel
theorem V.dX17_hasRoom_2 : decode cX17_hasRoom 2 = .ok (.iconst 0, 1) := by decide +kernel
theorem V.dX17_hasRoom_3 : decode cX17_hasRoom 3 = .ok (.istore 5, 2) := by decide +kernel
theorem V.dX17_hasRoom_5 : decode cX17_hasRoom 5 = .ok (.iload 5, 2) := by decide +kernel
theorem V.dX17_hasRoom_7 : decode cX17_hasRoom 7 = .ok (.aload_n 1, 1) := by decide +kernel
theorem V.dX17_hasRoom_8 : decode cX17_hasRoom 8 = .ok (.getfield 432, 3) := by decide +kernel
theorem V.dX17_hasRoom_11 : decode cX17_hasRoom 11 = .ok (.if_icmp .ge 19, 3) := by decide +kernel
theorem V.dX17_hasRoom_14 : decode cX17_hasRoom 14 = .ok (.lload_n 3, 1) := by decide +kernel
theorem V.dX17_hasRoom_15 : decode cX17_hasRoom 15 = .ok (.aload_n 1, 1) := by decide +kernel
theorem V.dX17_hasRoom_16 : decode cX17_hasRoom 16 = .ok (.getfield 438, 3) := by decide +kernel
theorem V.dX17_hasRoom_19 : decode cX17_hasRoom 19 = .ok (.iload 5, 2) := by decide +kernel
theorem V.dX17_hasRoom_21 : decode cX17_hasRoom 21 = .ok (.laload, 1) := by decide +kernel
theorem V.dX17_hasRoom_22 : decode cX17_hasRoom 22 = .ok (.ladd, 1) := by decide +kernel
theorem V.dX17_hasRoom_23 : decode cX17_hasRoom 23 = .ok (.lstore_n 3, 1) := by decide +kernel
theorem V.dX17_hasRoom_24 : decode cX17_hasRoom 24 = .ok (.iinc 5 1, 3) := by decide +kernel
theorem V.dX17_hasRoom_27 : decode cX17_hasRoom 27 = .ok (.goto (-22), 3) := by decide +kernel
theorem V.dX17_hasRoom_30 : decode cX17_hasRoom 30 = .ok (.lconst 0, 1) := by decide +kernel
theorem V.dX17_hasRoom_31 : decode cX17_hasRoom 31 = .ok (.lstore 5, 2) := by decide +kernel
theorem V.dX17_hasRoom_33 : decode cX17_hasRoom 33 = .ok (.iconst 0, 1) := by decide +kernel
theorem V.dX17_hasRoom_34 : decode cX17_hasRoom 34 = .ok (.istore 7, 2) := by decide +kernel
theorem V.dX17_hasRoom_36 : decode cX17_hasRoom 36 = .ok (.iload 7, 2) := by decide +kernel
theorem V.dX17_hasRoom_38 : decode cX17_hasRoom 38 = .ok (.aload_n 1, 1) := by decide +kernel
theorem V.dX17_hasRoom_39 : decode cX17_hasRoom 39 = .ok (.getfield 444, 3) := by decide +kernel
theorem V.dX17_hasRoom_42 : decode cX17_hasRoom 42 = .ok (.if_icmp .ge 21, 3) := by decide +kernel
theorem V.dX17_hasRoom_45 : decode cX17_hasRoom 45 = .ok (.lload 5, 2) := by decide +kernel
theorem V.dX17_hasRoom_47 : decode cX17_hasRoom 47 = .ok (.aload_n 1, 1) := by decide +kernel
theorem V.dX17_hasRoom_48 : decode cX17_hasRoom 48 = .ok (.getfield 447, 3) := by decide +kernel
theorem V.dX17_hasRoom_51 : decode cX17_hasRoom 51 = .ok (.iload 7, 2) := by decide +kernel
theorem V.dX17_hasRoom_53 : decode cX17_hasRoom 53 = .ok (.laload, 1) := by decide +kernel
theorem V.dX17_hasRoom_54 : decode cX17_hasRoom 54 = .ok (.ladd, 1) := by decide +kernel
theorem V.dX17_hasRoom_55 : decode cX17_hasRoom 55 = .ok (.lstore 5, 2) := by decide +kernel
theorem V.dX17_hasRoom_57 : decode cX17_hasRoom 57 = .ok (.iinc 7 1, 3) := by decide +kernel
theorem V.dX17_hasRoom_60 : decode cX17_hasRoom 60 = .ok (.goto (-24), 3) := by decide +kernel
theorem V.dX17_hasRoom_63 : decode cX17_hasRoom 63 = .ok (.lconst 0, 1) := by decide +kernel
theorem V.dX17_hasRoom_64 : decode cX17_hasRoom 64 = .ok (.lstore 7, 2) := by decide +kernel
theorem V.dX17_hasRoom_66 : decode cX17_hasRoom 66 = .ok (.iconst 0, 1) := by decide +kernel
theorem V.dX17_hasRoom_67 : decode cX17_hasRoom 67 = .ok (.istore 9, 2) := by decide +kernel
theorem V.dX17_hasRoom_69 : decode cX17_hasRoom 69 = .ok (.iload 9, 2) := by decide +kernel
theorem V.dX17_hasRoom_71 : decode cX17_hasRoom 71 = .ok (.aload_n 1, 1) := by decide +kernel
theorem V.dX17_hasRoom_72 : decode cX17_hasRoom 72 = .ok (.getfield 481, 3) := by decide +kernel
theorem V.dX17_hasRoom_75 : decode cX17_hasRoom 75 = .ok (.if_icmp .ge 22, 3) := by decide +kernel
theorem V.dX17_hasRoom_78 : decode cX17_hasRoom 78 = .ok (.lload 7, 2) := by decide +kernel
theorem V.dX17_hasRoom_80 : decode cX17_hasRoom 80 = .ok (.aload_n 1, 1) := by decide +kernel
theorem V.dX17_hasRoom_81 : decode cX17_hasRoom 81 = .ok (.getfield 507, 3) := by decide +kernel
theorem V.dX17_hasRoom_84 : decode cX17_hasRoom 84 = .ok (.iload 9, 2) := by decide +kernel
theorem V.dX17_hasRoom_86 : decode cX17_hasRoom 86 = .ok (.iaload, 1) := by decide +kernel
theorem V.dX17_hasRoom_87 : decode cX17_hasRoom 87 = .ok (.i2l, 1) := by decide +kernel
theorem V.dX17_hasRoom_88 : decode cX17_hasRoom 88 = .ok (.ladd, 1) := by decide +kernel
theorem V.dX17_hasRoom_89 : decode cX17_hasRoom 89 = .ok (.lstore 7, 2) := by decide +kernel
theorem V.dX17_hasRoom_91 : decode cX17_hasRoom 91 = .ok (.iinc 9 1, 3) := by decide +kernel
theorem V.dX17_hasRoom_94 : decode cX17_hasRoom 94 = .ok (.goto (-25), 3) := by decide +kernel
theorem V.dX17_hasRoom_97 : decode cX17_hasRoom 97 = .ok (.aload_n 0, 1) := by decide +kernel
theorem V.dX17_hasRoom_98 : decode cX17_hasRoom 98 = .ok (.getfield 977, 3) := by decide +kernel
theorem V.dX17_hasRoom_101 : decode cX17_hasRoom 101 = .ok (.iload_n 2, 1) := by decide +kernel
theorem V.dX17_hasRoom_102 : decode cX17_hasRoom 102 = .ok (.iadd, 1) := by decide +kernel
theorem V.dX17_hasRoom_103 : decode cX17_hasRoom 103 = .ok (.aload_n 1, 1) := by decide +kernel
theorem V.dX17_hasRoom_104 : decode cX17_hasRoom 104 = .ok (.getfield 426, 3) := by decide +kernel
theorem V.dX17_hasRoom_107 : decode cX17_hasRoom 107 = .ok (.iadd, 1) := by decide +kernel
theorem V.dX17_hasRoom_108 : decode cX17_hasRoom 108 = .ok (.sipush 512, 3) := by decide +kernel
theorem V.dX17_hasRoom_111 : decode cX17_hasRoom 111 = .ok (.if_icmp .gt 50, 3) := by decide +kernel
theorem V.dX17_hasRoom_114 : decode cX17_hasRoom 114 = .ok (.aload_n 0, 1) := by decide +kernel
theorem V.dX17_hasRoom_115 : decode cX17_hasRoom 115 = .ok (.getfield 978, 3) := by decide +kernel
theorem V.dX17_hasRoom_118 : decode cX17_hasRoom 118 = .ok (.aload_n 1, 1) := by decide +kernel
theorem V.dX17_hasRoom_119 : decode cX17_hasRoom 119 = .ok (.getfield 432, 3) := by decide +kernel
theorem V.dX17_hasRoom_122 : decode cX17_hasRoom 122 = .ok (.iadd, 1) := by decide +kernel
theorem V.dX17_hasRoom_123 : decode cX17_hasRoom 123 = .ok (.bipush 32, 2) := by decide +kernel
theorem V.dX17_hasRoom_125 : decode cX17_hasRoom 125 = .ok (.if_icmp .gt 36, 3) := by decide +kernel
theorem V.dX17_hasRoom_128 : decode cX17_hasRoom 128 = .ok (.aload_n 0, 1) := by decide +kernel
theorem V.dX17_hasRoom_129 : decode cX17_hasRoom 129 = .ok (.getfield 979, 3) := by decide +kernel
theorem V.dX17_hasRoom_132 : decode cX17_hasRoom 132 = .ok (.aload_n 1, 1) := by decide +kernel
theorem V.dX17_hasRoom_133 : decode cX17_hasRoom 133 = .ok (.getfield 444, 3) := by decide +kernel
theorem V.dX17_hasRoom_136 : decode cX17_hasRoom 136 = .ok (.iadd, 1) := by decide +kernel
theorem V.dX17_hasRoom_137 : decode cX17_hasRoom 137 = .ok (.bipush 16, 2) := by decide +kernel
theorem V.dX17_hasRoom_139 : decode cX17_hasRoom 139 = .ok (.if_icmp .gt 22, 3) := by decide +kernel
theorem V.dX17_hasRoom_142 : decode cX17_hasRoom 142 = .ok (.aload_n 0, 1) := by decide +kernel
theorem V.dX17_hasRoom_143 : decode cX17_hasRoom 143 = .ok (.getfield 980, 3) := by decide +kernel
theorem V.dX17_hasRoom_146 : decode cX17_hasRoom 146 = .ok (.aload_n 1, 1) := by decide +kernel
theorem V.dX17_hasRoom_147 : decode cX17_hasRoom 147 = .ok (.getfield 453, 3) := by decide +kernel
theorem V.dX17_hasRoom_150 : decode cX17_hasRoom 150 = .ok (.iadd, 1) := by decide +kernel
theorem V.dX17_hasRoom_151 : decode cX17_hasRoom 151 = .ok (.sipush 256, 3) := by decide +kernel
theorem V.dX17_hasRoom_154 : decode cX17_hasRoom 154 = .ok (.if_icmp .gt 7, 3) := by decide +kernel
theorem V.dX17_hasRoom_157 : decode cX17_hasRoom 157 = .ok (.iconst 1, 1) := by decide +kernel
theorem V.dX17_hasRoom_158 : decode cX17_hasRoom 158 = .ok (.goto 4, 3) := by decide +kernel
theorem V.dX17_hasRoom_161 : decode cX17_hasRoom 161 = .ok (.iconst 0, 1) := by decide +kernel
theorem V.dX17_hasRoom_162 : decode cX17_hasRoom 162 = .ok (.istore 9, 2) := by decide +kernel
theorem V.dX17_hasRoom_164 : decode cX17_hasRoom 164 = .ok (.iload 9, 2) := by decide +kernel
theorem V.dX17_hasRoom_166 : decode cX17_hasRoom 166 = .ok (.ifCond .eq 52, 3) := by decide +kernel
theorem V.dX17_hasRoom_169 : decode cX17_hasRoom 169 = .ok (.aload_n 0, 1) := by decide +kernel
theorem V.dX17_hasRoom_170 : decode cX17_hasRoom 170 = .ok (.getfield 949, 3) := by decide +kernel
theorem V.dX17_hasRoom_173 : decode cX17_hasRoom 173 = .ok (.bipush 16, 2) := by decide +kernel
theorem V.dX17_hasRoom_175 : decode cX17_hasRoom 175 = .ok (.if_icmp .ge 43, 3) := by decide +kernel
theorem V.dX17_hasRoom_178 : decode cX17_hasRoom 178 = .ok (.lload_n 3, 1) := by decide +kernel
theorem V.dX17_hasRoom_179 : decode cX17_hasRoom 179 = .ok (.aload_n 0, 1) := by decide +kernel
theorem V.dX17_hasRoom_180 : decode cX17_hasRoom 180 = .ok (.getfield 89, 3) := by decide +kernel
theorem V.dX17_hasRoom_183 : decode cX17_hasRoom 183 = .ok (.i2l, 1) := by decide +kernel
theorem V.dX17_hasRoom_184 : decode cX17_hasRoom 184 = .ok (.lcmp, 1) := by decide +kernel
theorem V.dX17_hasRoom_185 : decode cX17_hasRoom 185 = .ok (.ifCond .gt 33, 3) := by decide +kernel
theorem V.dX17_hasRoom_188 : decode cX17_hasRoom 188 = .ok (.lload 5, 2) := by decide +kernel
theorem V.dX17_hasRoom_190 : decode cX17_hasRoom 190 = .ok (.aload_n 0, 1) := by decide +kernel
theorem V.dX17_hasRoom_191 : decode cX17_hasRoom 191 = .ok (.getfield 106, 3) := by decide +kernel
theorem V.dX17_hasRoom_194 : decode cX17_hasRoom 194 = .ok (.i2l, 1) := by decide +kernel
theorem V.dX17_hasRoom_195 : decode cX17_hasRoom 195 = .ok (.lcmp, 1) := by decide +kernel
theorem V.dX17_hasRoom_196 : decode cX17_hasRoom 196 = .ok (.ifCond .gt 22, 3) := by decide +kernel
theorem V.dX17_hasRoom_199 : decode cX17_hasRoom 199 = .ok (.aload_n 0, 1) := by decide +kernel
theorem V.dX17_hasRoom_200 : decode cX17_hasRoom 200 = .ok (.getfield 981, 3) := by decide +kernel
theorem V.dX17_hasRoom_203 : decode cX17_hasRoom 203 = .ok (.i2l, 1) := by decide +kernel
theorem V.dX17_hasRoom_204 : decode cX17_hasRoom 204 = .ok (.lload 7, 2) := by decide +kernel
theorem V.dX17_hasRoom_206 : decode cX17_hasRoom 206 = .ok (.ladd, 1) := by decide +kernel
theorem V.dX17_hasRoom_207 : decode cX17_hasRoom 207 = .ok (.ldc2_w 984, 3) := by decide +kernel
theorem V.dX17_hasRoom_210 : decode cX17_hasRoom 210 = .ok (.lcmp, 1) := by decide +kernel
theorem V.dX17_hasRoom_211 : decode cX17_hasRoom 211 = .ok (.ifCond .gt 7, 3) := by decide +kernel
theorem V.dX17_hasRoom_214 : decode cX17_hasRoom 214 = .ok (.iconst 1, 1) := by decide +kernel
theorem V.dX17_hasRoom_215 : decode cX17_hasRoom 215 = .ok (.goto 4, 3) := by decide +kernel
theorem V.dX17_hasRoom_218 : decode cX17_hasRoom 218 = .ok (.iconst 0, 1) := by decide +kernel
theorem V.dX17_hasRoom_219 : decode cX17_hasRoom 219 = .ok (.ireturn, 1) := by decide +kernel
theorem V.fdX17_977 : FD RX17 977 17 36 0 := ⟨(RX17, TX17, 101), tyX17, rfl, rfl, in_X17, by decide, Or.inl q3072, rfl⟩
theorem V.fdX17_978 : FD RX17 978 17 46 0 := ⟨(RX17, TX17, 101), tyX17, rfl, rfl, in_X17, by decide, Or.inl q3082, rfl⟩
theorem V.fdX17_979 : FD RX17 979 17 52 0 := ⟨(RX17, TX17, 101), tyX17, rfl, rfl, in_X17, by decide, Or.inl q3088, rfl⟩
theorem V.fdX17_980 : FD RX17 980 17 58 0 := ⟨(RX17, TX17, 101), tyX17, rfl, rfl, in_X17, by decide, Or.inl q3094, rfl⟩
theorem V.fdX17_89 : FD RX17 89 17 47 0 := ⟨(RX17, TX17, 101), tyX17, rfl, rfl, in_X17, by decide, Or.inl q3083, rfl⟩
theorem V.fdX17_106 : FD RX17 106 17 53 0 := ⟨(RX17, TX17, 101), tyX17, rfl, rfl, in_X17, by decide, Or.inl q3089, rfl⟩
theorem V.fdX17_981 : FD RX17 981 17 71 0 := ⟨(RX17, TX17, 101), tyX17, rfl, rfl, in_X17, by decide, Or.inl q3107, rfl⟩
/-! ModuleEngineModel.hasRoom(LModuleEngineModel$Plan;I)Z -/
def V.Mdl_hasRoom_p162  (σ : HS) (x0 : Nat) (x3 : Int64) (x5 : Int64) (x7 : Int64) (s0 : Int32) : Option (Int32 × HS) :=
  if s0 = 0 then (
    some ((0 : Int32), σ))
  else (
    ck (tg σ x0 = 18) <|
    if (16 : Int32) ≤ (gI σ x0 62) then (
      some ((0 : Int32), σ))
    else (
      ck (tg σ x0 = 18) <|
      if ((gI σ x0 47).toInt64) < x3 then (
        some ((0 : Int32), σ))
      else (
        ck (tg σ x0 = 18) <|
        if ((gI σ x0 53).toInt64) < x5 then (
          some ((0 : Int32), σ))
        else (
          ck (tg σ x0 = 18) <|
          if (2048 : Int64) < (((gI σ x0 71).toInt64) + x7) then (
            some ((0 : Int32), σ))
          else (
            some ((1 : Int32), σ))))))
theorem V.gX17_hasRoom_p162 {X : CX}  (σ : HS) (x0 : Nat) (x3 : Int64) (x5 : Int64) (x7 : Int64) (s0 : Int32) : G X RX17 "hasRoom" cX17_hasRoom 10 (some .boolean) 0 0 enI 162 [(0, av x0), (3, jv x3), (5, jv x5), (7, jv x7)] [iv s0] σ (Mdl_hasRoom_p162 σ x0 x3 x5 x7 s0) := by
  unfold Mdl_hasRoom_p162
  refine g_istore dX17_hasRoom_162 (by decide) rfl ?_
  refine g_iload 0 dX17_hasRoom_164 rfl ?_
  refine g_if_eq 218 dX17_hasRoom_166 (by decide) ?_ ?_
  · refine g_iconst (v := 0) dX17_hasRoom_218 (by decide) ?_
    exact g_zreturn rfl (by decide +kernel) dX17_hasRoom_219
  · refine g_aload_n 0 1 dX17_hasRoom_169 rfl rfl ?_
    refine g_getI fdX17_949 dX17_hasRoom_170 ?_
    refine g_bipush (v := 16) dX17_hasRoom_173 (by decide) ?_
    refine g_icmp_ge 218 dX17_hasRoom_175 (by decide) ?_ ?_
    · refine g_iconst (v := 0) dX17_hasRoom_218 (by decide) ?_
      exact g_zreturn rfl (by decide +kernel) dX17_hasRoom_219
    · refine g_lload_n 3 2 dX17_hasRoom_178 rfl rfl ?_
      refine g_aload_n 0 1 dX17_hasRoom_179 rfl rfl ?_
      refine g_getI fdX17_89 dX17_hasRoom_180 ?_
      refine g_i2l dX17_hasRoom_183 ?_
      refine g_lcmp_gt 218 dX17_hasRoom_184 dX17_hasRoom_185 (by decide) ?_ ?_
      · refine g_iconst (v := 0) dX17_hasRoom_218 (by decide) ?_
        exact g_zreturn rfl (by decide +kernel) dX17_hasRoom_219
      · refine g_lload 3 dX17_hasRoom_188 rfl ?_
        refine g_aload_n 0 1 dX17_hasRoom_190 rfl rfl ?_
        refine g_getI fdX17_106 dX17_hasRoom_191 ?_
        refine g_i2l dX17_hasRoom_194 ?_
        refine g_lcmp_gt 218 dX17_hasRoom_195 dX17_hasRoom_196 (by decide) ?_ ?_
        · refine g_iconst (v := 0) dX17_hasRoom_218 (by decide) ?_
          exact g_zreturn rfl (by decide +kernel) dX17_hasRoom_219
        · refine g_aload_n 0 1 dX17_hasRoom_199 rfl rfl ?_
          refine g_getI fdX17_981 dX17_hasRoom_200 ?_
          refine g_i2l dX17_hasRoom_203 ?_
          refine g_lload 4 dX17_hasRoom_204 rfl ?_
          refine g_ladd dX17_hasRoom_206 ?_
          refine g_ldc2 q4041 dX17_hasRoom_207 ?_
          refine g_lcmp_gt 218 dX17_hasRoom_210 dX17_hasRoom_211 (by decide) ?_ ?_
          · refine g_iconst (v := 0) dX17_hasRoom_218 (by decide) ?_
            exact g_zreturn rfl (by decide +kernel) dX17_hasRoom_219
          · refine g_iconst (v := 1) dX17_hasRoom_214 (by decide) ?_
            refine g_goto 219 dX17_hasRoom_215 (by decide) ?_
            exact g_zreturn rfl (by decide +kernel) dX17_hasRoom_219
def V.Mdl_hasRoom_p161  (σ : HS) (x0 : Nat) (x3 : Int64) (x5 : Int64) (x7 : Int64) : Option (Int32 × HS) :=
  Mdl_hasRoom_p162 σ x0 x3 x5 x7 (0 : Int32)
theorem V.gX17_hasRoom_p161 {X : CX}  (σ : HS) (x0 : Nat) (x3 : Int64) (x5 : Int64) (x7 : Int64) : G X RX17 "hasRoom" cX17_hasRoom 10 (some .boolean) 0 0 enI 161 [(0, av x0), (3, jv x3), (5, jv x5), (7, jv x7)] [] σ (Mdl_hasRoom_p161 σ x0 x3 x5 x7) := by
  unfold Mdl_hasRoom_p161
  refine g_iconst (v := 0) dX17_hasRoom_161 (by decide) ?_
  exact gX17_hasRoom_p162 _ _ _ _ _ _
def V.Mdl_hasRoom_p69  : Nat → HS → Nat → Nat → Int32 → Int64 → Int64 → Int64 → Int32 → Option (Int32 × HS)
  | 0, _, _, _, _, _, _, _, _ => none
  | n + 1, σ, x0, x1, x2, x3, x5, x7, x9 =>
    ck (tg σ x1 = 21) <|
    if (gI σ x1 34) ≤ x9 then (
      ck (tg σ x0 = 18) <|
      ck (tg σ x1 = 21) <|
      if (512 : Int32) < (((gI σ x0 36) + x2) + (gI σ x1 15)) then (
        Mdl_hasRoom_p161 σ x0 x3 x5 x7)
      else (
        ck (tg σ x0 = 18) <|
        ck (tg σ x1 = 21) <|
        if (32 : Int32) < ((gI σ x0 46) + (gI σ x1 17)) then (
          Mdl_hasRoom_p161 σ x0 x3 x5 x7)
        else (
          ck (tg σ x0 = 18) <|
          ck (tg σ x1 = 21) <|
          if (16 : Int32) < ((gI σ x0 52) + (gI σ x1 21)) then (
            Mdl_hasRoom_p161 σ x0 x3 x5 x7)
          else (
            ck (tg σ x0 = 18) <|
            ck (tg σ x1 = 21) <|
            if (256 : Int32) < ((gI σ x0 58) + (gI σ x1 24)) then (
              Mdl_hasRoom_p161 σ x0 x3 x5 x7)
            else (
              Mdl_hasRoom_p162 σ x0 x3 x5 x7 (1 : Int32))))))
    else (
      ck (tg σ x1 = 21) <|
      ck (tg σ (gR σ x1 40) = 100 ∧ inb x9 (ln σ (gR σ x1 40))) <|
      bn (x7 + ((gI σ (gR σ x1 40) (ix x9)).toInt64)) fun y1 =>
      bn (x9 + (1 : Int32)) fun y2 =>
      Mdl_hasRoom_p69 n σ x0 x1 x2 x3 x5 y1 y2)
theorem V.gX17_hasRoom_p69 {X : CX}  : ∀ (n : Nat) (σ : HS) (x0 : Nat) (x1 : Nat) (x2 : Int32) (x3 : Int64) (x5 : Int64) (x7 : Int64) (x9 : Int32), G X RX17 "hasRoom" cX17_hasRoom 10 (some .boolean) 0 0 enI 69 [(0, av x0), (1, av x1), (2, iv x2), (3, jv x3), (5, jv x5), (7, jv x7), (9, iv x9)] [] σ (Mdl_hasRoom_p69 n σ x0 x1 x2 x3 x5 x7 x9)
  | 0, σ, x0, x1, x2, x3, x5, x7, x9 => by rw [Mdl_hasRoom_p69]; exact G.nul
  | n + 1, σ, x0, x1, x2, x3, x5, x7, x9 => by
    rw [Mdl_hasRoom_p69]
    refine g_iload 6 dX17_hasRoom_69 rfl ?_
    refine g_aload_n 1 1 dX17_hasRoom_71 rfl rfl ?_
    refine g_getI fdX17_481 dX17_hasRoom_72 ?_
    refine g_icmp_ge 97 dX17_hasRoom_75 (by decide) ?_ ?_
    · refine g_aload_n 0 0 dX17_hasRoom_97 rfl rfl ?_
      refine g_getI fdX17_977 dX17_hasRoom_98 ?_
      refine g_iload_n 2 2 dX17_hasRoom_101 rfl rfl ?_
      refine g_iadd dX17_hasRoom_102 ?_
      refine g_aload_n 1 1 dX17_hasRoom_103 rfl rfl ?_
      refine g_getI fdX17_426 dX17_hasRoom_104 ?_
      refine g_iadd dX17_hasRoom_107 ?_
      refine g_sipush (v := 512) dX17_hasRoom_108 (by decide) ?_
      refine g_icmp_gt 161 dX17_hasRoom_111 (by decide) ?_ ?_
      · refine G.sub [0, 3, 4, 5] rfl ?_
        exact gX17_hasRoom_p161 _ _ _ _ _
      · refine g_aload_n 0 0 dX17_hasRoom_114 rfl rfl ?_
        refine g_getI fdX17_978 dX17_hasRoom_115 ?_
        refine g_aload_n 1 1 dX17_hasRoom_118 rfl rfl ?_
        refine g_getI fdX17_432 dX17_hasRoom_119 ?_
        refine g_iadd dX17_hasRoom_122 ?_
        refine g_bipush (v := 32) dX17_hasRoom_123 (by decide) ?_
        refine g_icmp_gt 161 dX17_hasRoom_125 (by decide) ?_ ?_
        · refine G.sub [0, 3, 4, 5] rfl ?_
          exact gX17_hasRoom_p161 _ _ _ _ _
        · refine g_aload_n 0 0 dX17_hasRoom_128 rfl rfl ?_
          refine g_getI fdX17_979 dX17_hasRoom_129 ?_
          refine g_aload_n 1 1 dX17_hasRoom_132 rfl rfl ?_
          refine g_getI fdX17_444 dX17_hasRoom_133 ?_
          refine g_iadd dX17_hasRoom_136 ?_
          refine g_bipush (v := 16) dX17_hasRoom_137 (by decide) ?_
          refine g_icmp_gt 161 dX17_hasRoom_139 (by decide) ?_ ?_
          · refine G.sub [0, 3, 4, 5] rfl ?_
            exact gX17_hasRoom_p161 _ _ _ _ _
          · refine g_aload_n 0 0 dX17_hasRoom_142 rfl rfl ?_
            refine g_getI fdX17_980 dX17_hasRoom_143 ?_
            refine g_aload_n 1 1 dX17_hasRoom_146 rfl rfl ?_
            refine g_getI fdX17_453 dX17_hasRoom_147 ?_
            refine g_iadd dX17_hasRoom_150 ?_
            refine g_sipush (v := 256) dX17_hasRoom_151 (by decide) ?_
            refine g_icmp_gt 161 dX17_hasRoom_154 (by decide) ?_ ?_
            · refine G.sub [0, 3, 4, 5] rfl ?_
              exact gX17_hasRoom_p161 _ _ _ _ _
            · refine g_iconst (v := 1) dX17_hasRoom_157 (by decide) ?_
              refine g_goto 162 dX17_hasRoom_158 (by decide) ?_
              refine G.sub [0, 3, 4, 5] rfl ?_
              exact gX17_hasRoom_p162 _ _ _ _ _ _
    · refine g_lload 5 dX17_hasRoom_78 rfl ?_
      refine g_aload_n 1 1 dX17_hasRoom_80 rfl rfl ?_
      refine g_getR fdX17_507 dX17_hasRoom_81 ?_
      refine g_iload 6 dX17_hasRoom_84 rfl ?_
      refine g_iaload dX17_hasRoom_86 ?_
      refine g_i2l dX17_hasRoom_87 ?_
      refine g_ladd dX17_hasRoom_88 ?_
      refine g_nmJ (fun y1 => ?_)
      refine g_lstore dX17_hasRoom_89 (by decide) rfl ?_
      refine g_iincB (w := 1) 6 dX17_hasRoom_91 rfl (by decide) (by decide) (fun _ => rfl) (fun y2 => ?_)
      refine g_goto 69 dX17_hasRoom_94 (by decide) ?_
      refine G.sub [2, 3, 4, 5, 6, 1, 0] rfl ?_
      exact gX17_hasRoom_p69 n _ _ _ _ _ _ _ _
def V.Mdl_hasRoom_p36  : Nat → HS → Nat → Nat → Int32 → Int64 → Int64 → Int32 → Option (Int32 × HS)
  | 0, _, _, _, _, _, _, _ => none
  | n + 1, σ, x0, x1, x2, x3, x5, x7 =>
    ck (tg σ x1 = 21) <|
    if (gI σ x1 21) ≤ x7 then (
      Mdl_hasRoom_p69 FU σ x0 x1 x2 x3 x5 (0 : Int64) (0 : Int32))
    else (
      ck (tg σ x1 = 21) <|
      ck (tg σ (gR σ x1 22) = 101 ∧ inb x7 (ln σ (gR σ x1 22))) <|
      bn (x5 + (gJ σ (gR σ x1 22) (ix x7))) fun y1 =>
      bn (x7 + (1 : Int32)) fun y2 =>
      Mdl_hasRoom_p36 n σ x0 x1 x2 x3 y1 y2)
theorem V.gX17_hasRoom_p36 {X : CX}  : ∀ (n : Nat) (σ : HS) (x0 : Nat) (x1 : Nat) (x2 : Int32) (x3 : Int64) (x5 : Int64) (x7 : Int32), G X RX17 "hasRoom" cX17_hasRoom 10 (some .boolean) 0 0 enI 36 [(0, av x0), (1, av x1), (2, iv x2), (3, jv x3), (5, jv x5), (7, iv x7)] [] σ (Mdl_hasRoom_p36 n σ x0 x1 x2 x3 x5 x7)
  | 0, σ, x0, x1, x2, x3, x5, x7 => by rw [Mdl_hasRoom_p36]; exact G.nul
  | n + 1, σ, x0, x1, x2, x3, x5, x7 => by
    rw [Mdl_hasRoom_p36]
    refine g_iload 5 dX17_hasRoom_36 rfl ?_
    refine g_aload_n 1 1 dX17_hasRoom_38 rfl rfl ?_
    refine g_getI fdX17_444 dX17_hasRoom_39 ?_
    refine g_icmp_ge 63 dX17_hasRoom_42 (by decide) ?_ ?_
    · refine g_lconst (v := 0) dX17_hasRoom_63 (by decide) ?_
      refine g_lstore dX17_hasRoom_64 (by decide) rfl ?_
      refine g_iconst (v := 0) dX17_hasRoom_66 (by decide) ?_
      refine g_istore dX17_hasRoom_67 (by decide) rfl ?_
      refine G.sub [2, 3, 4, 5, 6, 1, 0] rfl ?_
      exact gX17_hasRoom_p69 FU _ _ _ _ _ _ _ _
    · refine g_lload 4 dX17_hasRoom_45 rfl ?_
      refine g_aload_n 1 1 dX17_hasRoom_47 rfl rfl ?_
      refine g_getR fdX17_447 dX17_hasRoom_48 ?_
      refine g_iload 5 dX17_hasRoom_51 rfl ?_
      refine g_laload dX17_hasRoom_53 ?_
      refine g_ladd dX17_hasRoom_54 ?_
      refine g_nmJ (fun y1 => ?_)
      refine g_lstore dX17_hasRoom_55 (by decide) rfl ?_
      refine g_iincB (w := 1) 5 dX17_hasRoom_57 rfl (by decide) (by decide) (fun _ => rfl) (fun y2 => ?_)
      refine g_goto 36 dX17_hasRoom_60 (by decide) ?_
      refine G.sub [2, 3, 4, 5, 1, 0] rfl ?_
      exact gX17_hasRoom_p36 n _ _ _ _ _ _ _
def V.Mdl_hasRoom_p5  : Nat → HS → Nat → Nat → Int32 → Int64 → Int32 → Option (Int32 × HS)
  | 0, _, _, _, _, _, _ => none
  | n + 1, σ, x0, x1, x2, x3, x5 =>
    ck (tg σ x1 = 21) <|
    if (gI σ x1 17) ≤ x5 then (
      Mdl_hasRoom_p36 FU σ x0 x1 x2 x3 (0 : Int64) (0 : Int32))
    else (
      ck (tg σ x1 = 21) <|
      ck (tg σ (gR σ x1 19) = 101 ∧ inb x5 (ln σ (gR σ x1 19))) <|
      bn (x3 + (gJ σ (gR σ x1 19) (ix x5))) fun y1 =>
      bn (x5 + (1 : Int32)) fun y2 =>
      Mdl_hasRoom_p5 n σ x0 x1 x2 y1 y2)
theorem V.gX17_hasRoom_p5 {X : CX}  : ∀ (n : Nat) (σ : HS) (x0 : Nat) (x1 : Nat) (x2 : Int32) (x3 : Int64) (x5 : Int32), G X RX17 "hasRoom" cX17_hasRoom 10 (some .boolean) 0 0 enI 5 [(0, av x0), (1, av x1), (2, iv x2), (3, jv x3), (5, iv x5)] [] σ (Mdl_hasRoom_p5 n σ x0 x1 x2 x3 x5)
  | 0, σ, x0, x1, x2, x3, x5 => by rw [Mdl_hasRoom_p5]; exact G.nul
  | n + 1, σ, x0, x1, x2, x3, x5 => by
    rw [Mdl_hasRoom_p5]
    refine g_iload 4 dX17_hasRoom_5 rfl ?_
    refine g_aload_n 1 1 dX17_hasRoom_7 rfl rfl ?_
    refine g_getI fdX17_432 dX17_hasRoom_8 ?_
    refine g_icmp_ge 30 dX17_hasRoom_11 (by decide) ?_ ?_
    · refine g_lconst (v := 0) dX17_hasRoom_30 (by decide) ?_
      refine g_lstore dX17_hasRoom_31 (by decide) rfl ?_
      refine g_iconst (v := 0) dX17_hasRoom_33 (by decide) ?_
      refine g_istore dX17_hasRoom_34 (by decide) rfl ?_
      refine G.sub [2, 3, 4, 5, 1, 0] rfl ?_
      exact gX17_hasRoom_p36 FU _ _ _ _ _ _ _
    · refine g_lload_n 3 3 dX17_hasRoom_14 rfl rfl ?_
      refine g_aload_n 1 1 dX17_hasRoom_15 rfl rfl ?_
      refine g_getR fdX17_438 dX17_hasRoom_16 ?_
      refine g_iload 4 dX17_hasRoom_19 rfl ?_
      refine g_laload dX17_hasRoom_21 ?_
      refine g_ladd dX17_hasRoom_22 ?_
      refine g_nmJ (fun y1 => ?_)
      refine g_lstore_n 3 dX17_hasRoom_23 rfl (by decide) rfl ?_
      refine g_iincB (w := 1) 4 dX17_hasRoom_24 rfl (by decide) (by decide) (fun _ => rfl) (fun y2 => ?_)
      refine g_goto 5 dX17_hasRoom_27 (by decide) ?_
      refine G.sub [2, 3, 4, 1, 0] rfl ?_
      exact gX17_hasRoom_p5 n _ _ _ _ _ _
def V.Mdl_hasRoom (σ : HS) (x0 : Nat) (x1 : Nat) (x2 : Int32) : Option (Int32 × HS) :=
  Mdl_hasRoom_p5 FU σ x0 x1 x2 (0 : Int64) (0 : Int32)
theorem V.ctX17_hasRoom (x0 : Nat) (x1 : Nat) (x2 : Int32) : Ct yX17_hasRoom  cX17_hasRoom 10 (some .boolean) 0 0 eI [av x0, av x1, iv x2] (fun σ => Mdl_hasRoom σ x0 x1 x2) := by
  refine Ct.of (own := RX17) (nm := "hasRoom") (desc := "(LModuleEngineModel$Plan;I)Z") rfl (by decide) (Nat.le_of_ble_eq_true rfl) (by decide) (fun X σ => ?_)
  show G X RX17 "hasRoom" cX17_hasRoom 10 (some .boolean) 0 0 enI 0 [(0, av x0), (1, av x1), (2, iv x2)] [] σ (Mdl_hasRoom σ x0 x1 x2)
  unfold Mdl_hasRoom
  refine g_lconst (v := 0) dX17_hasRoom_0 (by decide) ?_
  refine g_lstore_n 3 dX17_hasRoom_1 rfl (by decide) rfl ?_
  refine g_iconst (v := 0) dX17_hasRoom_2 (by decide) ?_
  refine g_istore dX17_hasRoom_3 (by decide) rfl ?_
  refine G.sub [2, 3, 4, 1, 0] rfl ?_
  exact gX17_hasRoom_p5 FU _ _ _ _ _ _
theorem V.dX17_newFunction_0 : decode cX17_newFunction 0 = .ok (.aload_n 0, 1) := by decide +kernel
theorem V.dX17_newFunction_1 : decode cX17_newFunction 1 = .ok (.getfield 68, 3) := by decide +kernel
theorem V.dX17_newFunction_4 : decode cX17_newFunction 4 = .ok (.aload_n 0, 1) := by decide +kernel
theorem V.dX17_newFunction_5 : decode cX17_newFunction 5 = .ok (.getfield 977, 3) := by decide +kernel
theorem V.dX17_newFunction_8 : decode cX17_newFunction 8 = .ok (.iload_n 1, 1) := by decide +kernel
theorem V.dX17_newFunction_9 : decode cX17_newFunction 9 = .ok (.iastore, 1) := by decide +kernel
theorem V.dX17_newFunction_10 : decode cX17_newFunction 10 = .ok (.aload_n 0, 1) := by decide +kernel
theorem V.dX17_newFunction_11 : decode cX17_newFunction 11 = .ok (.getfield 71, 3) := by decide +kernel
theorem V.dX17_newFunction_14 : decode cX17_newFunction 14 = .ok (.aload_n 0, 1) := by decide +kernel
theorem V.dX17_newFunction_15 : decode cX17_newFunction 15 = .ok (.getfield 977, 3) := by decide +kernel
theorem V.dX17_newFunction_18 : decode cX17_newFunction 18 = .ok (.iload_n 2, 1) := by decide +kernel
theorem V.dX17_newFunction_19 : decode cX17_newFunction 19 = .ok (.iastore, 1) := by decide +kernel
theorem V.dX17_newFunction_20 : decode cX17_newFunction 20 = .ok (.aload_n 0, 1) := by decide +kernel
theorem V.dX17_newFunction_21 : decode cX17_newFunction 21 = .ok (.getfield 74, 3) := by decide +kernel
theorem V.dX17_newFunction_24 : decode cX17_newFunction 24 = .ok (.aload_n 0, 1) := by decide +kernel
theorem V.dX17_newFunction_25 : decode cX17_newFunction 25 = .ok (.getfield 977, 3) := by decide +kernel
theorem V.dX17_newFunction_28 : decode cX17_newFunction 28 = .ok (.iload_n 3, 1) := by decide +kernel
theorem V.dX17_newFunction_29 : decode cX17_newFunction 29 = .ok (.iastore, 1) := by decide +kernel
theorem V.dX17_newFunction_30 : decode cX17_newFunction 30 = .ok (.aload_n 0, 1) := by decide +kernel
theorem V.dX17_newFunction_31 : decode cX17_newFunction 31 = .ok (.getfield 77, 3) := by decide +kernel
theorem V.dX17_newFunction_34 : decode cX17_newFunction 34 = .ok (.aload_n 0, 1) := by decide +kernel
theorem V.dX17_newFunction_35 : decode cX17_newFunction 35 = .ok (.getfield 977, 3) := by decide +kernel
theorem V.dX17_newFunction_38 : decode cX17_newFunction 38 = .ok (.iload 4, 2) := by decide +kernel
theorem V.dX17_newFunction_40 : decode cX17_newFunction 40 = .ok (.iastore, 1) := by decide +kernel
theorem V.dX17_newFunction_41 : decode cX17_newFunction 41 = .ok (.aload_n 0, 1) := by decide +kernel
theorem V.dX17_newFunction_42 : decode cX17_newFunction 42 = .ok (.getfield 80, 3) := by decide +kernel
theorem V.dX17_newFunction_45 : decode cX17_newFunction 45 = .ok (.aload_n 0, 1) := by decide +kernel
theorem V.dX17_newFunction_46 : decode cX17_newFunction 46 = .ok (.getfield 977, 3) := by decide +kernel
theorem V.dX17_newFunction_49 : decode cX17_newFunction 49 = .ok (.iload 5, 2) := by decide +kernel
theorem V.dX17_newFunction_51 : decode cX17_newFunction 51 = .ok (.iastore, 1) := by decide +kernel
theorem V.dX17_newFunction_52 : decode cX17_newFunction 52 = .ok (.aload_n 0, 1) := by decide +kernel
theorem V.dX17_newFunction_53 : decode cX17_newFunction 53 = .ok (.dup, 1) := by decide +kernel
theorem V.dX17_newFunction_54 : decode cX17_newFunction 54 = .ok (.getfield 977, 3) := by decide +kernel
theorem V.dX17_newFunction_57 : decode cX17_newFunction 57 = .ok (.iconst 1, 1) := by decide +kernel
theorem V.dX17_newFunction_58 : decode cX17_newFunction 58 = .ok (.iadd, 1) := by decide +kernel
theorem V.dX17_newFunction_59 : decode cX17_newFunction 59 = .ok (.putfield 977, 3) := by decide +kernel
theorem V.dX17_newFunction_62 : decode cX17_newFunction 62 = .ok (.aload_n 0, 1) := by decide +kernel
theorem V.dX17_newFunction_63 : decode cX17_newFunction 63 = .ok (.getfield 977, 3) := by decide +kernel
theorem V.dX17_newFunction_66 : decode cX17_newFunction 66 = .ok (.iconst 1, 1) := by decide +kernel
theorem V.dX17_newFunction_67 : decode cX17_newFunction 67 = .ok (.isub, 1) := by decide +kernel
theorem V.dX17_newFunction_68 : decode cX17_newFunction 68 = .ok (.ireturn, 1) := by decide +kernel
theorem V.fdX17_74 : FD RX17 74 17 39 2 := ⟨(RX17, TX17, 101), tyX17, rfl, rfl, in_X17, by decide, Or.inl q3075, rfl⟩
theorem V.fdX17_77 : FD RX17 77 17 40 2 := ⟨(RX17, TX17, 101), tyX17, rfl, rfl, in_X17, by decide, Or.inl q3076, rfl⟩
theorem V.fpX17_977 {nm : String} : FP RX17 nm 977 17 36 (.int) := ⟨(RX17, TX17, 101), tyX17, rfl, rfl, in_X17, by decide, tyX17_ok, nmX17, rfl, Or.inl ⟨rfl, Or.inl q3072⟩⟩
/-! ModuleEngineModel.newFunction(IIIII)I -/
def V.Mdl_newFunction (σ : HS) (x0 : Nat) (x1 : Int32) (x2 : Int32) (x3 : Int32) (x4 : Int32) (x5 : Int32) : Option (Int32 × HS) :=
  ck (tg σ x0 = 18) <|
  ck (tg σ x0 = 18) <|
  ck (tg σ (gR σ x0 37) = 100 ∧ inb (gI σ x0 36) (ln σ (gR σ x0 37))) <| bn (sI σ (gR σ x0 37) (ix (gI σ x0 36)) x1) fun σ1 =>
  ck (tg σ1 x0 = 18) <|
  ck (tg σ1 x0 = 18) <|
  ck (tg σ1 (gR σ1 x0 38) = 100 ∧ inb (gI σ1 x0 36) (ln σ1 (gR σ1 x0 38))) <| bn (sI σ1 (gR σ1 x0 38) (ix (gI σ1 x0 36)) x2) fun σ2 =>
  ck (tg σ2 x0 = 18) <|
  ck (tg σ2 x0 = 18) <|
  ck (tg σ2 (gR σ2 x0 39) = 100 ∧ inb (gI σ2 x0 36) (ln σ2 (gR σ2 x0 39))) <| bn (sI σ2 (gR σ2 x0 39) (ix (gI σ2 x0 36)) x3) fun σ3 =>
  ck (tg σ3 x0 = 18) <|
  ck (tg σ3 x0 = 18) <|
  ck (tg σ3 (gR σ3 x0 40) = 100 ∧ inb (gI σ3 x0 36) (ln σ3 (gR σ3 x0 40))) <| bn (sI σ3 (gR σ3 x0 40) (ix (gI σ3 x0 36)) x4) fun σ4 =>
  ck (tg σ4 x0 = 18) <|
  ck (tg σ4 x0 = 18) <|
  ck (tg σ4 (gR σ4 x0 41) = 100 ∧ inb (gI σ4 x0 36) (ln σ4 (gR σ4 x0 41))) <| bn (sI σ4 (gR σ4 x0 41) (ix (gI σ4 x0 36)) x5) fun σ5 =>
  ck (tg σ5 x0 = 18) <|
  ck (tg σ5 x0 = 18) <| bn (sI σ5 x0 36 ((gI σ5 x0 36) + (1 : Int32))) fun σ6 =>
  ck (tg σ6 x0 = 18) <|
  some ((gI σ6 x0 36) - (1 : Int32), σ6)
theorem V.ctX17_newFunction (x0 : Nat) (x1 : Int32) (x2 : Int32) (x3 : Int32) (x4 : Int32) (x5 : Int32) : Ct yX17_newFunction  cX17_newFunction 6 (some .int) 0 0 eI [av x0, iv x1, iv x2, iv x3, iv x4, iv x5] (fun σ => Mdl_newFunction σ x0 x1 x2 x3 x4 x5) := by
  refine Ct.of (own := RX17) (nm := "newFunction") (desc := "(IIIII)I") rfl (by decide) (Nat.le_of_ble_eq_true rfl) (by decide) (fun X σ => ?_)
  show G X RX17 "newFunction" cX17_newFunction 6 (some .int) 0 0 enI 0 [(0, av x0), (1, iv x1), (2, iv x2), (3, iv x3), (4, iv x4), (5, iv x5)] [] σ (Mdl_newFunction σ x0 x1 x2 x3 x4 x5)
  unfold Mdl_newFunction
  refine g_aload_n 0 0 dX17_newFunction_0 rfl rfl ?_
  refine g_getR fdX17_68 dX17_newFunction_1 ?_
  refine g_aload_n 0 0 dX17_newFunction_4 rfl rfl ?_
  refine g_getI fdX17_977 dX17_newFunction_5 ?_
  refine g_iload_n 1 1 dX17_newFunction_8 rfl rfl ?_
  refine g_iastore dX17_newFunction_9 (fun σ1 => ?_)
  refine g_aload_n 0 0 dX17_newFunction_10 rfl rfl ?_
  refine g_getR fdX17_71 dX17_newFunction_11 ?_
  refine g_aload_n 0 0 dX17_newFunction_14 rfl rfl ?_
  refine g_getI fdX17_977 dX17_newFunction_15 ?_
  refine g_iload_n 2 2 dX17_newFunction_18 rfl rfl ?_
  refine g_iastore dX17_newFunction_19 (fun σ2 => ?_)
  refine g_aload_n 0 0 dX17_newFunction_20 rfl rfl ?_
  refine g_getR fdX17_74 dX17_newFunction_21 ?_
  refine g_aload_n 0 0 dX17_newFunction_24 rfl rfl ?_
  refine g_getI fdX17_977 dX17_newFunction_25 ?_
  refine g_iload_n 3 3 dX17_newFunction_28 rfl rfl ?_
  refine g_iastore dX17_newFunction_29 (fun σ3 => ?_)
  refine g_aload_n 0 0 dX17_newFunction_30 rfl rfl ?_
  refine g_getR fdX17_77 dX17_newFunction_31 ?_
  refine g_aload_n 0 0 dX17_newFunction_34 rfl rfl ?_
  refine g_getI fdX17_977 dX17_newFunction_35 ?_
  refine g_iload 4 dX17_newFunction_38 rfl ?_
  refine g_iastore dX17_newFunction_40 (fun σ4 => ?_)
  refine g_aload_n 0 0 dX17_newFunction_41 rfl rfl ?_
  refine g_getR fdX17_80 dX17_newFunction_42 ?_
  refine g_aload_n 0 0 dX17_newFunction_45 rfl rfl ?_
  refine g_getI fdX17_977 dX17_newFunction_46 ?_
  refine g_iload 5 dX17_newFunction_49 rfl ?_
  refine g_iastore dX17_newFunction_51 (fun σ5 => ?_)
  refine g_aload_n 0 0 dX17_newFunction_52 rfl rfl ?_
  refine g_dup dX17_newFunction_53 rfl ?_
  refine g_getI fdX17_977 dX17_newFunction_54 ?_
  refine g_iconst (v := 1) dX17_newFunction_57 (by decide) ?_
  refine g_iadd dX17_newFunction_58 ?_
  refine g_putI fpX17_977 dX17_newFunction_59 (fun σ6 => ?_)
  refine g_aload_n 0 0 dX17_newFunction_62 rfl rfl ?_
  refine g_getI fdX17_977 dX17_newFunction_63 ?_
  refine g_iconst (v := 1) dX17_newFunction_66 (by decide) ?_
  refine g_isub dX17_newFunction_67 ?_
  exact g_ireturn rfl dX17_newFunction_68
theorem V.dX17_has_0 : decode cX17_has 0 = .ok (.sipush 128, 3) := by decide +kernel
theorem V.dX17_has_3 : decode cX17_has 3 = .ok (.iload_n 2, 1) := by decide +kernel
theorem V.dX17_has_4 : decode cX17_has 4 = .ok (.imul, 1) := by decide +kernel
theorem V.dX17_has_5 : decode cX17_has 5 = .ok (.iload_n 3, 1) := by decide +kernel
theorem V.dX17_has_6 : decode cX17_has 6 = .ok (.iadd, 1) := by decide +kernel
theorem V.dX17_has_7 : decode cX17_has 7 = .ok (.istore 5, 2) := by decide +kernel
theorem V.dX17_has_9 : decode cX17_has 9 = .ok (.iload_n 1, 1) := by decide +kernel
theorem V.dX17_has_10 : decode cX17_has 10 = .ok (.ifCond .ne 15, 3) := by decide +kernel
theorem V.dX17_has_13 : decode cX17_has 13 = .ok (.aload_n 0, 1) := by decide +kernel
theorem V.dX17_has_14 : decode cX17_has 14 = .ok (.getfield 134, 3) := by decide +kernel
theorem V.dX17_has_17 : decode cX17_has 17 = .ok (.iload 5, 2) := by decide +kernel
theorem V.dX17_has_19 : decode cX17_has 19 = .ok (.iload 4, 2) := by decide +kernel
theorem V.dX17_has_21 : decode cX17_has 21 = .ok (.iastore, 1) := by decide +kernel
theorem V.dX17_has_22 : decode cX17_has 22 = .ok (.goto 46, 3) := by decide +kernel
theorem V.dX17_has_25 : decode cX17_has 25 = .ok (.iload_n 1, 1) := by decide +kernel
theorem V.dX17_has_26 : decode cX17_has 26 = .ok (.iconst 1, 1) := by decide +kernel
theorem V.dX17_has_27 : decode cX17_has 27 = .ok (.if_icmp .ne 15, 3) := by decide +kernel
theorem V.dX17_has_30 : decode cX17_has 30 = .ok (.aload_n 0, 1) := by decide +kernel
theorem V.dX17_has_31 : decode cX17_has 31 = .ok (.getfield 137, 3) := by decide +kernel
theorem V.dX17_has_34 : decode cX17_has 34 = .ok (.iload 5, 2) := by decide +kernel
theorem V.dX17_has_36 : decode cX17_has 36 = .ok (.iload 4, 2) := by decide +kernel
theorem V.dX17_has_38 : decode cX17_has 38 = .ok (.iastore, 1) := by decide +kernel
theorem V.dX17_has_39 : decode cX17_has 39 = .ok (.goto 29, 3) := by decide +kernel
theorem V.dX17_has_42 : decode cX17_has 42 = .ok (.iload_n 1, 1) := by decide +kernel
theorem V.dX17_has_43 : decode cX17_has 43 = .ok (.iconst 2, 1) := by decide +kernel
theorem V.dX17_has_44 : decode cX17_has 44 = .ok (.if_icmp .ne 15, 3) := by decide +kernel
theorem V.dX17_has_47 : decode cX17_has 47 = .ok (.aload_n 0, 1) := by decide +kernel
theorem V.dX17_has_48 : decode cX17_has 48 = .ok (.getfield 140, 3) := by decide +kernel
theorem V.dX17_has_51 : decode cX17_has 51 = .ok (.iload 5, 2) := by decide +kernel
theorem V.dX17_has_53 : decode cX17_has 53 = .ok (.iload 4, 2) := by decide +kernel
theorem V.dX17_has_55 : decode cX17_has 55 = .ok (.iastore, 1) := by decide +kernel
theorem V.dX17_has_56 : decode cX17_has 56 = .ok (.goto 12, 3) := by decide +kernel
theorem V.dX17_has_59 : decode cX17_has 59 = .ok (.aload_n 0, 1) := by decide +kernel
theorem V.dX17_has_60 : decode cX17_has 60 = .ok (.getfield 143, 3) := by decide +kernel
theorem V.dX17_has_63 : decode cX17_has 63 = .ok (.iload 5, 2) := by decide +kernel
theorem V.dX17_has_65 : decode cX17_has 65 = .ok (.iload 4, 2) := by decide +kernel
theorem V.dX17_has_67 : decode cX17_has 67 = .ok (.iastore, 1) := by decide +kernel
theorem V.dX17_has_68 : decode cX17_has 68 = .ok (.return_, 1) := by decide +kernel
/-! ModuleEngineModel.has(IIII)V -/
def V.Mdl_has (σ : HS) (x0 : Nat) (x1 : Int32) (x2 : Int32) (x3 : Int32) (x4 : Int32) : Option (Unit × HS) :=
  bn (((128 : Int32) * x2) + x3) fun y1 =>
  if x1 = 0 then (
    ck (tg σ x0 = 18) <|
    ck (tg σ (gR σ x0 64) = 100 ∧ inb y1 (ln σ (gR σ x0 64))) <| bn (sI σ (gR σ x0 64) (ix y1) x4) fun σ5 =>
    some ((), σ5))
  else (
    if x1 = (1 : Int32) then (
      ck (tg σ x0 = 18) <|
      ck (tg σ (gR σ x0 65) = 100 ∧ inb y1 (ln σ (gR σ x0 65))) <| bn (sI σ (gR σ x0 65) (ix y1) x4) fun σ4 =>
      some ((), σ4))
    else (
      if x1 = (2 : Int32) then (
        ck (tg σ x0 = 18) <|
        ck (tg σ (gR σ x0 66) = 100 ∧ inb y1 (ln σ (gR σ x0 66))) <| bn (sI σ (gR σ x0 66) (ix y1) x4) fun σ3 =>
        some ((), σ3))
      else (
        ck (tg σ x0 = 18) <|
        ck (tg σ (gR σ x0 67) = 100 ∧ inb y1 (ln σ (gR σ x0 67))) <| bn (sI σ (gR σ x0 67) (ix y1) x4) fun σ2 =>
        some ((), σ2))))
theorem V.ctX17_has (x0 : Nat) (x1 : Int32) (x2 : Int32) (x3 : Int32) (x4 : Int32) : Ct yX17_has  cX17_has 6 none 0 0 eV [av x0, iv x1, iv x2, iv x3, iv x4] (fun σ => Mdl_has σ x0 x1 x2 x3 x4) := by
  refine Ct.of (own := RX17) (nm := "has") (desc := "(IIII)V") rfl (by decide) (Nat.le_of_ble_eq_true rfl) (by decide) (fun X σ => ?_)
  show G X RX17 "has" cX17_has 6 none 0 0 enV 0 [(0, av x0), (1, iv x1), (2, iv x2), (3, iv x3), (4, iv x4)] [] σ (Mdl_has σ x0 x1 x2 x3 x4)
  unfold Mdl_has
  refine g_sipush (v := 128) dX17_has_0 (by decide) ?_
  refine g_iload_n 2 2 dX17_has_3 rfl rfl ?_
  refine g_imul dX17_has_4 ?_
  refine g_iload_n 3 3 dX17_has_5 rfl rfl ?_
  refine g_iadd dX17_has_6 ?_
  refine g_nmI (fun y1 => ?_)
  refine g_istore dX17_has_7 (by decide) rfl ?_
  refine g_iload_n 1 2 dX17_has_9 rfl rfl ?_
  refine g_if_ne 25 dX17_has_10 (by decide) ?_ ?_
  · refine g_iload_n 1 2 dX17_has_25 rfl rfl ?_
    refine g_iconst (v := 1) dX17_has_26 (by decide) ?_
    refine g_icmp_ne 42 dX17_has_27 (by decide) ?_ ?_
    · refine g_iload_n 1 2 dX17_has_42 rfl rfl ?_
      refine g_iconst (v := 2) dX17_has_43 (by decide) ?_
      refine g_icmp_ne 59 dX17_has_44 (by decide) ?_ ?_
      · refine g_aload_n 0 1 dX17_has_59 rfl rfl ?_
        refine g_getR fdX17_143 dX17_has_60 ?_
        refine g_iload 0 dX17_has_63 rfl ?_
        refine g_iload 5 dX17_has_65 rfl ?_
        refine g_iastore dX17_has_67 (fun σ2 => ?_)
        exact g_return rfl dX17_has_68
      · refine g_aload_n 0 1 dX17_has_47 rfl rfl ?_
        refine g_getR fdX17_140 dX17_has_48 ?_
        refine g_iload 0 dX17_has_51 rfl ?_
        refine g_iload 5 dX17_has_53 rfl ?_
        refine g_iastore dX17_has_55 (fun σ3 => ?_)
        refine g_goto 68 dX17_has_56 (by decide) ?_
        exact g_return rfl dX17_has_68
    · refine g_aload_n 0 1 dX17_has_30 rfl rfl ?_
      refine g_getR fdX17_137 dX17_has_31 ?_
      refine g_iload 0 dX17_has_34 rfl ?_
      refine g_iload 5 dX17_has_36 rfl ?_
      refine g_iastore dX17_has_38 (fun σ4 => ?_)
      refine g_goto 68 dX17_has_39 (by decide) ?_
      exact g_return rfl dX17_has_68
  · refine g_aload_n 0 1 dX17_has_13 rfl rfl ?_
    refine g_getR fdX17_134 dX17_has_14 ?_
    refine g_iload 0 dX17_has_17 rfl ?_
    refine g_iload 5 dX17_has_19 rfl ?_
    refine g_iastore dX17_has_21 (fun σ5 => ?_)
    refine g_goto 68 dX17_has_22 (by decide) ?_
    exact g_return rfl dX17_has_68
theorem V.dX17_takesImports_0 : decode cX17_takesImports 0 = .ok (.iconst 4, 1) := by decide +kernel
theorem V.dX17_takesImports_1 : decode cX17_takesImports 1 = .ok (.newarray .int, 2) := by decide +kernel
theorem V.dX17_takesImports_3 : decode cX17_takesImports 3 = .ok (.dup, 1) := by decide +kernel
theorem V.dX17_takesImports_4 : decode cX17_takesImports 4 = .ok (.iconst 0, 1) := by decide +kernel
theorem V.dX17_takesImports_5 : decode cX17_takesImports 5 = .ok (.iconst 0, 1) := by decide +kernel
theorem V.dX17_takesImports_6 : decode cX17_takesImports 6 = .ok (.iastore, 1) := by decide +kernel
theorem V.dX17_takesImports_7 : decode cX17_takesImports 7 = .ok (.dup, 1) := by decide +kernel
theorem V.dX17_takesImports_8 : decode cX17_takesImports 8 = .ok (.iconst 1, 1) := by decide +kernel
theorem V.dX17_takesImports_9 : decode cX17_takesImports 9 = .ok (.iconst 0, 1) := by decide +kernel
theorem V.dX17_takesImports_10 : decode cX17_takesImports 10 = .ok (.iastore, 1) := by decide +kernel
theorem V.dX17_takesImports_11 : decode cX17_takesImports 11 = .ok (.dup, 1) := by decide +kernel
theorem V.dX17_takesImports_12 : decode cX17_takesImports 12 = .ok (.iconst 2, 1) := by decide +kernel
theorem V.dX17_takesImports_13 : decode cX17_takesImports 13 = .ok (.iconst 0, 1) := by decide +kernel
theorem V.dX17_takesImports_14 : decode cX17_takesImports 14 = .ok (.iastore, 1) := by decide +kernel
theorem V.dX17_takesImports_15 : decode cX17_takesImports 15 = .ok (.dup, 1) := by decide +kernel
theorem V.dX17_takesImports_16 : decode cX17_takesImports 16 = .ok (.iconst 3, 1) := by decide +kernel
theorem V.dX17_takesImports_17 : decode cX17_takesImports 17 = .ok (.iconst 0, 1) := by decide +kernel
theorem V.dX17_takesImports_18 : decode cX17_takesImports 18 = .ok (.iastore, 1) := by decide +kernel
theorem V.dX17_takesImports_19 : decode cX17_takesImports 19 = .ok (.astore_n 3, 1) := by decide +kernel
theorem V.dX17_takesImports_20 : decode cX17_takesImports 20 = .ok (.iconst 0, 1) := by decide +kernel
theorem V.dX17_takesImports_21 : decode cX17_takesImports 21 = .ok (.istore 4, 2) := by decide +kernel
theorem V.dX17_takesImports_23 : decode cX17_takesImports 23 = .ok (.iload 4, 2) := by decide +kernel
theorem V.dX17_takesImports_25 : decode cX17_takesImports 25 = .ok (.aload_n 0, 1) := by decide +kernel
theorem V.dX17_takesImports_26 : decode cX17_takesImports 26 = .ok (.getfield 221, 3) := by decide +kernel
theorem V.dX17_takesImports_29 : decode cX17_takesImports 29 = .ok (.getfield 402, 3) := by decide +kernel
theorem V.dX17_takesImports_32 : decode cX17_takesImports 32 = .ok (.if_icmp .ge 90, 3) := by decide +kernel
theorem V.dX17_takesImports_35 : decode cX17_takesImports 35 = .ok (.aload_n 0, 1) := by decide +kernel
theorem V.dX17_takesImports_36 : decode cX17_takesImports 36 = .ok (.getfield 221, 3) := by decide +kernel
theorem V.dX17_takesImports_39 : decode cX17_takesImports 39 = .ok (.getfield 411, 3) := by decide +kernel
theorem V.dX17_takesImports_42 : decode cX17_takesImports 42 = .ok (.iload 4, 2) := by decide +kernel
theorem V.dX17_takesImports_44 : decode cX17_takesImports 44 = .ok (.iaload, 1) := by decide +kernel
theorem V.dX17_takesImports_45 : decode cX17_takesImports 45 = .ok (.istore 5, 2) := by decide +kernel
theorem V.dX17_takesImports_47 : decode cX17_takesImports 47 = .ok (.aload_n 0, 1) := by decide +kernel
theorem V.dX17_takesImports_48 : decode cX17_takesImports 48 = .ok (.getfield 158, 3) := by decide +kernel
theorem V.dX17_takesImports_51 : decode cX17_takesImports 51 = .ok (.iload 4, 2) := by decide +kernel
theorem V.dX17_takesImports_53 : decode cX17_takesImports 53 = .ok (.iaload, 1) := by decide +kernel
theorem V.dX17_takesImports_54 : decode cX17_takesImports 54 = .ok (.iconst (-1), 1) := by decide +kernel
theorem V.dX17_takesImports_55 : decode cX17_takesImports 55 = .ok (.if_icmp .ne 31, 3) := by decide +kernel
theorem V.dX17_takesImports_58 : decode cX17_takesImports 58 = .ok (.aload_n 0, 1) := by decide +kernel
theorem V.dX17_takesImports_59 : decode cX17_takesImports 59 = .ok (.iload_n 2, 1) := by decide +kernel
theorem V.dX17_takesImports_60 : decode cX17_takesImports 60 = .ok (.aload_n 0, 1) := by decide +kernel
theorem V.dX17_takesImports_61 : decode cX17_takesImports 61 = .ok (.getfield 221, 3) := by decide +kernel
theorem V.dX17_takesImports_64 : decode cX17_takesImports 64 = .ok (.getfield 414, 3) := by decide +kernel
theorem V.dX17_takesImports_67 : decode cX17_takesImports 67 = .ok (.iload 4, 2) := by decide +kernel
theorem V.dX17_takesImports_69 : decode cX17_takesImports 69 = .ok (.laload, 1) := by decide +kernel
theorem V.dX17_takesImports_70 : decode cX17_takesImports 70 = .ok (.l2i, 1) := by decide +kernel
theorem V.dX17_takesImports_71 : decode cX17_takesImports 71 = .ok (.iconst (-1), 1) := by decide +kernel
theorem V.dX17_takesImports_72 : decode cX17_takesImports 72 = .ok (.iconst (-1), 1) := by decide +kernel
theorem V.dX17_takesImports_73 : decode cX17_takesImports 73 = .ok (.aload_n 0, 1) := by decide +kernel
theorem V.dX17_takesImports_74 : decode cX17_takesImports 74 = .ok (.getfield 161, 3) := by decide +kernel
theorem V.dX17_takesImports_77 : decode cX17_takesImports 77 = .ok (.iload 4, 2) := by decide +kernel
theorem V.dX17_takesImports_79 : decode cX17_takesImports 79 = .ok (.iaload, 1) := by decide +kernel
theorem V.dX17_takesImports_80 : decode cX17_takesImports 80 = .ok (.invokevirtual 1005, 3) := by decide +kernel
theorem V.dX17_takesImports_83 : decode cX17_takesImports 83 = .ok (.goto 10, 3) := by decide +kernel
theorem V.dX17_takesImports_86 : decode cX17_takesImports 86 = .ok (.aload_n 0, 1) := by decide +kernel
theorem V.dX17_takesImports_87 : decode cX17_takesImports 87 = .ok (.getfield 161, 3) := by decide +kernel
theorem V.dX17_takesImports_90 : decode cX17_takesImports 90 = .ok (.iload 4, 2) := by decide +kernel
theorem V.dX17_takesImports_92 : decode cX17_takesImports 92 = .ok (.iaload, 1) := by decide +kernel
theorem V.dX17_takesImports_93 : decode cX17_takesImports 93 = .ok (.istore 6, 2) := by decide +kernel
theorem V.dX17_takesImports_95 : decode cX17_takesImports 95 = .ok (.aload_n 0, 1) := by decide +kernel
theorem V.dX17_takesImports_96 : decode cX17_takesImports 96 = .ok (.iload 5, 2) := by decide +kernel
theorem V.dX17_takesImports_98 : decode cX17_takesImports 98 = .ok (.iload_n 1, 1) := by decide +kernel
theorem V.dX17_takesImports_99 : decode cX17_takesImports 99 = .ok (.aload_n 3, 1) := by decide +kernel
theorem V.dX17_takesImports_100 : decode cX17_takesImports 100 = .ok (.iload 5, 2) := by decide +kernel
theorem V.dX17_takesImports_102 : decode cX17_takesImports 102 = .ok (.iaload, 1) := by decide +kernel
theorem V.dX17_takesImports_103 : decode cX17_takesImports 103 = .ok (.iload 6, 2) := by decide +kernel
theorem V.dX17_takesImports_105 : decode cX17_takesImports 105 = .ok (.invokevirtual 1009, 3) := by decide +kernel
theorem V.dX17_takesImports_108 : decode cX17_takesImports 108 = .ok (.aload_n 3, 1) := by decide +kernel
theorem V.dX17_takesImports_109 : decode cX17_takesImports 109 = .ok (.iload 5, 2) := by decide +kernel
theorem V.dX17_takesImports_111 : decode cX17_takesImports 111 = .ok (.dup2, 1) := by decide +kernel
theorem V.dX17_takesImports_112 : decode cX17_takesImports 112 = .ok (.iaload, 1) := by decide +kernel
theorem V.dX17_takesImports_113 : decode cX17_takesImports 113 = .ok (.iconst 1, 1) := by decide +kernel
theorem V.dX17_takesImports_114 : decode cX17_takesImports 114 = .ok (.iadd, 1) := by decide +kernel
theorem V.dX17_takesImports_115 : decode cX17_takesImports 115 = .ok (.iastore, 1) := by decide +kernel
theorem V.dX17_takesImports_116 : decode cX17_takesImports 116 = .ok (.iinc 4 1, 3) := by decide +kernel
theorem V.dX17_takesImports_119 : decode cX17_takesImports 119 = .ok (.goto (-96), 3) := by decide +kernel
theorem V.dX17_takesImports_122 : decode cX17_takesImports 122 = .ok (.return_, 1) := by decide +kernel
theorem V.mdX17_1005 : MD RX17 1005 yX17_newFunction cX17_newFunction 6 (some .int) 5 := ⟨Or.inl q4046, q377, q4049, by decide, by decide, by decide +kernel⟩
theorem V.mdX17_1009 : MD RX17 1009 yX17_has cX17_has 6 none 4 := ⟨Or.inl q4050, q377, q4053, by decide, by decide, by decide +kernel⟩
/-! ModuleEngineModel.takesImports(II)V -/
def V.Mdl_takesImports_p93 (rec23 : HS → Nat → Int32 → Int32 → Nat → Int32 → Option (Unit × HS)) (σ : HS) (x0 : Nat) (x1 : Int32) (x2 : Int32) (x3 : Nat) (x4 : Int32) (x5 : Int32) (s0 : Int32) : Option (Unit × HS) :=
  ck (tg σ x3 = 100 ∧ inb x5 (ln σ x3)) <|
  ck (tg σ x0 = 18) <| cl (Mdl_has σ x0 x5 x1 (gI σ x3 (ix x5)) s0) fun _ σ1 =>
  ck (tg σ1 x3 = 100 ∧ inb x5 (ln σ1 x3)) <|
  ck (tg σ1 x3 = 100 ∧ inb x5 (ln σ1 x3)) <| bn (sI σ1 x3 (ix x5) ((gI σ1 x3 (ix x5)) + (1 : Int32))) fun σ2 =>
  bn (x4 + (1 : Int32)) fun y3 =>
  rec23 σ2 x0 x1 x2 x3 y3
theorem V.gX17_takesImports_p93 {X : CX} (rec23 : HS → Nat → Int32 → Int32 → Nat → Int32 → Option (Unit × HS)) (hrec23 : ∀ (σ : HS) (x0 : Nat) (x1 : Int32) (x2 : Int32) (x3 : Nat) (x4 : Int32), G X RX17 "takesImports" cX17_takesImports 7 none 1 25 enV 23 [(0, av x0), (1, iv x1), (2, iv x2), (3, av x3), (4, iv x4)] [] σ (rec23 σ x0 x1 x2 x3 x4)) (σ : HS) (x0 : Nat) (x1 : Int32) (x2 : Int32) (x3 : Nat) (x4 : Int32) (x5 : Int32) (s0 : Int32) : G X RX17 "takesImports" cX17_takesImports 7 none 1 25 enV 93 [(0, av x0), (1, iv x1), (2, iv x2), (3, av x3), (4, iv x4), (5, iv x5)] [iv s0] σ (Mdl_takesImports_p93 rec23 σ x0 x1 x2 x3 x4 x5 s0) := by
  unfold Mdl_takesImports_p93
  refine g_istore dX17_takesImports_93 (by decide) rfl ?_
  refine g_aload_n 0 1 dX17_takesImports_95 rfl rfl ?_
  refine g_iload 6 dX17_takesImports_96 rfl ?_
  refine g_iload_n 1 2 dX17_takesImports_98 rfl rfl ?_
  refine g_aload_n 3 4 dX17_takesImports_99 rfl rfl ?_
  refine g_iload 6 dX17_takesImports_100 rfl ?_
  refine g_iaload dX17_takesImports_102 ?_
  refine g_iload 0 dX17_takesImports_103 rfl ?_
  refine g_callV (fc := fun sς => Mdl_has sς x0 x5 x1 (gI σ x3 (ix x5)) s0) (ci := 17) (as := [iv x5, iv x1, iv (gI σ x3 (ix x5)), iv s0]) rfl rfl rfl q4052 qs299 mdX17_1009 (ctX17_has x0 x5 x1 (gI σ x3 (ix x5)) s0) rfl (Nat.le_of_ble_eq_true rfl) (Nat.le_of_ble_eq_true rfl) (Nat.le_of_ble_eq_true rfl) pu_V dX17_takesImports_105 (fun _ σ1 => ?_)
  refine g_aload_n 3 4 dX17_takesImports_108 rfl rfl ?_
  refine g_iload 6 dX17_takesImports_109 rfl ?_
  refine g_dup2_11 dX17_takesImports_111 rfl rfl ?_
  refine g_iaload dX17_takesImports_112 ?_
  refine g_iconst (v := 1) dX17_takesImports_113 (by decide) ?_
  refine g_iadd dX17_takesImports_114 ?_
  refine g_iastore dX17_takesImports_115 (fun σ2 => ?_)
  refine g_iincB (w := 1) 5 dX17_takesImports_116 rfl (by decide) (by decide) (fun _ => rfl) (fun y3 => ?_)
  refine g_goto 23 dX17_takesImports_119 (by decide) ?_
  refine G.sub [2, 3, 4, 5, 0] rfl ?_
  exact hrec23 _ _ _ _ _ _
def V.Mdl_takesImports_p23  : Nat → HS → Nat → Int32 → Int32 → Nat → Int32 → Option (Unit × HS)
  | 0, _, _, _, _, _, _ => none
  | n + 1, σ, x0, x1, x2, x3, x4 =>
    ck (tg σ x0 = 18) <|
    ck (tg σ (gR σ x0 10) = 21) <|
    if (gI σ (gR σ x0 10) 8) ≤ x4 then (
      some ((), σ))
    else (
      ck (tg σ x0 = 18) <|
      ck (tg σ (gR σ x0 10) = 21) <|
      ck (tg σ (gR σ (gR σ x0 10) 9) = 100 ∧ inb x4 (ln σ (gR σ (gR σ x0 10) 9))) <|
      bn (gI σ (gR σ (gR σ x0 10) 9) (ix x4)) fun y1 =>
      ck (tg σ x0 = 18) <|
      ck (tg σ (gR σ x0 74) = 100 ∧ inb x4 (ln σ (gR σ x0 74))) <|
      if (gI σ (gR σ x0 74) (ix x4)) = (-1 : Int32) then (
        ck (tg σ x0 = 18) <|
        ck (tg σ (gR σ x0 10) = 21) <|
        ck (tg σ (gR σ (gR σ x0 10) 10) = 101 ∧ inb x4 (ln σ (gR σ (gR σ x0 10) 10))) <|
        ck (tg σ x0 = 18) <|
        ck (tg σ (gR σ x0 75) = 100 ∧ inb x4 (ln σ (gR σ x0 75))) <|
        ck (tg σ x0 = 18) <| cl (Mdl_newFunction σ x0 x2 ((gJ σ (gR σ (gR σ x0 10) 10) (ix x4)).toInt32) (-1 : Int32) (-1 : Int32) (gI σ (gR σ x0 75) (ix x4))) fun r3 σ2 =>
        Mdl_takesImports_p93 (Mdl_takesImports_p23 n) σ2 x0 x1 x2 x3 x4 y1 r3)
      else (
        ck (tg σ x0 = 18) <|
        ck (tg σ (gR σ x0 75) = 100 ∧ inb x4 (ln σ (gR σ x0 75))) <|
        Mdl_takesImports_p93 (Mdl_takesImports_p23 n) σ x0 x1 x2 x3 x4 y1 (gI σ (gR σ x0 75) (ix x4))))
theorem V.gX17_takesImports_p23 {X : CX}  : ∀ (n : Nat) (σ : HS) (x0 : Nat) (x1 : Int32) (x2 : Int32) (x3 : Nat) (x4 : Int32), G X RX17 "takesImports" cX17_takesImports 7 none 1 25 enV 23 [(0, av x0), (1, iv x1), (2, iv x2), (3, av x3), (4, iv x4)] [] σ (Mdl_takesImports_p23 n σ x0 x1 x2 x3 x4)
  | 0, σ, x0, x1, x2, x3, x4 => by rw [Mdl_takesImports_p23]; exact G.nul
  | n + 1, σ, x0, x1, x2, x3, x4 => by
    rw [Mdl_takesImports_p23]
    refine g_iload 4 dX17_takesImports_23 rfl ?_
    refine g_aload_n 0 0 dX17_takesImports_25 rfl rfl ?_
    refine g_getR fdX17_221 dX17_takesImports_26 ?_
    refine g_getI fdX17_402 dX17_takesImports_29 ?_
    refine g_icmp_ge 122 dX17_takesImports_32 (by decide) ?_ ?_
    · exact g_return rfl dX17_takesImports_122
    · refine g_aload_n 0 0 dX17_takesImports_35 rfl rfl ?_
      refine g_getR fdX17_221 dX17_takesImports_36 ?_
      refine g_getR fdX17_411 dX17_takesImports_39 ?_
      refine g_iload 4 dX17_takesImports_42 rfl ?_
      refine g_iaload dX17_takesImports_44 ?_
      refine g_nmI (fun y1 => ?_)
      refine g_istore dX17_takesImports_45 (by decide) rfl ?_
      refine g_aload_n 0 1 dX17_takesImports_47 rfl rfl ?_
      refine g_getR fdX17_158 dX17_takesImports_48 ?_
      refine g_iload 5 dX17_takesImports_51 rfl ?_
      refine g_iaload dX17_takesImports_53 ?_
      refine g_iconst (v := (-1)) dX17_takesImports_54 (by decide) ?_
      refine g_icmp_ne 86 dX17_takesImports_55 (by decide) ?_ ?_
      · refine g_aload_n 0 1 dX17_takesImports_86 rfl rfl ?_
        refine g_getR fdX17_161 dX17_takesImports_87 ?_
        refine g_iload 5 dX17_takesImports_90 rfl ?_
        refine g_iaload dX17_takesImports_92 ?_
        refine G.sub [1, 2, 3, 4, 5, 0] rfl ?_
        exact gX17_takesImports_p93 (Mdl_takesImports_p23 n) (gX17_takesImports_p23 n) _ _ _ _ _ _ _ _
      · refine g_aload_n 0 1 dX17_takesImports_58 rfl rfl ?_
        refine g_iload_n 2 3 dX17_takesImports_59 rfl rfl ?_
        refine g_aload_n 0 1 dX17_takesImports_60 rfl rfl ?_
        refine g_getR fdX17_221 dX17_takesImports_61 ?_
        refine g_getR fdX17_414 dX17_takesImports_64 ?_
        refine g_iload 5 dX17_takesImports_67 rfl ?_
        refine g_laload dX17_takesImports_69 ?_
        refine g_l2i dX17_takesImports_70 ?_
        refine g_iconst (v := (-1)) dX17_takesImports_71 (by decide) ?_
        refine g_iconst (v := (-1)) dX17_takesImports_72 (by decide) ?_
        refine g_aload_n 0 1 dX17_takesImports_73 rfl rfl ?_
        refine g_getR fdX17_161 dX17_takesImports_74 ?_
        refine g_iload 5 dX17_takesImports_77 rfl ?_
        refine g_iaload dX17_takesImports_79 ?_
        refine g_callV (fc := fun sς => Mdl_newFunction sς x0 x2 ((gJ σ (gR σ (gR σ x0 10) 10) (ix x4)).toInt32) (-1 : Int32) (-1 : Int32) (gI σ (gR σ x0 75) (ix x4))) (ci := 17) (as := [iv x2, iv ((gJ σ (gR σ (gR σ x0 10) 10) (ix x4)).toInt32), iv (-1 : Int32), iv (-1 : Int32), iv (gI σ (gR σ x0 75) (ix x4))]) rfl rfl rfl q4048 qs298 mdX17_1005 (ctX17_newFunction x0 x2 ((gJ σ (gR σ (gR σ x0 10) 10) (ix x4)).toInt32) (-1 : Int32) (-1 : Int32) (gI σ (gR σ x0 75) (ix x4))) rfl (Nat.le_of_ble_eq_true rfl) (Nat.le_of_ble_eq_true rfl) (Nat.le_of_ble_eq_true rfl) pu_I dX17_takesImports_80 (fun r3 σ2 => ?_)
        refine g_goto 93 dX17_takesImports_83 (by decide) ?_
        refine G.sub [1, 2, 3, 4, 5, 0] rfl ?_
        exact gX17_takesImports_p93 (Mdl_takesImports_p23 n) (gX17_takesImports_p23 n) _ _ _ _ _ _ _ _
def V.Mdl_takesImports (σ : HS) (x0 : Nat) (x1 : Int32) (x2 : Int32) : Option (Unit × HS) :=
  ck (lenok (4 : Int32)) <| newa σ 100 (4 : Int32) fun a1 σ2 =>
  ck (tg σ2 a1 = 100 ∧ inb (0 : Int32) (ln σ2 a1)) <| bn (sI σ2 a1 (ix (0 : Int32)) (0 : Int32)) fun σ3 =>
  ck (tg σ3 a1 = 100 ∧ inb (1 : Int32) (ln σ3 a1)) <| bn (sI σ3 a1 (ix (1 : Int32)) (0 : Int32)) fun σ4 =>
  ck (tg σ4 a1 = 100 ∧ inb (2 : Int32) (ln σ4 a1)) <| bn (sI σ4 a1 (ix (2 : Int32)) (0 : Int32)) fun σ5 =>
  ck (tg σ5 a1 = 100 ∧ inb (3 : Int32) (ln σ5 a1)) <| bn (sI σ5 a1 (ix (3 : Int32)) (0 : Int32)) fun σ6 =>
  Mdl_takesImports_p23 FU σ6 x0 x1 x2 a1 (0 : Int32)
theorem V.ctX17_takesImports (x0 : Nat) (x1 : Int32) (x2 : Int32) : Ct yX17_takesImports  cX17_takesImports 7 none 1 25 eV [av x0, iv x1, iv x2] (fun σ => Mdl_takesImports σ x0 x1 x2) := by
  refine Ct.of (own := RX17) (nm := "takesImports") (desc := "(II)V") rfl (by decide) (Nat.le_of_ble_eq_true rfl) (by decide) (fun X σ => ?_)
  show G X RX17 "takesImports" cX17_takesImports 7 none 1 25 enV 0 [(0, av x0), (1, iv x1), (2, iv x2)] [] σ (Mdl_takesImports σ x0 x1 x2)
  unfold Mdl_takesImports
  refine g_iconst (v := 4) dX17_takesImports_0 (by decide) ?_
  refine g_na_int dX17_takesImports_1 (fun a1 σ2 => ?_)
  refine g_dup dX17_takesImports_3 rfl ?_
  refine g_iconst (v := 0) dX17_takesImports_4 (by decide) ?_
  refine g_iconst (v := 0) dX17_takesImports_5 (by decide) ?_
  refine g_iastore dX17_takesImports_6 (fun σ3 => ?_)
  refine g_dup dX17_takesImports_7 rfl ?_
  refine g_iconst (v := 1) dX17_takesImports_8 (by decide) ?_
  refine g_iconst (v := 0) dX17_takesImports_9 (by decide) ?_
  refine g_iastore dX17_takesImports_10 (fun σ4 => ?_)
  refine g_dup dX17_takesImports_11 rfl ?_
  refine g_iconst (v := 2) dX17_takesImports_12 (by decide) ?_
  refine g_iconst (v := 0) dX17_takesImports_13 (by decide) ?_
  refine g_iastore dX17_takesImports_14 (fun σ5 => ?_)
  refine g_dup dX17_takesImports_15 rfl ?_
  refine g_iconst (v := 3) dX17_takesImports_16 (by decide) ?_
  refine g_iconst (v := 0) dX17_takesImports_17 (by decide) ?_
  refine g_iastore dX17_takesImports_18 (fun σ6 => ?_)
  refine g_astore_n 3 dX17_takesImports_19 rfl (by decide) rfl ?_
  refine g_iconst (v := 0) dX17_takesImports_20 (by decide) ?_
  refine g_istore dX17_takesImports_21 (by decide) rfl ?_
  refine G.sub [2, 3, 4, 1, 0] rfl ?_
  exact gX17_takesImports_p23 FU _ _ _ _ _ _
theorem V.dX17_grows_0 : decode cX17_grows 0 = .ok (.iconst 0, 1) := by decide +kernel
theorem V.dX17_grows_1 : decode cX17_grows 1 = .ok (.istore 4, 2) := by decide +kernel
theorem V.dX17_grows_3 : decode cX17_grows 3 = .ok (.iload 4, 2) := by decide +kernel
theorem V.dX17_grows_5 : decode cX17_grows 5 = .ok (.iload_n 2, 1) := by decide +kernel
theorem V.dX17_grows_6 : decode cX17_grows 6 = .ok (.if_icmp .ge 30, 3) := by decide +kernel
theorem V.dX17_grows_9 : decode cX17_grows 9 = .ok (.aload_n 0, 1) := by decide +kernel
theorem V.dX17_grows_10 : decode cX17_grows 10 = .ok (.getfield 103, 3) := by decide +kernel
theorem V.dX17_grows_13 : decode cX17_grows 13 = .ok (.sipush 1024, 3) := by decide +kernel
theorem V.dX17_grows_16 : decode cX17_grows 16 = .ok (.iload_n 1, 1) := by decide +kernel
theorem V.dX17_grows_17 : decode cX17_grows 17 = .ok (.imul, 1) := by decide +kernel
theorem V.dX17_grows_18 : decode cX17_grows 18 = .ok (.aload_n 0, 1) := by decide +kernel
theorem V.dX17_grows_19 : decode cX17_grows 19 = .ok (.getfield 96, 3) := by decide +kernel
theorem V.dX17_grows_22 : decode cX17_grows 22 = .ok (.iload_n 1, 1) := by decide +kernel
theorem V.dX17_grows_23 : decode cX17_grows 23 = .ok (.iaload, 1) := by decide +kernel
theorem V.dX17_grows_24 : decode cX17_grows 24 = .ok (.iadd, 1) := by decide +kernel
theorem V.dX17_grows_25 : decode cX17_grows 25 = .ok (.iload 4, 2) := by decide +kernel
theorem V.dX17_grows_27 : decode cX17_grows 27 = .ok (.iadd, 1) := by decide +kernel
theorem V.dX17_grows_28 : decode cX17_grows 28 = .ok (.iload_n 3, 1) := by decide +kernel
theorem V.dX17_grows_29 : decode cX17_grows 29 = .ok (.iastore, 1) := by decide +kernel
theorem V.dX17_grows_30 : decode cX17_grows 30 = .ok (.iinc 4 1, 3) := by decide +kernel
theorem V.dX17_grows_33 : decode cX17_grows 33 = .ok (.goto (-30), 3) := by decide +kernel
theorem V.dX17_grows_36 : decode cX17_grows 36 = .ok (.aload_n 0, 1) := by decide +kernel
theorem V.dX17_grows_37 : decode cX17_grows 37 = .ok (.getfield 96, 3) := by decide +kernel
theorem V.dX17_grows_40 : decode cX17_grows 40 = .ok (.iload_n 1, 1) := by decide +kernel
theorem V.dX17_grows_41 : decode cX17_grows 41 = .ok (.dup2, 1) := by decide +kernel
theorem V.dX17_grows_42 : decode cX17_grows 42 = .ok (.iaload, 1) := by decide +kernel
theorem V.dX17_grows_43 : decode cX17_grows 43 = .ok (.iload_n 2, 1) := by decide +kernel
theorem V.dX17_grows_44 : decode cX17_grows 44 = .ok (.iadd, 1) := by decide +kernel
theorem V.dX17_grows_45 : decode cX17_grows 45 = .ok (.iastore, 1) := by decide +kernel
theorem V.dX17_grows_46 : decode cX17_grows 46 = .ok (.aload_n 0, 1) := by decide +kernel
theorem V.dX17_grows_47 : decode cX17_grows 47 = .ok (.dup, 1) := by decide +kernel
theorem V.dX17_grows_48 : decode cX17_grows 48 = .ok (.getfield 89, 3) := by decide +kernel
theorem V.dX17_grows_51 : decode cX17_grows 51 = .ok (.iload_n 2, 1) := by decide +kernel
theorem V.dX17_grows_52 : decode cX17_grows 52 = .ok (.isub, 1) := by decide +kernel
theorem V.dX17_grows_53 : decode cX17_grows 53 = .ok (.putfield 89, 3) := by decide +kernel
theorem V.dX17_grows_56 : decode cX17_grows 56 = .ok (.return_, 1) := by decide +kernel
theorem V.fdX17_103 : FD RX17 103 17 51 2 := ⟨(RX17, TX17, 101), tyX17, rfl, rfl, in_X17, by decide, Or.inl q3087, rfl⟩
/-! ModuleEngineModel.grows(III)V -/
def V.Mdl_grows_p3  : Nat → HS → Nat → Int32 → Int32 → Int32 → Int32 → Option (Unit × HS)
  | 0, _, _, _, _, _, _ => none
  | n + 1, σ, x0, x1, x2, x3, x4 =>
    if x2 ≤ x4 then (
      ck (tg σ x0 = 18) <|
      ck (tg σ (gR σ x0 49) = 100 ∧ inb x1 (ln σ (gR σ x0 49))) <|
      ck (tg σ (gR σ x0 49) = 100 ∧ inb x1 (ln σ (gR σ x0 49))) <| bn (sI σ (gR σ x0 49) (ix x1) ((gI σ (gR σ x0 49) (ix x1)) + x2)) fun σ1 =>
      ck (tg σ1 x0 = 18) <|
      ck (tg σ1 x0 = 18) <| bn (sI σ1 x0 47 ((gI σ1 x0 47) - x2)) fun σ2 =>
      some ((), σ2))
    else (
      ck (tg σ x0 = 18) <|
      ck (tg σ x0 = 18) <|
      ck (tg σ (gR σ x0 49) = 100 ∧ inb x1 (ln σ (gR σ x0 49))) <|
      ck (tg σ (gR σ x0 51) = 100 ∧ inb ((((1024 : Int32) * x1) + (gI σ (gR σ x0 49) (ix x1))) + x4) (ln σ (gR σ x0 51))) <| bn (sI σ (gR σ x0 51) (ix ((((1024 : Int32) * x1) + (gI σ (gR σ x0 49) (ix x1))) + x4)) x3) fun σ3 =>
      bn (x4 + (1 : Int32)) fun y4 =>
      Mdl_grows_p3 n σ3 x0 x1 x2 x3 y4)
theorem V.gX17_grows_p3 {X : CX}  : ∀ (n : Nat) (σ : HS) (x0 : Nat) (x1 : Int32) (x2 : Int32) (x3 : Int32) (x4 : Int32), G X RX17 "grows" cX17_grows 5 none 0 0 enV 3 [(0, av x0), (1, iv x1), (2, iv x2), (3, iv x3), (4, iv x4)] [] σ (Mdl_grows_p3 n σ x0 x1 x2 x3 x4)
  | 0, σ, x0, x1, x2, x3, x4 => by rw [Mdl_grows_p3]; exact G.nul
  | n + 1, σ, x0, x1, x2, x3, x4 => by
    rw [Mdl_grows_p3]
    refine g_iload 4 dX17_grows_3 rfl ?_
    refine g_iload_n 2 2 dX17_grows_5 rfl rfl ?_
    refine g_icmp_ge 36 dX17_grows_6 (by decide) ?_ ?_
    · refine g_aload_n 0 0 dX17_grows_36 rfl rfl ?_
      refine g_getR fdX17_96 dX17_grows_37 ?_
      refine g_iload_n 1 1 dX17_grows_40 rfl rfl ?_
      refine g_dup2_11 dX17_grows_41 rfl rfl ?_
      refine g_iaload dX17_grows_42 ?_
      refine g_iload_n 2 2 dX17_grows_43 rfl rfl ?_
      refine g_iadd dX17_grows_44 ?_
      refine g_iastore dX17_grows_45 (fun σ1 => ?_)
      refine g_aload_n 0 0 dX17_grows_46 rfl rfl ?_
      refine g_dup dX17_grows_47 rfl ?_
      refine g_getI fdX17_89 dX17_grows_48 ?_
      refine g_iload_n 2 2 dX17_grows_51 rfl rfl ?_
      refine g_isub dX17_grows_52 ?_
      refine g_putI fpX17_89 dX17_grows_53 (fun σ2 => ?_)
      exact g_return rfl dX17_grows_56
    · refine g_aload_n 0 0 dX17_grows_9 rfl rfl ?_
      refine g_getR fdX17_103 dX17_grows_10 ?_
      refine g_sipush (v := 1024) dX17_grows_13 (by decide) ?_
      refine g_iload_n 1 1 dX17_grows_16 rfl rfl ?_
      refine g_imul dX17_grows_17 ?_
      refine g_aload_n 0 0 dX17_grows_18 rfl rfl ?_
      refine g_getR fdX17_96 dX17_grows_19 ?_
      refine g_iload_n 1 1 dX17_grows_22 rfl rfl ?_
      refine g_iaload dX17_grows_23 ?_
      refine g_iadd dX17_grows_24 ?_
      refine g_iload 4 dX17_grows_25 rfl ?_
      refine g_iadd dX17_grows_27 ?_
      refine g_iload_n 3 3 dX17_grows_28 rfl rfl ?_
      refine g_iastore dX17_grows_29 (fun σ3 => ?_)
      refine g_iincB (w := 1) 4 dX17_grows_30 rfl (by decide) (by decide) (fun _ => rfl) (fun y4 => ?_)
      refine g_goto 3 dX17_grows_33 (by decide) ?_
      refine G.sub [1, 2, 3, 4, 0] rfl ?_
      exact gX17_grows_p3 n _ _ _ _ _ _
def V.Mdl_grows (σ : HS) (x0 : Nat) (x1 : Int32) (x2 : Int32) (x3 : Int32) : Option (Unit × HS) :=
  Mdl_grows_p3 FU σ x0 x1 x2 x3 (0 : Int32)
theorem V.ctX17_grows (x0 : Nat) (x1 : Int32) (x2 : Int32) (x3 : Int32) : Ct yX17_grows  cX17_grows 5 none 0 0 eV [av x0, iv x1, iv x2, iv x3] (fun σ => Mdl_grows σ x0 x1 x2 x3) := by
  refine Ct.of (own := RX17) (nm := "grows") (desc := "(III)V") rfl (by decide) (Nat.le_of_ble_eq_true rfl) (by decide) (fun X σ => ?_)
  show G X RX17 "grows" cX17_grows 5 none 0 0 enV 0 [(0, av x0), (1, iv x1), (2, iv x2), (3, iv x3)] [] σ (Mdl_grows σ x0 x1 x2 x3)
  unfold Mdl_grows
  refine g_iconst (v := 0) dX17_grows_0 (by decide) ?_
  refine g_istore dX17_grows_1 (by decide) rfl ?_
  refine G.sub [1, 2, 3, 4, 0] rfl ?_
  exact gX17_grows_p3 FU _ _ _ _ _ _
theorem V.dX17_growsPages_0 : decode cX17_growsPages 0 = .ok (.iconst 0, 1) := by decide +kernel
theorem V.dX17_growsPages_1 : decode cX17_growsPages 1 = .ok (.istore_n 3, 1) := by decide +kernel
theorem V.dX17_growsPages_2 : decode cX17_growsPages 2 = .ok (.iload_n 3, 1) := by decide +kernel
theorem V.dX17_growsPages_3 : decode cX17_growsPages 3 = .ok (.iload_n 2, 1) := by decide +kernel
theorem V.dX17_growsPages_4 : decode cX17_growsPages 4 = .ok (.if_icmp .ge 52, 3) := by decide +kernel
theorem V.dX17_growsPages_7 : decode cX17_growsPages 7 = .ok (.aload_n 0, 1) := by decide +kernel
theorem V.dX17_growsPages_8 : decode cX17_growsPages 8 = .ok (.getfield 115, 3) := by decide +kernel
theorem V.dX17_growsPages_11 : decode cX17_growsPages 11 = .ok (.bipush 8, 2) := by decide +kernel
theorem V.dX17_growsPages_13 : decode cX17_growsPages 13 = .ok (.iload_n 1, 1) := by decide +kernel
theorem V.dX17_growsPages_14 : decode cX17_growsPages 14 = .ok (.imul, 1) := by decide +kernel
theorem V.dX17_growsPages_15 : decode cX17_growsPages 15 = .ok (.aload_n 0, 1) := by decide +kernel
theorem V.dX17_growsPages_16 : decode cX17_growsPages 16 = .ok (.getfield 109, 3) := by decide +kernel
theorem V.dX17_growsPages_19 : decode cX17_growsPages 19 = .ok (.iload_n 1, 1) := by decide +kernel
theorem V.dX17_growsPages_20 : decode cX17_growsPages 20 = .ok (.iaload, 1) := by decide +kernel
theorem V.dX17_growsPages_21 : decode cX17_growsPages 21 = .ok (.iadd, 1) := by decide +kernel
theorem V.dX17_growsPages_22 : decode cX17_growsPages 22 = .ok (.bipush 8, 2) := by decide +kernel
theorem V.dX17_growsPages_24 : decode cX17_growsPages 24 = .ok (.aload_n 0, 1) := by decide +kernel
theorem V.dX17_growsPages_25 : decode cX17_growsPages 25 = .ok (.getfield 106, 3) := by decide +kernel
theorem V.dX17_growsPages_28 : decode cX17_growsPages 28 = .ok (.isub, 1) := by decide +kernel
theorem V.dX17_growsPages_29 : decode cX17_growsPages 29 = .ok (.iastore, 1) := by decide +kernel
theorem V.dX17_growsPages_30 : decode cX17_growsPages 30 = .ok (.aload_n 0, 1) := by decide +kernel
theorem V.dX17_growsPages_31 : decode cX17_growsPages 31 = .ok (.getfield 109, 3) := by decide +kernel
theorem V.dX17_growsPages_34 : decode cX17_growsPages 34 = .ok (.iload_n 1, 1) := by decide +kernel
theorem V.dX17_growsPages_35 : decode cX17_growsPages 35 = .ok (.dup2, 1) := by decide +kernel
theorem V.dX17_growsPages_36 : decode cX17_growsPages 36 = .ok (.iaload, 1) := by decide +kernel
theorem V.dX17_growsPages_37 : decode cX17_growsPages 37 = .ok (.iconst 1, 1) := by decide +kernel
theorem V.dX17_growsPages_38 : decode cX17_growsPages 38 = .ok (.iadd, 1) := by decide +kernel
theorem V.dX17_growsPages_39 : decode cX17_growsPages 39 = .ok (.iastore, 1) := by decide +kernel
theorem V.dX17_growsPages_40 : decode cX17_growsPages 40 = .ok (.aload_n 0, 1) := by decide +kernel
theorem V.dX17_growsPages_41 : decode cX17_growsPages 41 = .ok (.dup, 1) := by decide +kernel
theorem V.dX17_growsPages_42 : decode cX17_growsPages 42 = .ok (.getfield 106, 3) := by decide +kernel
theorem V.dX17_growsPages_45 : decode cX17_growsPages 45 = .ok (.iconst 1, 1) := by decide +kernel
theorem V.dX17_growsPages_46 : decode cX17_growsPages 46 = .ok (.isub, 1) := by decide +kernel
theorem V.dX17_growsPages_47 : decode cX17_growsPages 47 = .ok (.putfield 106, 3) := by decide +kernel
theorem V.dX17_growsPages_50 : decode cX17_growsPages 50 = .ok (.iinc 3 1, 3) := by decide +kernel
theorem V.dX17_growsPages_53 : decode cX17_growsPages 53 = .ok (.goto (-51), 3) := by decide +kernel
theorem V.dX17_growsPages_56 : decode cX17_growsPages 56 = .ok (.return_, 1) := by decide +kernel
theorem V.fdX17_115 : FD RX17 115 17 56 2 := ⟨(RX17, TX17, 101), tyX17, rfl, rfl, in_X17, by decide, Or.inl q3092, rfl⟩
/-! ModuleEngineModel.growsPages(II)V -/
def V.Mdl_growsPages_p2  : Nat → HS → Nat → Int32 → Int32 → Int32 → Option (Unit × HS)
  | 0, _, _, _, _, _ => none
  | n + 1, σ, x0, x1, x2, x3 =>
    if x2 ≤ x3 then (
      some ((), σ))
    else (
      ck (tg σ x0 = 18) <|
      ck (tg σ x0 = 18) <|
      ck (tg σ (gR σ x0 54) = 100 ∧ inb x1 (ln σ (gR σ x0 54))) <|
      ck (tg σ x0 = 18) <|
      ck (tg σ (gR σ x0 56) = 100 ∧ inb (((8 : Int32) * x1) + (gI σ (gR σ x0 54) (ix x1))) (ln σ (gR σ x0 56))) <| bn (sI σ (gR σ x0 56) (ix (((8 : Int32) * x1) + (gI σ (gR σ x0 54) (ix x1)))) ((8 : Int32) - (gI σ x0 53))) fun σ1 =>
      ck (tg σ1 x0 = 18) <|
      ck (tg σ1 (gR σ1 x0 54) = 100 ∧ inb x1 (ln σ1 (gR σ1 x0 54))) <|
      ck (tg σ1 (gR σ1 x0 54) = 100 ∧ inb x1 (ln σ1 (gR σ1 x0 54))) <| bn (sI σ1 (gR σ1 x0 54) (ix x1) ((gI σ1 (gR σ1 x0 54) (ix x1)) + (1 : Int32))) fun σ2 =>
      ck (tg σ2 x0 = 18) <|
      ck (tg σ2 x0 = 18) <| bn (sI σ2 x0 53 ((gI σ2 x0 53) - (1 : Int32))) fun σ3 =>
      bn (x3 + (1 : Int32)) fun y4 =>
      Mdl_growsPages_p2 n σ3 x0 x1 x2 y4)
theorem V.gX17_growsPages_p2 {X : CX}  : ∀ (n : Nat) (σ : HS) (x0 : Nat) (x1 : Int32) (x2 : Int32) (x3 : Int32), G X RX17 "growsPages" cX17_growsPages 4 none 0 0 enV 2 [(0, av x0), (1, iv x1), (2, iv x2), (3, iv x3)] [] σ (Mdl_growsPages_p2 n σ x0 x1 x2 x3)
  | 0, σ, x0, x1, x2, x3 => by rw [Mdl_growsPages_p2]; exact G.nul
  | n + 1, σ, x0, x1, x2, x3 => by
    rw [Mdl_growsPages_p2]
    refine g_iload_n 3 3 dX17_growsPages_2 rfl rfl ?_
    refine g_iload_n 2 2 dX17_growsPages_3 rfl rfl ?_
    refine g_icmp_ge 56 dX17_growsPages_4 (by decide) ?_ ?_
    · exact g_return rfl dX17_growsPages_56
    · refine g_aload_n 0 0 dX17_growsPages_7 rfl rfl ?_
      refine g_getR fdX17_115 dX17_growsPages_8 ?_
      refine g_bipush (v := 8) dX17_growsPages_11 (by decide) ?_
      refine g_iload_n 1 1 dX17_growsPages_13 rfl rfl ?_
      refine g_imul dX17_growsPages_14 ?_
      refine g_aload_n 0 0 dX17_growsPages_15 rfl rfl ?_
      refine g_getR fdX17_109 dX17_growsPages_16 ?_
      refine g_iload_n 1 1 dX17_growsPages_19 rfl rfl ?_
      refine g_iaload dX17_growsPages_20 ?_
      refine g_iadd dX17_growsPages_21 ?_
      refine g_bipush (v := 8) dX17_growsPages_22 (by decide) ?_
      refine g_aload_n 0 0 dX17_growsPages_24 rfl rfl ?_
      refine g_getI fdX17_106 dX17_growsPages_25 ?_
      refine g_isub dX17_growsPages_28 ?_
      refine g_iastore dX17_growsPages_29 (fun σ1 => ?_)
      refine g_aload_n 0 0 dX17_growsPages_30 rfl rfl ?_
      refine g_getR fdX17_109 dX17_growsPages_31 ?_
      refine g_iload_n 1 1 dX17_growsPages_34 rfl rfl ?_
      refine g_dup2_11 dX17_growsPages_35 rfl rfl ?_
      refine g_iaload dX17_growsPages_36 ?_
      refine g_iconst (v := 1) dX17_growsPages_37 (by decide) ?_
      refine g_iadd dX17_growsPages_38 ?_
      refine g_iastore dX17_growsPages_39 (fun σ2 => ?_)
      refine g_aload_n 0 0 dX17_growsPages_40 rfl rfl ?_
      refine g_dup dX17_growsPages_41 rfl ?_
      refine g_getI fdX17_106 dX17_growsPages_42 ?_
      refine g_iconst (v := 1) dX17_growsPages_45 (by decide) ?_
      refine g_isub dX17_growsPages_46 ?_
      refine g_putI fpX17_106 dX17_growsPages_47 (fun σ3 => ?_)
      refine g_iincB (w := 1) 3 dX17_growsPages_50 rfl (by decide) (by decide) (fun _ => rfl) (fun y4 => ?_)
      refine g_goto 2 dX17_growsPages_53 (by decide) ?_
      refine G.sub [1, 2, 3, 0] rfl ?_
      exact gX17_growsPages_p2 n _ _ _ _ _
def V.Mdl_growsPages (σ : HS) (x0 : Nat) (x1 : Int32) (x2 : Int32) : Option (Unit × HS) :=
  Mdl_growsPages_p2 FU σ x0 x1 x2 (0 : Int32)
theorem V.ctX17_growsPages (x0 : Nat) (x1 : Int32) (x2 : Int32) : Ct yX17_growsPages  cX17_growsPages 4 none 0 0 eV [av x0, iv x1, iv x2] (fun σ => Mdl_growsPages σ x0 x1 x2) := by
  refine Ct.of (own := RX17) (nm := "growsPages") (desc := "(II)V") rfl (by decide) (Nat.le_of_ble_eq_true rfl) (by decide) (fun X σ => ?_)
  show G X RX17 "growsPages" cX17_growsPages 4 none 0 0 enV 0 [(0, av x0), (1, iv x1), (2, iv x2)] [] σ (Mdl_growsPages σ x0 x1 x2)
  unfold Mdl_growsPages
  refine g_iconst (v := 0) dX17_growsPages_0 (by decide) ?_
  refine g_istore_n 3 dX17_growsPages_1 rfl (by decide) rfl ?_
  refine G.sub [1, 2, 3, 0] rfl ?_
  exact gX17_growsPages_p2 FU _ _ _ _ _
theorem V.dX17_bytesAt_0 : decode cX17_bytesAt 0 = .ok (.lconst 0, 1) := by decide +kernel
theorem V.dX17_bytesAt_1 : decode cX17_bytesAt 1 = .ok (.lstore_n 2, 1) := by decide +kernel
theorem V.dX17_bytesAt_2 : decode cX17_bytesAt 2 = .ok (.iconst 0, 1) := by decide +kernel
theorem V.dX17_bytesAt_3 : decode cX17_bytesAt 3 = .ok (.istore 4, 2) := by decide +kernel
theorem V.dX17_bytesAt_5 : decode cX17_bytesAt 5 = .ok (.iload 4, 2) := by decide +kernel
theorem V.dX17_bytesAt_7 : decode cX17_bytesAt 7 = .ok (.iload_n 1, 1) := by decide +kernel
theorem V.dX17_bytesAt_8 : decode cX17_bytesAt 8 = .ok (.if_icmp .ge 33, 3) := by decide +kernel
theorem V.dX17_bytesAt_11 : decode cX17_bytesAt 11 = .ok (.lload_n 2, 1) := by decide +kernel
theorem V.dX17_bytesAt_12 : decode cX17_bytesAt 12 = .ok (.aload_n 0, 1) := by decide +kernel
theorem V.dX17_bytesAt_13 : decode cX17_bytesAt 13 = .ok (.getfield 221, 3) := by decide +kernel
theorem V.dX17_bytesAt_16 : decode cX17_bytesAt 16 = .ok (.aload_n 0, 1) := by decide +kernel
theorem V.dX17_bytesAt_17 : decode cX17_bytesAt 17 = .ok (.getfield 594, 3) := by decide +kernel
theorem V.dX17_bytesAt_20 : decode cX17_bytesAt 20 = .ok (.iload 4, 2) := by decide +kernel
theorem V.dX17_bytesAt_22 : decode cX17_bytesAt 22 = .ok (.iadd, 1) := by decide +kernel
theorem V.dX17_bytesAt_23 : decode cX17_bytesAt 23 = .ok (.invokevirtual 261, 3) := by decide +kernel
theorem V.dX17_bytesAt_26 : decode cX17_bytesAt 26 = .ok (.i2l, 1) := by decide +kernel
theorem V.dX17_bytesAt_27 : decode cX17_bytesAt 27 = .ok (.bipush 8, 2) := by decide +kernel
theorem V.dX17_bytesAt_29 : decode cX17_bytesAt 29 = .ok (.iload 4, 2) := by decide +kernel
theorem V.dX17_bytesAt_31 : decode cX17_bytesAt 31 = .ok (.imul, 1) := by decide +kernel
theorem V.dX17_bytesAt_32 : decode cX17_bytesAt 32 = .ok (.lshl, 1) := by decide +kernel
theorem V.dX17_bytesAt_33 : decode cX17_bytesAt 33 = .ok (.lor, 1) := by decide +kernel
theorem V.dX17_bytesAt_34 : decode cX17_bytesAt 34 = .ok (.lstore_n 2, 1) := by decide +kernel
theorem V.dX17_bytesAt_35 : decode cX17_bytesAt 35 = .ok (.iinc 4 1, 3) := by decide +kernel
theorem V.dX17_bytesAt_38 : decode cX17_bytesAt 38 = .ok (.goto (-33), 3) := by decide +kernel
theorem V.dX17_bytesAt_41 : decode cX17_bytesAt 41 = .ok (.aload_n 0, 1) := by decide +kernel
theorem V.dX17_bytesAt_42 : decode cX17_bytesAt 42 = .ok (.dup, 1) := by decide +kernel
theorem V.dX17_bytesAt_43 : decode cX17_bytesAt 43 = .ok (.getfield 594, 3) := by decide +kernel
theorem V.dX17_bytesAt_46 : decode cX17_bytesAt 46 = .ok (.iload_n 1, 1) := by decide +kernel
theorem V.dX17_bytesAt_47 : decode cX17_bytesAt 47 = .ok (.iadd, 1) := by decide +kernel
theorem V.dX17_bytesAt_48 : decode cX17_bytesAt 48 = .ok (.putfield 594, 3) := by decide +kernel
theorem V.dX17_bytesAt_51 : decode cX17_bytesAt 51 = .ok (.lload_n 2, 1) := by decide +kernel
theorem V.dX17_bytesAt_52 : decode cX17_bytesAt 52 = .ok (.lreturn, 1) := by decide +kernel
/-! ModuleEngineModel.bytesAt(I)J -/
def V.Mdl_bytesAt_p5  : Nat → HS → Nat → Int32 → Int64 → Int32 → Option (Int64 × HS)
  | 0, _, _, _, _, _ => none
  | n + 1, σ, x0, x1, x2, x4 =>
    if x1 ≤ x4 then (
      ck (tg σ x0 = 18) <|
      ck (tg σ x0 = 18) <| bn (sI σ x0 19 ((gI σ x0 19) + x1)) fun σ1 =>
      some (x2, σ1))
    else (
      ck (tg σ x0 = 18) <|
      ck (tg σ x0 = 18) <|
      ck (tg σ (gR σ x0 10) = 21) <| cl (Pln_at σ (gR σ x0 10) ((gI σ x0 19) + x4)) fun r3 σ2 =>
      bn (x2 ||| (lshl r3.toInt64 ((8 : Int32) * x4))) fun y4 =>
      bn (x4 + (1 : Int32)) fun y5 =>
      Mdl_bytesAt_p5 n σ2 x0 x1 y4 y5)
theorem V.gX17_bytesAt_p5 {X : CX}  : ∀ (n : Nat) (σ : HS) (x0 : Nat) (x1 : Int32) (x2 : Int64) (x4 : Int32), G X RX17 "bytesAt" cX17_bytesAt 5 (some .long) 1 21 enJ 5 [(0, av x0), (1, iv x1), (2, jv x2), (4, iv x4)] [] σ (Mdl_bytesAt_p5 n σ x0 x1 x2 x4)
  | 0, σ, x0, x1, x2, x4 => by rw [Mdl_bytesAt_p5]; exact G.nul
  | n + 1, σ, x0, x1, x2, x4 => by
    rw [Mdl_bytesAt_p5]
    refine g_iload 3 dX17_bytesAt_5 rfl ?_
    refine g_iload_n 1 1 dX17_bytesAt_7 rfl rfl ?_
    refine g_icmp_ge 41 dX17_bytesAt_8 (by decide) ?_ ?_
    · refine g_aload_n 0 0 dX17_bytesAt_41 rfl rfl ?_
      refine g_dup dX17_bytesAt_42 rfl ?_
      refine g_getI fdX17_594 dX17_bytesAt_43 ?_
      refine g_iload_n 1 1 dX17_bytesAt_46 rfl rfl ?_
      refine g_iadd dX17_bytesAt_47 ?_
      refine g_putI fpX17_594 dX17_bytesAt_48 (fun σ1 => ?_)
      refine g_lload_n 2 2 dX17_bytesAt_51 rfl rfl ?_
      exact g_lreturn rfl dX17_bytesAt_52
    · refine g_lload_n 2 2 dX17_bytesAt_11 rfl rfl ?_
      refine g_aload_n 0 0 dX17_bytesAt_12 rfl rfl ?_
      refine g_getR fdX17_221 dX17_bytesAt_13 ?_
      refine g_aload_n 0 0 dX17_bytesAt_16 rfl rfl ?_
      refine g_getI fdX17_594 dX17_bytesAt_17 ?_
      refine g_iload 3 dX17_bytesAt_20 rfl ?_
      refine g_iadd dX17_bytesAt_22 ?_
      refine g_callV (fc := fun sς => Pln_at sς (gR σ x0 10) ((gI σ x0 19) + x4)) (ci := 20) (as := [iv ((gI σ x0 19) + x4)]) rfl rfl rfl q3609 q3610 mdX17_261 (ctX20_at (gR σ x0 10) ((gI σ x0 19) + x4)) rfl (Nat.le_of_ble_eq_true rfl) (Nat.le_of_ble_eq_true rfl) (Nat.le_of_ble_eq_true rfl) pu_I dX17_bytesAt_23 (fun r3 σ2 => ?_)
      refine g_i2l dX17_bytesAt_26 ?_
      refine g_bipush (v := 8) dX17_bytesAt_27 (by decide) ?_
      refine g_iload 3 dX17_bytesAt_29 rfl ?_
      refine g_imul dX17_bytesAt_31 ?_
      refine g_lshl dX17_bytesAt_32 ?_
      refine g_lor dX17_bytesAt_33 ?_
      refine g_nmJ (fun y4 => ?_)
      refine g_lstore_n 2 dX17_bytesAt_34 rfl (by decide) rfl ?_
      refine g_iincB (w := 1) 3 dX17_bytesAt_35 rfl (by decide) (by decide) (fun _ => rfl) (fun y5 => ?_)
      refine g_goto 5 dX17_bytesAt_38 (by decide) ?_
      refine G.sub [2, 3, 1, 0] rfl ?_
      exact gX17_bytesAt_p5 n _ _ _ _ _
def V.Mdl_bytesAt (σ : HS) (x0 : Nat) (x1 : Int32) : Option (Int64 × HS) :=
  Mdl_bytesAt_p5 FU σ x0 x1 (0 : Int64) (0 : Int32)
theorem V.ctX17_bytesAt (x0 : Nat) (x1 : Int32) : Ct yX17_bytesAt  cX17_bytesAt 5 (some .long) 1 21 eJ [av x0, iv x1] (fun σ => Mdl_bytesAt σ x0 x1) := by
  refine Ct.of (own := RX17) (nm := "bytesAt") (desc := "(I)J") rfl (by decide) (Nat.le_of_ble_eq_true rfl) (by decide) (fun X σ => ?_)
  show G X RX17 "bytesAt" cX17_bytesAt 5 (some .long) 1 21 enJ 0 [(0, av x0), (1, iv x1)] [] σ (Mdl_bytesAt σ x0 x1)
  unfold Mdl_bytesAt
  refine g_lconst (v := 0) dX17_bytesAt_0 (by decide) ?_
  refine g_lstore_n 2 dX17_bytesAt_1 rfl (by decide) rfl ?_
  refine g_iconst (v := 0) dX17_bytesAt_2 (by decide) ?_
  refine g_istore dX17_bytesAt_3 (by decide) rfl ?_
  refine G.sub [2, 3, 1, 0] rfl ?_
  exact gX17_bytesAt_p5 FU _ _ _ _ _
theorem V.dX17_constant_0 : decode cX17_constant 0 = .ok (.lconst 0, 1) := by decide +kernel
theorem V.dX17_constant_1 : decode cX17_constant 1 = .ok (.lstore_n 3, 1) := by decide +kernel
theorem V.dX17_constant_2 : decode cX17_constant 2 = .ok (.aload_n 0, 1) := by decide +kernel
theorem V.dX17_constant_3 : decode cX17_constant 3 = .ok (.iload_n 2, 1) := by decide +kernel
theorem V.dX17_constant_4 : decode cX17_constant 4 = .ok (.putfield 594, 3) := by decide +kernel
theorem V.dX17_constant_7 : decode cX17_constant 7 = .ok (.aload_n 0, 1) := by decide +kernel
theorem V.dX17_constant_8 : decode cX17_constant 8 = .ok (.getfield 221, 3) := by decide +kernel
theorem V.dX17_constant_11 : decode cX17_constant 11 = .ok (.aload_n 0, 1) := by decide +kernel
theorem V.dX17_constant_12 : decode cX17_constant 12 = .ok (.getfield 594, 3) := by decide +kernel
theorem V.dX17_constant_15 : decode cX17_constant 15 = .ok (.invokevirtual 261, 3) := by decide +kernel
theorem V.dX17_constant_18 : decode cX17_constant 18 = .ok (.bipush 11, 2) := by decide +kernel
theorem V.dX17_constant_20 : decode cX17_constant 20 = .ok (.if_icmp .eq 174, 3) := by decide +kernel
theorem V.dX17_constant_23 : decode cX17_constant 23 = .ok (.aload_n 0, 1) := by decide +kernel
theorem V.dX17_constant_24 : decode cX17_constant 24 = .ok (.getfield 221, 3) := by decide +kernel
theorem V.dX17_constant_27 : decode cX17_constant 27 = .ok (.aload_n 0, 1) := by decide +kernel
theorem V.dX17_constant_28 : decode cX17_constant 28 = .ok (.getfield 594, 3) := by decide +kernel
theorem V.dX17_constant_31 : decode cX17_constant 31 = .ok (.invokevirtual 261, 3) := by decide +kernel
theorem V.dX17_constant_34 : decode cX17_constant 34 = .ok (.istore 5, 2) := by decide +kernel
theorem V.dX17_constant_36 : decode cX17_constant 36 = .ok (.aload_n 0, 1) := by decide +kernel
theorem V.dX17_constant_37 : decode cX17_constant 37 = .ok (.dup, 1) := by decide +kernel
theorem V.dX17_constant_38 : decode cX17_constant 38 = .ok (.getfield 594, 3) := by decide +kernel
theorem V.dX17_constant_41 : decode cX17_constant 41 = .ok (.iconst 1, 1) := by decide +kernel
theorem V.dX17_constant_42 : decode cX17_constant 42 = .ok (.iadd, 1) := by decide +kernel
theorem V.dX17_constant_43 : decode cX17_constant 43 = .ok (.putfield 594, 3) := by decide +kernel
theorem V.dX17_constant_46 : decode cX17_constant 46 = .ok (.iload 5, 2) := by decide +kernel
theorem V.dX17_constant_48 : decode cX17_constant 48 = .ok (.bipush 65, 2) := by decide +kernel
theorem V.dX17_constant_50 : decode cX17_constant 50 = .ok (.if_icmp .eq 10, 3) := by decide +kernel
theorem V.dX17_constant_53 : decode cX17_constant 53 = .ok (.iload 5, 2) := by decide +kernel
theorem V.dX17_constant_55 : decode cX17_constant 55 = .ok (.bipush 66, 2) := by decide +kernel
theorem V.dX17_constant_57 : decode cX17_constant 57 = .ok (.if_icmp .ne 29, 3) := by decide +kernel
theorem V.dX17_constant_60 : decode cX17_constant 60 = .ok (.iload 5, 2) := by decide +kernel
theorem V.dX17_constant_62 : decode cX17_constant 62 = .ok (.bipush 65, 2) := by decide +kernel
theorem V.dX17_constant_64 : decode cX17_constant 64 = .ok (.if_icmp .ne 14, 3) := by decide +kernel
theorem V.dX17_constant_67 : decode cX17_constant 67 = .ok (.aload_n 0, 1) := by decide +kernel
theorem V.dX17_constant_68 : decode cX17_constant 68 = .ok (.invokevirtual 597, 3) := by decide +kernel
theorem V.dX17_constant_71 : decode cX17_constant 71 = .ok (.ldc2_w 513, 3) := by decide +kernel
theorem V.dX17_constant_74 : decode cX17_constant 74 = .ok (.land, 1) := by decide +kernel
theorem V.dX17_constant_75 : decode cX17_constant 75 = .ok (.goto 7, 3) := by decide +kernel
theorem V.dX17_constant_78 : decode cX17_constant 78 = .ok (.aload_n 0, 1) := by decide +kernel
theorem V.dX17_constant_79 : decode cX17_constant 79 = .ok (.invokevirtual 597, 3) := by decide +kernel
theorem V.dX17_constant_82 : decode cX17_constant 82 = .ok (.lstore_n 3, 1) := by decide +kernel
theorem V.dX17_constant_83 : decode cX17_constant 83 = .ok (.goto 108, 3) := by decide +kernel
theorem V.dX17_constant_86 : decode cX17_constant 86 = .ok (.iload 5, 2) := by decide +kernel
theorem V.dX17_constant_88 : decode cX17_constant 88 = .ok (.bipush 67, 2) := by decide +kernel
theorem V.dX17_constant_90 : decode cX17_constant 90 = .ok (.if_icmp .eq 10, 3) := by decide +kernel
theorem V.dX17_constant_93 : decode cX17_constant 93 = .ok (.iload 5, 2) := by decide +kernel
theorem V.dX17_constant_95 : decode cX17_constant 95 = .ok (.bipush 68, 2) := by decide +kernel
theorem V.dX17_constant_97 : decode cX17_constant 97 = .ok (.if_icmp .ne 24, 3) := by decide +kernel
theorem V.dX17_constant_100 : decode cX17_constant 100 = .ok (.aload_n 0, 1) := by decide +kernel
theorem V.dX17_constant_101 : decode cX17_constant 101 = .ok (.iload 5, 2) := by decide +kernel
theorem V.dX17_constant_103 : decode cX17_constant 103 = .ok (.bipush 67, 2) := by decide +kernel
theorem V.dX17_constant_105 : decode cX17_constant 105 = .ok (.if_icmp .ne 7, 3) := by decide +kernel
theorem V.dX17_constant_108 : decode cX17_constant 108 = .ok (.iconst 4, 1) := by decide +kernel
theorem V.dX17_constant_109 : decode cX17_constant 109 = .ok (.goto 5, 3) := by decide +kernel
theorem V.dX17_constant_112 : decode cX17_constant 112 = .ok (.bipush 8, 2) := by decide +kernel
theorem V.dX17_constant_114 : decode cX17_constant 114 = .ok (.invokevirtual 1027, 3) := by decide +kernel
theorem V.dX17_constant_117 : decode cX17_constant 117 = .ok (.lstore_n 3, 1) := by decide +kernel
theorem V.dX17_constant_118 : decode cX17_constant 118 = .ok (.goto 73, 3) := by decide +kernel
theorem V.dX17_constant_121 : decode cX17_constant 121 = .ok (.iload 5, 2) := by decide +kernel
theorem V.dX17_constant_123 : decode cX17_constant 123 = .ok (.sipush 208, 3) := by decide +kernel
theorem V.dX17_constant_126 : decode cX17_constant 126 = .ok (.if_icmp .ne 20, 3) := by decide +kernel
theorem V.dX17_constant_129 : decode cX17_constant 129 = .ok (.aload_n 0, 1) := by decide +kernel
theorem V.dX17_constant_130 : decode cX17_constant 130 = .ok (.dup, 1) := by decide +kernel
theorem V.dX17_constant_131 : decode cX17_constant 131 = .ok (.getfield 594, 3) := by decide +kernel
theorem V.dX17_constant_134 : decode cX17_constant 134 = .ok (.iconst 1, 1) := by decide +kernel
theorem V.dX17_constant_135 : decode cX17_constant 135 = .ok (.iadd, 1) := by decide +kernel
theorem V.dX17_constant_136 : decode cX17_constant 136 = .ok (.putfield 594, 3) := by decide +kernel
theorem V.dX17_constant_139 : decode cX17_constant 139 = .ok (.ldc2_w 268, 3) := by decide +kernel
theorem V.dX17_constant_142 : decode cX17_constant 142 = .ok (.lstore_n 3, 1) := by decide +kernel
theorem V.dX17_constant_143 : decode cX17_constant 143 = .ok (.goto 48, 3) := by decide +kernel
theorem V.dX17_constant_146 : decode cX17_constant 146 = .ok (.sipush 128, 3) := by decide +kernel
theorem V.dX17_constant_149 : decode cX17_constant 149 = .ok (.iload_n 1, 1) := by decide +kernel
theorem V.dX17_constant_150 : decode cX17_constant 150 = .ok (.imul, 1) := by decide +kernel
theorem V.dX17_constant_151 : decode cX17_constant 151 = .ok (.aload_n 0, 1) := by decide +kernel
theorem V.dX17_constant_152 : decode cX17_constant 152 = .ok (.invokevirtual 603, 3) := by decide +kernel
theorem V.dX17_constant_155 : decode cX17_constant 155 = .ok (.l2i, 1) := by decide +kernel
theorem V.dX17_constant_156 : decode cX17_constant 156 = .ok (.iadd, 1) := by decide +kernel
theorem V.dX17_constant_157 : decode cX17_constant 157 = .ok (.istore 6, 2) := by decide +kernel
theorem V.dX17_constant_159 : decode cX17_constant 159 = .ok (.iload 5, 2) := by decide +kernel
theorem V.dX17_constant_161 : decode cX17_constant 161 = .ok (.sipush 210, 3) := by decide +kernel
theorem V.dX17_constant_164 : decode cX17_constant 164 = .ok (.if_icmp .ne 14, 3) := by decide +kernel
theorem V.dX17_constant_167 : decode cX17_constant 167 = .ok (.aload_n 0, 1) := by decide +kernel
theorem V.dX17_constant_168 : decode cX17_constant 168 = .ok (.getfield 134, 3) := by decide +kernel
theorem V.dX17_constant_171 : decode cX17_constant 171 = .ok (.iload 6, 2) := by decide +kernel
theorem V.dX17_constant_173 : decode cX17_constant 173 = .ok (.iaload, 1) := by decide +kernel
theorem V.dX17_constant_174 : decode cX17_constant 174 = .ok (.i2l, 1) := by decide +kernel
theorem V.dX17_constant_175 : decode cX17_constant 175 = .ok (.goto 15, 3) := by decide +kernel
theorem V.dX17_constant_178 : decode cX17_constant 178 = .ok (.aload_n 0, 1) := by decide +kernel
theorem V.dX17_constant_179 : decode cX17_constant 179 = .ok (.getfield 128, 3) := by decide +kernel
theorem V.dX17_constant_182 : decode cX17_constant 182 = .ok (.aload_n 0, 1) := by decide +kernel
theorem V.dX17_constant_183 : decode cX17_constant 183 = .ok (.getfield 143, 3) := by decide +kernel
theorem V.dX17_constant_186 : decode cX17_constant 186 = .ok (.iload 6, 2) := by decide +kernel
theorem V.dX17_constant_188 : decode cX17_constant 188 = .ok (.iaload, 1) := by decide +kernel
theorem V.dX17_constant_189 : decode cX17_constant 189 = .ok (.laload, 1) := by decide +kernel
theorem V.dX17_constant_190 : decode cX17_constant 190 = .ok (.lstore_n 3, 1) := by decide +kernel
theorem V.dX17_constant_191 : decode cX17_constant 191 = .ok (.goto (-184), 3) := by decide +kernel
theorem V.dX17_constant_194 : decode cX17_constant 194 = .ok (.aload_n 0, 1) := by decide +kernel
theorem V.dX17_constant_195 : decode cX17_constant 195 = .ok (.dup, 1) := by decide +kernel
theorem V.dX17_constant_196 : decode cX17_constant 196 = .ok (.getfield 594, 3) := by decide +kernel
theorem V.dX17_constant_199 : decode cX17_constant 199 = .ok (.iconst 1, 1) := by decide +kernel
theorem V.dX17_constant_200 : decode cX17_constant 200 = .ok (.iadd, 1) := by decide +kernel
theorem V.dX17_constant_201 : decode cX17_constant 201 = .ok (.putfield 594, 3) := by decide +kernel
theorem V.dX17_constant_204 : decode cX17_constant 204 = .ok (.lload_n 3, 1) := by decide +kernel
theorem V.dX17_constant_205 : decode cX17_constant 205 = .ok (.lreturn, 1) := by decide +kernel
theorem V.fdX17_128 : FD RX17 128 17 61 2 := ⟨(RX17, TX17, 101), tyX17, rfl, rfl, in_X17, by decide, Or.inl q3097, rfl⟩
theorem V.mdX17_1027 : MD RX17 1027 yX17_bytesAt cX17_bytesAt 5 (some .long) 1 := ⟨Or.inl q4070, q377, q4073, by decide, by decide, by decide +kernel⟩
/-! ModuleEngineModel.constant(II)J -/
def V.Mdl_constant_p82 (rec7 : HS → Nat → Int32 → Int64 → Option (Int64 × HS)) (σ : HS) (x0 : Nat) (x1 : Int32) (s0 : Int64) : Option (Int64 × HS) :=
  rec7 σ x0 x1 s0
theorem V.gX17_constant_p82 {X : CX} (rec7 : HS → Nat → Int32 → Int64 → Option (Int64 × HS)) (hrec7 : ∀ (σ : HS) (x0 : Nat) (x1 : Int32) (x3 : Int64), G X RX17 "constant" cX17_constant 7 (some .long) 2 45 enJ 7 [(0, av x0), (1, iv x1), (3, jv x3)] [] σ (rec7 σ x0 x1 x3)) (σ : HS) (x0 : Nat) (x1 : Int32) (s0 : Int64) : G X RX17 "constant" cX17_constant 7 (some .long) 2 45 enJ 82 [(0, av x0), (1, iv x1)] [jv s0] σ (Mdl_constant_p82 rec7 σ x0 x1 s0) := by
  unfold Mdl_constant_p82
  refine g_lstore_n 3 dX17_constant_82 rfl (by decide) rfl ?_
  refine g_goto 191 dX17_constant_83 (by decide) ?_
  refine g_goto 7 dX17_constant_191 (by decide) ?_
  refine G.sub [1, 2, 0] rfl ?_
  exact hrec7 _ _ _ _
def V.Mdl_constant_p60 (rec7 : HS → Nat → Int32 → Int64 → Option (Int64 × HS)) (σ : HS) (x0 : Nat) (x1 : Int32) (x5 : Int32) : Option (Int64 × HS) :=
  if x5 = (65 : Int32) then (
    ck (tg σ x0 = 18) <| cl (Mdl_signedWord σ x0 ) fun r4 σ3 =>
    Mdl_constant_p82 rec7 σ3 x0 x1 (r4 &&& (4294967295 : Int64)))
  else (
    ck (tg σ x0 = 18) <| cl (Mdl_signedWord σ x0 ) fun r2 σ1 =>
    Mdl_constant_p82 rec7 σ1 x0 x1 r2)
theorem V.gX17_constant_p60 {X : CX} (rec7 : HS → Nat → Int32 → Int64 → Option (Int64 × HS)) (hrec7 : ∀ (σ : HS) (x0 : Nat) (x1 : Int32) (x3 : Int64), G X RX17 "constant" cX17_constant 7 (some .long) 2 45 enJ 7 [(0, av x0), (1, iv x1), (3, jv x3)] [] σ (rec7 σ x0 x1 x3)) (σ : HS) (x0 : Nat) (x1 : Int32) (x5 : Int32) : G X RX17 "constant" cX17_constant 7 (some .long) 2 45 enJ 60 [(0, av x0), (1, iv x1), (5, iv x5)] [] σ (Mdl_constant_p60 rec7 σ x0 x1 x5) := by
  unfold Mdl_constant_p60
  refine g_iload 2 dX17_constant_60 rfl ?_
  refine g_bipush (v := 65) dX17_constant_62 (by decide) ?_
  refine g_icmp_ne 78 dX17_constant_64 (by decide) ?_ ?_
  · refine g_aload_n 0 0 dX17_constant_78 rfl rfl ?_
    refine g_callV (fc := fun sς => Mdl_signedWord sς x0 ) (ci := 17) (as := []) rfl rfl rfl q3830 qs254 mdX17_597 (ctX17_signedWord x0 ) rfl (Nat.le_of_ble_eq_true rfl) (Nat.le_of_ble_eq_true rfl) (Nat.le_of_ble_eq_true rfl) pu_J dX17_constant_79 (fun r2 σ1 => ?_)
    refine G.sub [0, 1] rfl ?_
    exact gX17_constant_p82 rec7 hrec7 _ _ _ _
  · refine g_aload_n 0 0 dX17_constant_67 rfl rfl ?_
    refine g_callV (fc := fun sς => Mdl_signedWord sς x0 ) (ci := 17) (as := []) rfl rfl rfl q3830 qs254 mdX17_597 (ctX17_signedWord x0 ) rfl (Nat.le_of_ble_eq_true rfl) (Nat.le_of_ble_eq_true rfl) (Nat.le_of_ble_eq_true rfl) pu_J dX17_constant_68 (fun r4 σ3 => ?_)
    refine g_ldc2 q3756 dX17_constant_71 ?_
    refine g_land dX17_constant_74 ?_
    refine g_goto 82 dX17_constant_75 (by decide) ?_
    refine G.sub [0, 1] rfl ?_
    exact gX17_constant_p82 rec7 hrec7 _ _ _ _
def V.Mdl_constant_p114 (rec7 : HS → Nat → Int32 → Int64 → Option (Int64 × HS)) (σ : HS) (x0 : Nat) (x1 : Int32) (s0 : Int32) (s1 : Nat) : Option (Int64 × HS) :=
  ck (tg σ s1 = 18) <| cl (Mdl_bytesAt σ s1 s0) fun r2 σ1 =>
  rec7 σ1 x0 x1 r2
theorem V.gX17_constant_p114 {X : CX} (rec7 : HS → Nat → Int32 → Int64 → Option (Int64 × HS)) (hrec7 : ∀ (σ : HS) (x0 : Nat) (x1 : Int32) (x3 : Int64), G X RX17 "constant" cX17_constant 7 (some .long) 2 45 enJ 7 [(0, av x0), (1, iv x1), (3, jv x3)] [] σ (rec7 σ x0 x1 x3)) (σ : HS) (x0 : Nat) (x1 : Int32) (s0 : Int32) (s1 : Nat) : G X RX17 "constant" cX17_constant 7 (some .long) 2 45 enJ 114 [(0, av x0), (1, iv x1)] [iv s0, av s1] σ (Mdl_constant_p114 rec7 σ x0 x1 s0 s1) := by
  unfold Mdl_constant_p114
  refine g_callV (fc := fun sς => Mdl_bytesAt sς s1 s0) (ci := 17) (as := [iv s0]) rfl rfl rfl q4072 qs304 mdX17_1027 (ctX17_bytesAt s1 s0) rfl (Nat.le_of_ble_eq_true rfl) (Nat.le_of_ble_eq_true rfl) (Nat.le_of_ble_eq_true rfl) pu_J dX17_constant_114 (fun r2 σ1 => ?_)
  refine g_lstore_n 3 dX17_constant_117 rfl (by decide) rfl ?_
  refine g_goto 191 dX17_constant_118 (by decide) ?_
  refine g_goto 7 dX17_constant_191 (by decide) ?_
  refine G.sub [1, 2, 0] rfl ?_
  exact hrec7 _ _ _ _
def V.Mdl_constant_p100 (rec7 : HS → Nat → Int32 → Int64 → Option (Int64 × HS)) (σ : HS) (x0 : Nat) (x1 : Int32) (x5 : Int32) : Option (Int64 × HS) :=
  if x5 = (67 : Int32) then (
    Mdl_constant_p114 rec7 σ x0 x1 (4 : Int32) x0)
  else (
    Mdl_constant_p114 rec7 σ x0 x1 (8 : Int32) x0)
theorem V.gX17_constant_p100 {X : CX} (rec7 : HS → Nat → Int32 → Int64 → Option (Int64 × HS)) (hrec7 : ∀ (σ : HS) (x0 : Nat) (x1 : Int32) (x3 : Int64), G X RX17 "constant" cX17_constant 7 (some .long) 2 45 enJ 7 [(0, av x0), (1, iv x1), (3, jv x3)] [] σ (rec7 σ x0 x1 x3)) (σ : HS) (x0 : Nat) (x1 : Int32) (x5 : Int32) : G X RX17 "constant" cX17_constant 7 (some .long) 2 45 enJ 100 [(0, av x0), (1, iv x1), (5, iv x5)] [] σ (Mdl_constant_p100 rec7 σ x0 x1 x5) := by
  unfold Mdl_constant_p100
  refine g_aload_n 0 0 dX17_constant_100 rfl rfl ?_
  refine g_iload 2 dX17_constant_101 rfl ?_
  refine g_bipush (v := 67) dX17_constant_103 (by decide) ?_
  refine g_icmp_ne 112 dX17_constant_105 (by decide) ?_ ?_
  · refine g_bipush (v := 8) dX17_constant_112 (by decide) ?_
    refine G.sub [0, 1] rfl ?_
    exact gX17_constant_p114 rec7 hrec7 _ _ _ _ _
  · refine g_iconst (v := 4) dX17_constant_108 (by decide) ?_
    refine g_goto 114 dX17_constant_109 (by decide) ?_
    refine G.sub [0, 1] rfl ?_
    exact gX17_constant_p114 rec7 hrec7 _ _ _ _ _
def V.Mdl_constant_p190 (rec7 : HS → Nat → Int32 → Int64 → Option (Int64 × HS)) (σ : HS) (x0 : Nat) (x1 : Int32) (s0 : Int64) : Option (Int64 × HS) :=
  rec7 σ x0 x1 s0
theorem V.gX17_constant_p190 {X : CX} (rec7 : HS → Nat → Int32 → Int64 → Option (Int64 × HS)) (hrec7 : ∀ (σ : HS) (x0 : Nat) (x1 : Int32) (x3 : Int64), G X RX17 "constant" cX17_constant 7 (some .long) 2 45 enJ 7 [(0, av x0), (1, iv x1), (3, jv x3)] [] σ (rec7 σ x0 x1 x3)) (σ : HS) (x0 : Nat) (x1 : Int32) (s0 : Int64) : G X RX17 "constant" cX17_constant 7 (some .long) 2 45 enJ 190 [(0, av x0), (1, iv x1)] [jv s0] σ (Mdl_constant_p190 rec7 σ x0 x1 s0) := by
  unfold Mdl_constant_p190
  refine g_lstore_n 3 dX17_constant_190 rfl (by decide) rfl ?_
  refine g_goto 7 dX17_constant_191 (by decide) ?_
  refine G.sub [1, 2, 0] rfl ?_
  exact hrec7 _ _ _ _
def V.Mdl_constant_p7  : Nat → HS → Nat → Int32 → Int64 → Option (Int64 × HS)
  | 0, _, _, _, _ => none
  | n + 1, σ, x0, x1, x3 =>
    ck (tg σ x0 = 18) <|
    ck (tg σ x0 = 18) <|
    ck (tg σ (gR σ x0 10) = 21) <| cl (Pln_at σ (gR σ x0 10) (gI σ x0 19)) fun r2 σ1 =>
    if r2 = (11 : Int32) then (
      ck (tg σ1 x0 = 18) <|
      ck (tg σ1 x0 = 18) <| bn (sI σ1 x0 19 ((gI σ1 x0 19) + (1 : Int32))) fun σ3 =>
      some (x3, σ3))
    else (
      ck (tg σ1 x0 = 18) <|
      ck (tg σ1 x0 = 18) <|
      ck (tg σ1 (gR σ1 x0 10) = 21) <| cl (Pln_at σ1 (gR σ1 x0 10) (gI σ1 x0 19)) fun r5 σ4 =>
      ck (tg σ4 x0 = 18) <|
      ck (tg σ4 x0 = 18) <| bn (sI σ4 x0 19 ((gI σ4 x0 19) + (1 : Int32))) fun σ6 =>
      if r5 = (65 : Int32) then (
        Mdl_constant_p60 (Mdl_constant_p7 n) σ6 x0 x1 r5)
      else (
        if r5 = (66 : Int32) then (
          Mdl_constant_p60 (Mdl_constant_p7 n) σ6 x0 x1 r5)
        else (
          if r5 = (67 : Int32) then (
            Mdl_constant_p100 (Mdl_constant_p7 n) σ6 x0 x1 r5)
          else (
            if r5 = (68 : Int32) then (
              Mdl_constant_p100 (Mdl_constant_p7 n) σ6 x0 x1 r5)
            else (
              if r5 = (208 : Int32) then (
                ck (tg σ6 x0 = 18) <|
                ck (tg σ6 x0 = 18) <| bn (sI σ6 x0 19 ((gI σ6 x0 19) + (1 : Int32))) fun σ10 =>
                Mdl_constant_p7 n σ10 x0 x1 (-1 : Int64))
              else (
                ck (tg σ6 x0 = 18) <| cl (Mdl_word σ6 x0 ) fun r8 σ7 =>
                bn (((128 : Int32) * x1) + r8.toInt32) fun y9 =>
                if r5 = (210 : Int32) then (
                  ck (tg σ7 x0 = 18) <|
                  ck (tg σ7 (gR σ7 x0 64) = 100 ∧ inb y9 (ln σ7 (gR σ7 x0 64))) <|
                  Mdl_constant_p190 (Mdl_constant_p7 n) σ7 x0 x1 ((gI σ7 (gR σ7 x0 64) (ix y9)).toInt64))
                else (
                  ck (tg σ7 x0 = 18) <|
                  ck (tg σ7 x0 = 18) <|
                  ck (tg σ7 (gR σ7 x0 67) = 100 ∧ inb y9 (ln σ7 (gR σ7 x0 67))) <|
                  ck (tg σ7 (gR σ7 x0 61) = 101 ∧ inb (gI σ7 (gR σ7 x0 67) (ix y9)) (ln σ7 (gR σ7 x0 61))) <|
                  Mdl_constant_p190 (Mdl_constant_p7 n) σ7 x0 x1 (gJ σ7 (gR σ7 x0 61) (ix (gI σ7 (gR σ7 x0 67) (ix y9)))))))))))
theorem V.gX17_constant_p7 {X : CX}  : ∀ (n : Nat) (σ : HS) (x0 : Nat) (x1 : Int32) (x3 : Int64), G X RX17 "constant" cX17_constant 7 (some .long) 2 45 enJ 7 [(0, av x0), (1, iv x1), (3, jv x3)] [] σ (Mdl_constant_p7 n σ x0 x1 x3)
  | 0, σ, x0, x1, x3 => by rw [Mdl_constant_p7]; exact G.nul
  | n + 1, σ, x0, x1, x3 => by
    rw [Mdl_constant_p7]
    refine g_aload_n 0 0 dX17_constant_7 rfl rfl ?_
    refine g_getR fdX17_221 dX17_constant_8 ?_
    refine g_aload_n 0 0 dX17_constant_11 rfl rfl ?_
    refine g_getI fdX17_594 dX17_constant_12 ?_
    refine g_callV (fc := fun sς => Pln_at sς (gR σ x0 10) (gI σ x0 19)) (ci := 20) (as := [iv (gI σ x0 19)]) rfl rfl rfl q3609 q3610 mdX17_261 (ctX20_at (gR σ x0 10) (gI σ x0 19)) rfl (Nat.le_of_ble_eq_true rfl) (Nat.le_of_ble_eq_true rfl) (Nat.le_of_ble_eq_true rfl) pu_I dX17_constant_15 (fun r2 σ1 => ?_)
    refine g_bipush (v := 11) dX17_constant_18 (by decide) ?_
    refine g_icmp_eq 194 dX17_constant_20 (by decide) ?_ ?_
    · refine g_aload_n 0 0 dX17_constant_194 rfl rfl ?_
      refine g_dup dX17_constant_195 rfl ?_
      refine g_getI fdX17_594 dX17_constant_196 ?_
      refine g_iconst (v := 1) dX17_constant_199 (by decide) ?_
      refine g_iadd dX17_constant_200 ?_
      refine g_putI fpX17_594 dX17_constant_201 (fun σ3 => ?_)
      refine g_lload_n 3 2 dX17_constant_204 rfl rfl ?_
      exact g_lreturn rfl dX17_constant_205
    · refine g_aload_n 0 0 dX17_constant_23 rfl rfl ?_
      refine g_getR fdX17_221 dX17_constant_24 ?_
      refine g_aload_n 0 0 dX17_constant_27 rfl rfl ?_
      refine g_getI fdX17_594 dX17_constant_28 ?_
      refine g_callV (fc := fun sς => Pln_at sς (gR σ1 x0 10) (gI σ1 x0 19)) (ci := 20) (as := [iv (gI σ1 x0 19)]) rfl rfl rfl q3609 q3610 mdX17_261 (ctX20_at (gR σ1 x0 10) (gI σ1 x0 19)) rfl (Nat.le_of_ble_eq_true rfl) (Nat.le_of_ble_eq_true rfl) (Nat.le_of_ble_eq_true rfl) pu_I dX17_constant_31 (fun r5 σ4 => ?_)
      refine g_istore dX17_constant_34 (by decide) rfl ?_
      refine g_aload_n 0 1 dX17_constant_36 rfl rfl ?_
      refine g_dup dX17_constant_37 rfl ?_
      refine g_getI fdX17_594 dX17_constant_38 ?_
      refine g_iconst (v := 1) dX17_constant_41 (by decide) ?_
      refine g_iadd dX17_constant_42 ?_
      refine g_putI fpX17_594 dX17_constant_43 (fun σ6 => ?_)
      refine g_iload 0 dX17_constant_46 rfl ?_
      refine g_bipush (v := 65) dX17_constant_48 (by decide) ?_
      refine g_icmp_eq 60 dX17_constant_50 (by decide) ?_ ?_
      · refine G.sub [1, 2, 0] rfl ?_
        exact gX17_constant_p60 (Mdl_constant_p7 n) (gX17_constant_p7 n) _ _ _ _
      · refine g_iload 0 dX17_constant_53 rfl ?_
        refine g_bipush (v := 66) dX17_constant_55 (by decide) ?_
        refine g_icmp_ne 86 dX17_constant_57 (by decide) ?_ ?_
        · refine g_iload 0 dX17_constant_86 rfl ?_
          refine g_bipush (v := 67) dX17_constant_88 (by decide) ?_
          refine g_icmp_eq 100 dX17_constant_90 (by decide) ?_ ?_
          · refine G.sub [1, 2, 0] rfl ?_
            exact gX17_constant_p100 (Mdl_constant_p7 n) (gX17_constant_p7 n) _ _ _ _
          · refine g_iload 0 dX17_constant_93 rfl ?_
            refine g_bipush (v := 68) dX17_constant_95 (by decide) ?_
            refine g_icmp_ne 121 dX17_constant_97 (by decide) ?_ ?_
            · refine g_iload 0 dX17_constant_121 rfl ?_
              refine g_sipush (v := 208) dX17_constant_123 (by decide) ?_
              refine g_icmp_ne 146 dX17_constant_126 (by decide) ?_ ?_
              · refine g_sipush (v := 128) dX17_constant_146 (by decide) ?_
                refine g_iload_n 1 2 dX17_constant_149 rfl rfl ?_
                refine g_imul dX17_constant_150 ?_
                refine g_aload_n 0 1 dX17_constant_151 rfl rfl ?_
                refine g_callV (fc := fun sς => Mdl_word sς x0 ) (ci := 17) (as := []) rfl rfl rfl q3813 qs250 mdX17_603 (ctX17_word x0 ) rfl (Nat.le_of_ble_eq_true rfl) (Nat.le_of_ble_eq_true rfl) (Nat.le_of_ble_eq_true rfl) pu_J dX17_constant_152 (fun r8 σ7 => ?_)
                refine g_l2i dX17_constant_155 ?_
                refine g_iadd dX17_constant_156 ?_
                refine g_nmI (fun y9 => ?_)
                refine g_istore dX17_constant_157 (by decide) rfl ?_
                refine g_iload 1 dX17_constant_159 rfl ?_
                refine g_sipush (v := 210) dX17_constant_161 (by decide) ?_
                refine g_icmp_ne 178 dX17_constant_164 (by decide) ?_ ?_
                · refine g_aload_n 0 2 dX17_constant_178 rfl rfl ?_
                  refine g_getR fdX17_128 dX17_constant_179 ?_
                  refine g_aload_n 0 2 dX17_constant_182 rfl rfl ?_
                  refine g_getR fdX17_143 dX17_constant_183 ?_
                  refine g_iload 0 dX17_constant_186 rfl ?_
                  refine g_iaload dX17_constant_188 ?_
                  refine g_laload dX17_constant_189 ?_
                  refine G.sub [2, 3] rfl ?_
                  exact gX17_constant_p190 (Mdl_constant_p7 n) (gX17_constant_p7 n) _ _ _ _
                · refine g_aload_n 0 2 dX17_constant_167 rfl rfl ?_
                  refine g_getR fdX17_134 dX17_constant_168 ?_
                  refine g_iload 0 dX17_constant_171 rfl ?_
                  refine g_iaload dX17_constant_173 ?_
                  refine g_i2l dX17_constant_174 ?_
                  refine g_goto 190 dX17_constant_175 (by decide) ?_
                  refine G.sub [2, 3] rfl ?_
                  exact gX17_constant_p190 (Mdl_constant_p7 n) (gX17_constant_p7 n) _ _ _ _
              · refine g_aload_n 0 1 dX17_constant_129 rfl rfl ?_
                refine g_dup dX17_constant_130 rfl ?_
                refine g_getI fdX17_594 dX17_constant_131 ?_
                refine g_iconst (v := 1) dX17_constant_134 (by decide) ?_
                refine g_iadd dX17_constant_135 ?_
                refine g_putI fpX17_594 dX17_constant_136 (fun σ10 => ?_)
                refine g_ldc2 q3673 dX17_constant_139 ?_
                refine g_lstore_n 3 dX17_constant_142 rfl (by decide) rfl ?_
                refine g_goto 191 dX17_constant_143 (by decide) ?_
                refine g_goto 7 dX17_constant_191 (by decide) ?_
                refine G.sub [2, 3, 0] rfl ?_
                exact gX17_constant_p7 n _ _ _ _
            · refine G.sub [1, 2, 0] rfl ?_
              exact gX17_constant_p100 (Mdl_constant_p7 n) (gX17_constant_p7 n) _ _ _ _
        · refine G.sub [1, 2, 0] rfl ?_
          exact gX17_constant_p60 (Mdl_constant_p7 n) (gX17_constant_p7 n) _ _ _ _
def V.Mdl_constant (σ : HS) (x0 : Nat) (x1 : Int32) (x2 : Int32) : Option (Int64 × HS) :=
  ck (tg σ x0 = 18) <| bn (sI σ x0 19 x2) fun σ1 =>
  Mdl_constant_p7 FU σ1 x0 x1 (0 : Int64)
theorem V.ctX17_constant (x0 : Nat) (x1 : Int32) (x2 : Int32) : Ct yX17_constant  cX17_constant 7 (some .long) 2 45 eJ [av x0, iv x1, iv x2] (fun σ => Mdl_constant σ x0 x1 x2) := by
  refine Ct.of (own := RX17) (nm := "constant") (desc := "(II)J") rfl (by decide) (Nat.le_of_ble_eq_true rfl) (by decide) (fun X σ => ?_)
  show G X RX17 "constant" cX17_constant 7 (some .long) 2 45 enJ 0 [(0, av x0), (1, iv x1), (2, iv x2)] [] σ (Mdl_constant σ x0 x1 x2)
  unfold Mdl_constant
  refine g_lconst (v := 0) dX17_constant_0 (by decide) ?_
  refine g_lstore_n 3 dX17_constant_1 rfl (by decide) rfl ?_
  refine g_aload_n 0 1 dX17_constant_2 rfl rfl ?_
  refine g_iload_n 2 3 dX17_constant_3 rfl rfl ?_
  refine g_putI fpX17_594 dX17_constant_4 (fun σ1 => ?_)
  refine G.sub [1, 2, 0] rfl ?_
  exact gX17_constant_p7 FU _ _ _ _
theorem V.dX17_takesElement_0 : decode cX17_takesElement 0 = .ok (.aload_n 0, 1) := by decide +kernel
theorem V.dX17_takesElement_1 : decode cX17_takesElement 1 = .ok (.getfield 146, 3) := by decide +kernel
theorem V.dX17_takesElement_4 : decode cX17_takesElement 4 = .ok (.bipush 64, 2) := by decide +kernel
theorem V.dX17_takesElement_6 : decode cX17_takesElement 6 = .ok (.iload_n 1, 1) := by decide +kernel
theorem V.dX17_takesElement_7 : decode cX17_takesElement 7 = .ok (.imul, 1) := by decide +kernel
theorem V.dX17_takesElement_8 : decode cX17_takesElement 8 = .ok (.iload_n 2, 1) := by decide +kernel
theorem V.dX17_takesElement_9 : decode cX17_takesElement 9 = .ok (.iadd, 1) := by decide +kernel
theorem V.dX17_takesElement_10 : decode cX17_takesElement 10 = .ok (.aload_n 0, 1) := by decide +kernel
theorem V.dX17_takesElement_11 : decode cX17_takesElement 11 = .ok (.getfield 981, 3) := by decide +kernel
theorem V.dX17_takesElement_14 : decode cX17_takesElement 14 = .ok (.iastore, 1) := by decide +kernel
theorem V.dX17_takesElement_15 : decode cX17_takesElement 15 = .ok (.aload_n 0, 1) := by decide +kernel
theorem V.dX17_takesElement_16 : decode cX17_takesElement 16 = .ok (.getfield 149, 3) := by decide +kernel
theorem V.dX17_takesElement_19 : decode cX17_takesElement 19 = .ok (.bipush 64, 2) := by decide +kernel
theorem V.dX17_takesElement_21 : decode cX17_takesElement 21 = .ok (.iload_n 1, 1) := by decide +kernel
theorem V.dX17_takesElement_22 : decode cX17_takesElement 22 = .ok (.imul, 1) := by decide +kernel
theorem V.dX17_takesElement_23 : decode cX17_takesElement 23 = .ok (.iload_n 2, 1) := by decide +kernel
theorem V.dX17_takesElement_24 : decode cX17_takesElement 24 = .ok (.iadd, 1) := by decide +kernel
theorem V.dX17_takesElement_25 : decode cX17_takesElement 25 = .ok (.aload_n 0, 1) := by decide +kernel
theorem V.dX17_takesElement_26 : decode cX17_takesElement 26 = .ok (.getfield 221, 3) := by decide +kernel
theorem V.dX17_takesElement_29 : decode cX17_takesElement 29 = .ok (.getfield 507, 3) := by decide +kernel
theorem V.dX17_takesElement_32 : decode cX17_takesElement 32 = .ok (.iload_n 2, 1) := by decide +kernel
theorem V.dX17_takesElement_33 : decode cX17_takesElement 33 = .ok (.iaload, 1) := by decide +kernel
theorem V.dX17_takesElement_34 : decode cX17_takesElement 34 = .ok (.iastore, 1) := by decide +kernel
theorem V.dX17_takesElement_35 : decode cX17_takesElement 35 = .ok (.aload_n 0, 1) := by decide +kernel
theorem V.dX17_takesElement_36 : decode cX17_takesElement 36 = .ok (.aload_n 0, 1) := by decide +kernel
theorem V.dX17_takesElement_37 : decode cX17_takesElement 37 = .ok (.getfield 221, 3) := by decide +kernel
theorem V.dX17_takesElement_40 : decode cX17_takesElement 40 = .ok (.getfield 504, 3) := by decide +kernel
theorem V.dX17_takesElement_43 : decode cX17_takesElement 43 = .ok (.iload_n 2, 1) := by decide +kernel
theorem V.dX17_takesElement_44 : decode cX17_takesElement 44 = .ok (.iaload, 1) := by decide +kernel
theorem V.dX17_takesElement_45 : decode cX17_takesElement 45 = .ok (.putfield 594, 3) := by decide +kernel
theorem V.dX17_takesElement_48 : decode cX17_takesElement 48 = .ok (.iconst 0, 1) := by decide +kernel
theorem V.dX17_takesElement_49 : decode cX17_takesElement 49 = .ok (.istore_n 3, 1) := by decide +kernel
theorem V.dX17_takesElement_50 : decode cX17_takesElement 50 = .ok (.iload_n 3, 1) := by decide +kernel
theorem V.dX17_takesElement_51 : decode cX17_takesElement 51 = .ok (.aload_n 0, 1) := by decide +kernel
theorem V.dX17_takesElement_52 : decode cX17_takesElement 52 = .ok (.getfield 221, 3) := by decide +kernel
theorem V.dX17_takesElement_55 : decode cX17_takesElement 55 = .ok (.getfield 507, 3) := by decide +kernel
theorem V.dX17_takesElement_58 : decode cX17_takesElement 58 = .ok (.iload_n 2, 1) := by decide +kernel
theorem V.dX17_takesElement_59 : decode cX17_takesElement 59 = .ok (.iaload, 1) := by decide +kernel
theorem V.dX17_takesElement_60 : decode cX17_takesElement 60 = .ok (.if_icmp .ge 69, 3) := by decide +kernel
theorem V.dX17_takesElement_63 : decode cX17_takesElement 63 = .ok (.aload_n 0, 1) := by decide +kernel
theorem V.dX17_takesElement_64 : decode cX17_takesElement 64 = .ok (.getfield 155, 3) := by decide +kernel
theorem V.dX17_takesElement_67 : decode cX17_takesElement 67 = .ok (.aload_n 0, 1) := by decide +kernel
theorem V.dX17_takesElement_68 : decode cX17_takesElement 68 = .ok (.getfield 981, 3) := by decide +kernel
theorem V.dX17_takesElement_71 : decode cX17_takesElement 71 = .ok (.aload_n 0, 1) := by decide +kernel
theorem V.dX17_takesElement_72 : decode cX17_takesElement 72 = .ok (.getfield 221, 3) := by decide +kernel
theorem V.dX17_takesElement_75 : decode cX17_takesElement 75 = .ok (.getfield 498, 3) := by decide +kernel
theorem V.dX17_takesElement_78 : decode cX17_takesElement 78 = .ok (.iload_n 2, 1) := by decide +kernel
theorem V.dX17_takesElement_79 : decode cX17_takesElement 79 = .ok (.baload, 1) := by decide +kernel
theorem V.dX17_takesElement_80 : decode cX17_takesElement 80 = .ok (.ifCond .eq 16, 3) := by decide +kernel
theorem V.dX17_takesElement_83 : decode cX17_takesElement 83 = .ok (.aload_n 0, 1) := by decide +kernel
theorem V.dX17_takesElement_84 : decode cX17_takesElement 84 = .ok (.iload_n 1, 1) := by decide +kernel
theorem V.dX17_takesElement_85 : decode cX17_takesElement 85 = .ok (.aload_n 0, 1) := by decide +kernel
theorem V.dX17_takesElement_86 : decode cX17_takesElement 86 = .ok (.getfield 594, 3) := by decide +kernel
theorem V.dX17_takesElement_89 : decode cX17_takesElement 89 = .ok (.invokevirtual 1020, 3) := by decide +kernel
theorem V.dX17_takesElement_92 : decode cX17_takesElement 92 = .ok (.l2i, 1) := by decide +kernel
theorem V.dX17_takesElement_93 : decode cX17_takesElement 93 = .ok (.goto 19, 3) := by decide +kernel
theorem V.dX17_takesElement_96 : decode cX17_takesElement 96 = .ok (.aload_n 0, 1) := by decide +kernel
theorem V.dX17_takesElement_97 : decode cX17_takesElement 97 = .ok (.getfield 134, 3) := by decide +kernel
theorem V.dX17_takesElement_100 : decode cX17_takesElement 100 = .ok (.sipush 128, 3) := by decide +kernel
theorem V.dX17_takesElement_103 : decode cX17_takesElement 103 = .ok (.iload_n 1, 1) := by decide +kernel
theorem V.dX17_takesElement_104 : decode cX17_takesElement 104 = .ok (.imul, 1) := by decide +kernel
theorem V.dX17_takesElement_105 : decode cX17_takesElement 105 = .ok (.aload_n 0, 1) := by decide +kernel
theorem V.dX17_takesElement_106 : decode cX17_takesElement 106 = .ok (.invokevirtual 603, 3) := by decide +kernel
theorem V.dX17_takesElement_109 : decode cX17_takesElement 109 = .ok (.l2i, 1) := by decide +kernel
theorem V.dX17_takesElement_110 : decode cX17_takesElement 110 = .ok (.iadd, 1) := by decide +kernel
theorem V.dX17_takesElement_111 : decode cX17_takesElement 111 = .ok (.iaload, 1) := by decide +kernel
theorem V.dX17_takesElement_112 : decode cX17_takesElement 112 = .ok (.iastore, 1) := by decide +kernel
theorem V.dX17_takesElement_113 : decode cX17_takesElement 113 = .ok (.aload_n 0, 1) := by decide +kernel
theorem V.dX17_takesElement_114 : decode cX17_takesElement 114 = .ok (.dup, 1) := by decide +kernel
theorem V.dX17_takesElement_115 : decode cX17_takesElement 115 = .ok (.getfield 981, 3) := by decide +kernel
theorem V.dX17_takesElement_118 : decode cX17_takesElement 118 = .ok (.iconst 1, 1) := by decide +kernel
theorem V.dX17_takesElement_119 : decode cX17_takesElement 119 = .ok (.iadd, 1) := by decide +kernel
theorem V.dX17_takesElement_120 : decode cX17_takesElement 120 = .ok (.putfield 981, 3) := by decide +kernel
theorem V.dX17_takesElement_123 : decode cX17_takesElement 123 = .ok (.iinc 3 1, 3) := by decide +kernel
theorem V.dX17_takesElement_126 : decode cX17_takesElement 126 = .ok (.goto (-76), 3) := by decide +kernel
theorem V.dX17_takesElement_129 : decode cX17_takesElement 129 = .ok (.return_, 1) := by decide +kernel
theorem V.fdX17_146 : FD RX17 146 17 68 2 := ⟨(RX17, TX17, 101), tyX17, rfl, rfl, in_X17, by decide, Or.inl q3104, rfl⟩
theorem V.fdX17_149 : FD RX17 149 17 69 2 := ⟨(RX17, TX17, 101), tyX17, rfl, rfl, in_X17, by decide, Or.inl q3105, rfl⟩
theorem V.fdX17_155 : FD RX17 155 17 72 2 := ⟨(RX17, TX17, 101), tyX17, rfl, rfl, in_X17, by decide, Or.inl q3108, rfl⟩
theorem V.mdX17_1020 : MD RX17 1020 yX17_constant cX17_constant 7 (some .long) 2 := ⟨Or.inl q4066, q377, q4069, by decide, by decide, by decide +kernel⟩
theorem V.fpX17_981 {nm : String} : FP RX17 nm 981 17 71 (.int) := ⟨(RX17, TX17, 101), tyX17, rfl, rfl, in_X17, by decide, tyX17_ok, nmX17, rfl, Or.inl ⟨rfl, Or.inl q3107⟩⟩
/-! ModuleEngineModel.takesElement(II)V -/
def V.Mdl_takesElement_p112 (rec50 : HS → Nat → Int32 → Int32 → Int32 → Option (Unit × HS)) (σ : HS) (x0 : Nat) (x1 : Int32) (x2 : Int32) (x3 : Int32) (s0 : Int32) (s1 : Int32) (s2 : Nat) : Option (Unit × HS) :=
  ck (tg σ s2 = 100 ∧ inb s1 (ln σ s2)) <| bn (sI σ s2 (ix s1) s0) fun σ1 =>
  ck (tg σ1 x0 = 18) <|
  ck (tg σ1 x0 = 18) <| bn (sI σ1 x0 71 ((gI σ1 x0 71) + (1 : Int32))) fun σ2 =>
  bn (x3 + (1 : Int32)) fun y3 =>
  rec50 σ2 x0 x1 x2 y3
theorem V.gX17_takesElement_p112 {X : CX} (rec50 : HS → Nat → Int32 → Int32 → Int32 → Option (Unit × HS)) (hrec50 : ∀ (σ : HS) (x0 : Nat) (x1 : Int32) (x2 : Int32) (x3 : Int32), G X RX17 "takesElement" cX17_takesElement 4 none 3 71 enV 50 [(0, av x0), (1, iv x1), (2, iv x2), (3, iv x3)] [] σ (rec50 σ x0 x1 x2 x3)) (σ : HS) (x0 : Nat) (x1 : Int32) (x2 : Int32) (x3 : Int32) (s0 : Int32) (s1 : Int32) (s2 : Nat) : G X RX17 "takesElement" cX17_takesElement 4 none 3 71 enV 112 [(0, av x0), (1, iv x1), (2, iv x2), (3, iv x3)] [iv s0, iv s1, av s2] σ (Mdl_takesElement_p112 rec50 σ x0 x1 x2 x3 s0 s1 s2) := by
  unfold Mdl_takesElement_p112
  refine g_iastore dX17_takesElement_112 (fun σ1 => ?_)
  refine g_aload_n 0 0 dX17_takesElement_113 rfl rfl ?_
  refine g_dup dX17_takesElement_114 rfl ?_
  refine g_getI fdX17_981 dX17_takesElement_115 ?_
  refine g_iconst (v := 1) dX17_takesElement_118 (by decide) ?_
  refine g_iadd dX17_takesElement_119 ?_
  refine g_putI fpX17_981 dX17_takesElement_120 (fun σ2 => ?_)
  refine g_iincB (w := 1) 3 dX17_takesElement_123 rfl (by decide) (by decide) (fun _ => rfl) (fun y3 => ?_)
  refine g_goto 50 dX17_takesElement_126 (by decide) ?_
  refine G.sub [1, 2, 3, 0] rfl ?_
  exact hrec50 _ _ _ _ _
def V.Mdl_takesElement_p50  : Nat → HS → Nat → Int32 → Int32 → Int32 → Option (Unit × HS)
  | 0, _, _, _, _, _ => none
  | n + 1, σ, x0, x1, x2, x3 =>
    ck (tg σ x0 = 18) <|
    ck (tg σ (gR σ x0 10) = 21) <|
    ck (tg σ (gR σ (gR σ x0 10) 40) = 100 ∧ inb x2 (ln σ (gR σ (gR σ x0 10) 40))) <|
    if (gI σ (gR σ (gR σ x0 10) 40) (ix x2)) ≤ x3 then (
      some ((), σ))
    else (
      ck (tg σ x0 = 18) <|
      ck (tg σ x0 = 18) <|
      ck (tg σ x0 = 18) <|
      ck (tg σ (gR σ x0 10) = 21) <|
      ck (tg σ (gR σ (gR σ x0 10) 39) = 103 ∧ inb x2 (ln σ (gR σ (gR σ x0 10) 39))) <|
      if (gI σ (gR σ (gR σ x0 10) 39) (ix x2)) = 0 then (
        ck (tg σ x0 = 18) <|
        ck (tg σ x0 = 18) <| cl (Mdl_word σ x0 ) fun r2 σ1 =>
        ck (tg σ1 (gR σ x0 64) = 100 ∧ inb (((128 : Int32) * x1) + r2.toInt32) (ln σ1 (gR σ x0 64))) <|
        Mdl_takesElement_p112 (Mdl_takesElement_p50 n) σ1 x0 x1 x2 x3 (gI σ1 (gR σ x0 64) (ix (((128 : Int32) * x1) + r2.toInt32))) (gI σ x0 71) (gR σ x0 72))
      else (
        ck (tg σ x0 = 18) <|
        ck (tg σ x0 = 18) <| cl (Mdl_constant σ x0 x1 (gI σ x0 19)) fun r4 σ3 =>
        Mdl_takesElement_p112 (Mdl_takesElement_p50 n) σ3 x0 x1 x2 x3 r4.toInt32 (gI σ x0 71) (gR σ x0 72)))
theorem V.gX17_takesElement_p50 {X : CX}  : ∀ (n : Nat) (σ : HS) (x0 : Nat) (x1 : Int32) (x2 : Int32) (x3 : Int32), G X RX17 "takesElement" cX17_takesElement 4 none 3 71 enV 50 [(0, av x0), (1, iv x1), (2, iv x2), (3, iv x3)] [] σ (Mdl_takesElement_p50 n σ x0 x1 x2 x3)
  | 0, σ, x0, x1, x2, x3 => by rw [Mdl_takesElement_p50]; exact G.nul
  | n + 1, σ, x0, x1, x2, x3 => by
    rw [Mdl_takesElement_p50]
    refine g_iload_n 3 3 dX17_takesElement_50 rfl rfl ?_
    refine g_aload_n 0 0 dX17_takesElement_51 rfl rfl ?_
    refine g_getR fdX17_221 dX17_takesElement_52 ?_
    refine g_getR fdX17_507 dX17_takesElement_55 ?_
    refine g_iload_n 2 2 dX17_takesElement_58 rfl rfl ?_
    refine g_iaload dX17_takesElement_59 ?_
    refine g_icmp_ge 129 dX17_takesElement_60 (by decide) ?_ ?_
    · exact g_return rfl dX17_takesElement_129
    · refine g_aload_n 0 0 dX17_takesElement_63 rfl rfl ?_
      refine g_getR fdX17_155 dX17_takesElement_64 ?_
      refine g_aload_n 0 0 dX17_takesElement_67 rfl rfl ?_
      refine g_getI fdX17_981 dX17_takesElement_68 ?_
      refine g_aload_n 0 0 dX17_takesElement_71 rfl rfl ?_
      refine g_getR fdX17_221 dX17_takesElement_72 ?_
      refine g_getR fdX17_498 dX17_takesElement_75 ?_
      refine g_iload_n 2 2 dX17_takesElement_78 rfl rfl ?_
      refine g_zaload dX17_takesElement_79 ?_
      refine g_if_eq 96 dX17_takesElement_80 (by decide) ?_ ?_
      · refine g_aload_n 0 0 dX17_takesElement_96 rfl rfl ?_
        refine g_getR fdX17_134 dX17_takesElement_97 ?_
        refine g_sipush (v := 128) dX17_takesElement_100 (by decide) ?_
        refine g_iload_n 1 1 dX17_takesElement_103 rfl rfl ?_
        refine g_imul dX17_takesElement_104 ?_
        refine g_aload_n 0 0 dX17_takesElement_105 rfl rfl ?_
        refine g_callV (fc := fun sς => Mdl_word sς x0 ) (ci := 17) (as := []) rfl rfl rfl q3813 qs250 mdX17_603 (ctX17_word x0 ) rfl (Nat.le_of_ble_eq_true rfl) (Nat.le_of_ble_eq_true rfl) (Nat.le_of_ble_eq_true rfl) pu_J dX17_takesElement_106 (fun r2 σ1 => ?_)
        refine g_l2i dX17_takesElement_109 ?_
        refine g_iadd dX17_takesElement_110 ?_
        refine g_iaload dX17_takesElement_111 ?_
        exact gX17_takesElement_p112 (Mdl_takesElement_p50 n) (gX17_takesElement_p50 n) _ _ _ _ _ _ _ _
      · refine g_aload_n 0 0 dX17_takesElement_83 rfl rfl ?_
        refine g_iload_n 1 1 dX17_takesElement_84 rfl rfl ?_
        refine g_aload_n 0 0 dX17_takesElement_85 rfl rfl ?_
        refine g_getI fdX17_594 dX17_takesElement_86 ?_
        refine g_callV (fc := fun sς => Mdl_constant sς x0 x1 (gI σ x0 19)) (ci := 17) (as := [iv x1, iv (gI σ x0 19)]) rfl rfl rfl q4068 qs303 mdX17_1020 (ctX17_constant x0 x1 (gI σ x0 19)) rfl (Nat.le_of_ble_eq_true rfl) (Nat.le_of_ble_eq_true rfl) (Nat.le_of_ble_eq_true rfl) pu_J dX17_takesElement_89 (fun r4 σ3 => ?_)
        refine g_l2i dX17_takesElement_92 ?_
        refine g_goto 112 dX17_takesElement_93 (by decide) ?_
        exact gX17_takesElement_p112 (Mdl_takesElement_p50 n) (gX17_takesElement_p50 n) _ _ _ _ _ _ _ _
def V.Mdl_takesElement (σ : HS) (x0 : Nat) (x1 : Int32) (x2 : Int32) : Option (Unit × HS) :=
  ck (tg σ x0 = 18) <|
  ck (tg σ x0 = 18) <|
  ck (tg σ (gR σ x0 68) = 100 ∧ inb (((64 : Int32) * x1) + x2) (ln σ (gR σ x0 68))) <| bn (sI σ (gR σ x0 68) (ix (((64 : Int32) * x1) + x2)) (gI σ x0 71)) fun σ1 =>
  ck (tg σ1 x0 = 18) <|
  ck (tg σ1 x0 = 18) <|
  ck (tg σ1 (gR σ1 x0 10) = 21) <|
  ck (tg σ1 (gR σ1 (gR σ1 x0 10) 40) = 100 ∧ inb x2 (ln σ1 (gR σ1 (gR σ1 x0 10) 40))) <|
  ck (tg σ1 (gR σ1 x0 69) = 100 ∧ inb (((64 : Int32) * x1) + x2) (ln σ1 (gR σ1 x0 69))) <| bn (sI σ1 (gR σ1 x0 69) (ix (((64 : Int32) * x1) + x2)) (gI σ1 (gR σ1 (gR σ1 x0 10) 40) (ix x2))) fun σ2 =>
  ck (tg σ2 x0 = 18) <|
  ck (tg σ2 (gR σ2 x0 10) = 21) <|
  ck (tg σ2 (gR σ2 (gR σ2 x0 10) 41) = 100 ∧ inb x2 (ln σ2 (gR σ2 (gR σ2 x0 10) 41))) <|
  ck (tg σ2 x0 = 18) <| bn (sI σ2 x0 19 (gI σ2 (gR σ2 (gR σ2 x0 10) 41) (ix x2))) fun σ3 =>
  Mdl_takesElement_p50 FU σ3 x0 x1 x2 (0 : Int32)
theorem V.ctX17_takesElement (x0 : Nat) (x1 : Int32) (x2 : Int32) : Ct yX17_takesElement  cX17_takesElement 4 none 3 71 eV [av x0, iv x1, iv x2] (fun σ => Mdl_takesElement σ x0 x1 x2) := by
  refine Ct.of (own := RX17) (nm := "takesElement") (desc := "(II)V") rfl (by decide) (Nat.le_of_ble_eq_true rfl) (by decide) (fun X σ => ?_)
  show G X RX17 "takesElement" cX17_takesElement 4 none 3 71 enV 0 [(0, av x0), (1, iv x1), (2, iv x2)] [] σ (Mdl_takesElement σ x0 x1 x2)
  unfold Mdl_takesElement
  refine g_aload_n 0 0 dX17_takesElement_0 rfl rfl ?_
  refine g_getR fdX17_146 dX17_takesElement_1 ?_
  refine g_bipush (v := 64) dX17_takesElement_4 (by decide) ?_
  refine g_iload_n 1 1 dX17_takesElement_6 rfl rfl ?_
  refine g_imul dX17_takesElement_7 ?_
  refine g_iload_n 2 2 dX17_takesElement_8 rfl rfl ?_
  refine g_iadd dX17_takesElement_9 ?_
  refine g_aload_n 0 0 dX17_takesElement_10 rfl rfl ?_
  refine g_getI fdX17_981 dX17_takesElement_11 ?_
  refine g_iastore dX17_takesElement_14 (fun σ1 => ?_)
  refine g_aload_n 0 0 dX17_takesElement_15 rfl rfl ?_
  refine g_getR fdX17_149 dX17_takesElement_16 ?_
  refine g_bipush (v := 64) dX17_takesElement_19 (by decide) ?_
  refine g_iload_n 1 1 dX17_takesElement_21 rfl rfl ?_
  refine g_imul dX17_takesElement_22 ?_
  refine g_iload_n 2 2 dX17_takesElement_23 rfl rfl ?_
  refine g_iadd dX17_takesElement_24 ?_
  refine g_aload_n 0 0 dX17_takesElement_25 rfl rfl ?_
  refine g_getR fdX17_221 dX17_takesElement_26 ?_
  refine g_getR fdX17_507 dX17_takesElement_29 ?_
  refine g_iload_n 2 2 dX17_takesElement_32 rfl rfl ?_
  refine g_iaload dX17_takesElement_33 ?_
  refine g_iastore dX17_takesElement_34 (fun σ2 => ?_)
  refine g_aload_n 0 0 dX17_takesElement_35 rfl rfl ?_
  refine g_aload_n 0 0 dX17_takesElement_36 rfl rfl ?_
  refine g_getR fdX17_221 dX17_takesElement_37 ?_
  refine g_getR fdX17_504 dX17_takesElement_40 ?_
  refine g_iload_n 2 2 dX17_takesElement_43 rfl rfl ?_
  refine g_iaload dX17_takesElement_44 ?_
  refine g_putI fpX17_594 dX17_takesElement_45 (fun σ3 => ?_)
  refine g_iconst (v := 0) dX17_takesElement_48 (by decide) ?_
  refine g_istore_n 3 dX17_takesElement_49 rfl (by decide) rfl ?_
  refine G.sub [1, 2, 3, 0] rfl ?_
  exact gX17_takesElement_p50 FU _ _ _ _ _
theorem V.dX17_takesOwn_0 : decode cX17_takesOwn 0 = .ok (.iconst 0, 1) := by decide +kernel
theorem V.dX17_takesOwn_1 : decode cX17_takesOwn 1 = .ok (.istore_n 3, 1) := by decide +kernel
theorem V.dX17_takesOwn_2 : decode cX17_takesOwn 2 = .ok (.iload_n 3, 1) := by decide +kernel
theorem V.dX17_takesOwn_3 : decode cX17_takesOwn 3 = .ok (.aload_n 0, 1) := by decide +kernel
theorem V.dX17_takesOwn_4 : decode cX17_takesOwn 4 = .ok (.getfield 221, 3) := by decide +kernel
theorem V.dX17_takesOwn_7 : decode cX17_takesOwn 7 = .ok (.getfield 426, 3) := by decide +kernel
theorem V.dX17_takesOwn_10 : decode cX17_takesOwn 10 = .ok (.if_icmp .ge 43, 3) := by decide +kernel
theorem V.dX17_takesOwn_13 : decode cX17_takesOwn 13 = .ok (.aload_n 0, 1) := by decide +kernel
theorem V.dX17_takesOwn_14 : decode cX17_takesOwn 14 = .ok (.iconst 0, 1) := by decide +kernel
theorem V.dX17_takesOwn_15 : decode cX17_takesOwn 15 = .ok (.iload_n 1, 1) := by decide +kernel
theorem V.dX17_takesOwn_16 : decode cX17_takesOwn 16 = .ok (.aload_n 0, 1) := by decide +kernel
theorem V.dX17_takesOwn_17 : decode cX17_takesOwn 17 = .ok (.getfield 221, 3) := by decide +kernel
theorem V.dX17_takesOwn_20 : decode cX17_takesOwn 20 = .ok (.iconst 0, 1) := by decide +kernel
theorem V.dX17_takesOwn_21 : decode cX17_takesOwn 21 = .ok (.invokevirtual 664, 3) := by decide +kernel
theorem V.dX17_takesOwn_24 : decode cX17_takesOwn 24 = .ok (.iload_n 3, 1) := by decide +kernel
theorem V.dX17_takesOwn_25 : decode cX17_takesOwn 25 = .ok (.iadd, 1) := by decide +kernel
theorem V.dX17_takesOwn_26 : decode cX17_takesOwn 26 = .ok (.aload_n 0, 1) := by decide +kernel
theorem V.dX17_takesOwn_27 : decode cX17_takesOwn 27 = .ok (.iload_n 2, 1) := by decide +kernel
theorem V.dX17_takesOwn_28 : decode cX17_takesOwn 28 = .ok (.aload_n 0, 1) := by decide +kernel
theorem V.dX17_takesOwn_29 : decode cX17_takesOwn 29 = .ok (.getfield 221, 3) := by decide +kernel
theorem V.dX17_takesOwn_32 : decode cX17_takesOwn 32 = .ok (.getfield 429, 3) := by decide +kernel
theorem V.dX17_takesOwn_35 : decode cX17_takesOwn 35 = .ok (.iload_n 3, 1) := by decide +kernel
theorem V.dX17_takesOwn_36 : decode cX17_takesOwn 36 = .ok (.laload, 1) := by decide +kernel
theorem V.dX17_takesOwn_37 : decode cX17_takesOwn 37 = .ok (.l2i, 1) := by decide +kernel
theorem V.dX17_takesOwn_38 : decode cX17_takesOwn 38 = .ok (.iload_n 1, 1) := by decide +kernel
theorem V.dX17_takesOwn_39 : decode cX17_takesOwn 39 = .ok (.iload_n 3, 1) := by decide +kernel
theorem V.dX17_takesOwn_40 : decode cX17_takesOwn 40 = .ok (.iconst (-1), 1) := by decide +kernel
theorem V.dX17_takesOwn_41 : decode cX17_takesOwn 41 = .ok (.invokevirtual 1005, 3) := by decide +kernel
theorem V.dX17_takesOwn_44 : decode cX17_takesOwn 44 = .ok (.invokevirtual 1009, 3) := by decide +kernel
theorem V.dX17_takesOwn_47 : decode cX17_takesOwn 47 = .ok (.iinc 3 1, 3) := by decide +kernel
theorem V.dX17_takesOwn_50 : decode cX17_takesOwn 50 = .ok (.goto (-48), 3) := by decide +kernel
theorem V.dX17_takesOwn_53 : decode cX17_takesOwn 53 = .ok (.iconst 0, 1) := by decide +kernel
theorem V.dX17_takesOwn_54 : decode cX17_takesOwn 54 = .ok (.istore_n 3, 1) := by decide +kernel
theorem V.dX17_takesOwn_55 : decode cX17_takesOwn 55 = .ok (.iload_n 3, 1) := by decide +kernel
theorem V.dX17_takesOwn_56 : decode cX17_takesOwn 56 = .ok (.aload_n 0, 1) := by decide +kernel
theorem V.dX17_takesOwn_57 : decode cX17_takesOwn 57 = .ok (.getfield 221, 3) := by decide +kernel
theorem V.dX17_takesOwn_60 : decode cX17_takesOwn 60 = .ok (.getfield 432, 3) := by decide +kernel
theorem V.dX17_takesOwn_63 : decode cX17_takesOwn 63 = .ok (.if_icmp .ge 104, 3) := by decide +kernel
theorem V.dX17_takesOwn_66 : decode cX17_takesOwn 66 = .ok (.aload_n 0, 1) := by decide +kernel
theorem V.dX17_takesOwn_67 : decode cX17_takesOwn 67 = .ok (.getfield 93, 3) := by decide +kernel
theorem V.dX17_takesOwn_70 : decode cX17_takesOwn 70 = .ok (.aload_n 0, 1) := by decide +kernel
theorem V.dX17_takesOwn_71 : decode cX17_takesOwn 71 = .ok (.getfield 978, 3) := by decide +kernel
theorem V.dX17_takesOwn_74 : decode cX17_takesOwn 74 = .ok (.aload_n 0, 1) := by decide +kernel
theorem V.dX17_takesOwn_75 : decode cX17_takesOwn 75 = .ok (.getfield 221, 3) := by decide +kernel
theorem V.dX17_takesOwn_78 : decode cX17_takesOwn 78 = .ok (.getfield 435, 3) := by decide +kernel
theorem V.dX17_takesOwn_81 : decode cX17_takesOwn 81 = .ok (.iload_n 3, 1) := by decide +kernel
theorem V.dX17_takesOwn_82 : decode cX17_takesOwn 82 = .ok (.iaload, 1) := by decide +kernel
theorem V.dX17_takesOwn_83 : decode cX17_takesOwn 83 = .ok (.iastore, 1) := by decide +kernel
theorem V.dX17_takesOwn_84 : decode cX17_takesOwn 84 = .ok (.aload_n 0, 1) := by decide +kernel
theorem V.dX17_takesOwn_85 : decode cX17_takesOwn 85 = .ok (.getfield 99, 3) := by decide +kernel
theorem V.dX17_takesOwn_88 : decode cX17_takesOwn 88 = .ok (.aload_n 0, 1) := by decide +kernel
theorem V.dX17_takesOwn_89 : decode cX17_takesOwn 89 = .ok (.getfield 978, 3) := by decide +kernel
theorem V.dX17_takesOwn_92 : decode cX17_takesOwn 92 = .ok (.aload_n 0, 1) := by decide +kernel
theorem V.dX17_takesOwn_93 : decode cX17_takesOwn 93 = .ok (.getfield 221, 3) := by decide +kernel
theorem V.dX17_takesOwn_96 : decode cX17_takesOwn 96 = .ok (.getfield 441, 3) := by decide +kernel
theorem V.dX17_takesOwn_99 : decode cX17_takesOwn 99 = .ok (.iload_n 3, 1) := by decide +kernel
theorem V.dX17_takesOwn_100 : decode cX17_takesOwn 100 = .ok (.laload, 1) := by decide +kernel
theorem V.dX17_takesOwn_101 : decode cX17_takesOwn 101 = .ok (.lastore, 1) := by decide +kernel
theorem V.dX17_takesOwn_102 : decode cX17_takesOwn 102 = .ok (.aload_n 0, 1) := by decide +kernel
theorem V.dX17_takesOwn_103 : decode cX17_takesOwn 103 = .ok (.getfield 96, 3) := by decide +kernel
theorem V.dX17_takesOwn_106 : decode cX17_takesOwn 106 = .ok (.aload_n 0, 1) := by decide +kernel
theorem V.dX17_takesOwn_107 : decode cX17_takesOwn 107 = .ok (.getfield 978, 3) := by decide +kernel
theorem V.dX17_takesOwn_110 : decode cX17_takesOwn 110 = .ok (.iconst 0, 1) := by decide +kernel
theorem V.dX17_takesOwn_111 : decode cX17_takesOwn 111 = .ok (.iastore, 1) := by decide +kernel
theorem V.dX17_takesOwn_112 : decode cX17_takesOwn 112 = .ok (.aload_n 0, 1) := by decide +kernel
theorem V.dX17_takesOwn_113 : decode cX17_takesOwn 113 = .ok (.aload_n 0, 1) := by decide +kernel
theorem V.dX17_takesOwn_114 : decode cX17_takesOwn 114 = .ok (.getfield 978, 3) := by decide +kernel
theorem V.dX17_takesOwn_117 : decode cX17_takesOwn 117 = .ok (.aload_n 0, 1) := by decide +kernel
theorem V.dX17_takesOwn_118 : decode cX17_takesOwn 118 = .ok (.getfield 221, 3) := by decide +kernel
theorem V.dX17_takesOwn_121 : decode cX17_takesOwn 121 = .ok (.getfield 438, 3) := by decide +kernel
theorem V.dX17_takesOwn_124 : decode cX17_takesOwn 124 = .ok (.iload_n 3, 1) := by decide +kernel
theorem V.dX17_takesOwn_125 : decode cX17_takesOwn 125 = .ok (.laload, 1) := by decide +kernel
theorem V.dX17_takesOwn_126 : decode cX17_takesOwn 126 = .ok (.l2i, 1) := by decide +kernel
theorem V.dX17_takesOwn_127 : decode cX17_takesOwn 127 = .ok (.iconst (-1), 1) := by decide +kernel
theorem V.dX17_takesOwn_128 : decode cX17_takesOwn 128 = .ok (.invokevirtual 1013, 3) := by decide +kernel
theorem V.dX17_takesOwn_131 : decode cX17_takesOwn 131 = .ok (.aload_n 0, 1) := by decide +kernel
theorem V.dX17_takesOwn_132 : decode cX17_takesOwn 132 = .ok (.iconst 1, 1) := by decide +kernel
theorem V.dX17_takesOwn_133 : decode cX17_takesOwn 133 = .ok (.iload_n 1, 1) := by decide +kernel
theorem V.dX17_takesOwn_134 : decode cX17_takesOwn 134 = .ok (.aload_n 0, 1) := by decide +kernel
theorem V.dX17_takesOwn_135 : decode cX17_takesOwn 135 = .ok (.getfield 221, 3) := by decide +kernel
theorem V.dX17_takesOwn_138 : decode cX17_takesOwn 138 = .ok (.iconst 1, 1) := by decide +kernel
theorem V.dX17_takesOwn_139 : decode cX17_takesOwn 139 = .ok (.invokevirtual 664, 3) := by decide +kernel
theorem V.dX17_takesOwn_142 : decode cX17_takesOwn 142 = .ok (.iload_n 3, 1) := by decide +kernel
theorem V.dX17_takesOwn_143 : decode cX17_takesOwn 143 = .ok (.iadd, 1) := by decide +kernel
theorem V.dX17_takesOwn_144 : decode cX17_takesOwn 144 = .ok (.aload_n 0, 1) := by decide +kernel
theorem V.dX17_takesOwn_145 : decode cX17_takesOwn 145 = .ok (.getfield 978, 3) := by decide +kernel
theorem V.dX17_takesOwn_148 : decode cX17_takesOwn 148 = .ok (.invokevirtual 1009, 3) := by decide +kernel
theorem V.dX17_takesOwn_151 : decode cX17_takesOwn 151 = .ok (.aload_n 0, 1) := by decide +kernel
theorem V.dX17_takesOwn_152 : decode cX17_takesOwn 152 = .ok (.dup, 1) := by decide +kernel
theorem V.dX17_takesOwn_153 : decode cX17_takesOwn 153 = .ok (.getfield 978, 3) := by decide +kernel
theorem V.dX17_takesOwn_156 : decode cX17_takesOwn 156 = .ok (.iconst 1, 1) := by decide +kernel
theorem V.dX17_takesOwn_157 : decode cX17_takesOwn 157 = .ok (.iadd, 1) := by decide +kernel
theorem V.dX17_takesOwn_158 : decode cX17_takesOwn 158 = .ok (.putfield 978, 3) := by decide +kernel
theorem V.dX17_takesOwn_161 : decode cX17_takesOwn 161 = .ok (.iinc 3 1, 3) := by decide +kernel
theorem V.dX17_takesOwn_164 : decode cX17_takesOwn 164 = .ok (.goto (-109), 3) := by decide +kernel
theorem V.dX17_takesOwn_167 : decode cX17_takesOwn 167 = .ok (.iconst 0, 1) := by decide +kernel
theorem V.dX17_takesOwn_168 : decode cX17_takesOwn 168 = .ok (.istore_n 3, 1) := by decide +kernel
theorem V.dX17_takesOwn_169 : decode cX17_takesOwn 169 = .ok (.iload_n 3, 1) := by decide +kernel
theorem V.dX17_takesOwn_170 : decode cX17_takesOwn 170 = .ok (.aload_n 0, 1) := by decide +kernel
theorem V.dX17_takesOwn_171 : decode cX17_takesOwn 171 = .ok (.getfield 221, 3) := by decide +kernel
theorem V.dX17_takesOwn_174 : decode cX17_takesOwn 174 = .ok (.getfield 444, 3) := by decide +kernel
theorem V.dX17_takesOwn_177 : decode cX17_takesOwn 177 = .ok (.if_icmp .ge 85, 3) := by decide +kernel
theorem V.dX17_takesOwn_180 : decode cX17_takesOwn 180 = .ok (.aload_n 0, 1) := by decide +kernel
theorem V.dX17_takesOwn_181 : decode cX17_takesOwn 181 = .ok (.getfield 112, 3) := by decide +kernel
theorem V.dX17_takesOwn_184 : decode cX17_takesOwn 184 = .ok (.aload_n 0, 1) := by decide +kernel
theorem V.dX17_takesOwn_185 : decode cX17_takesOwn 185 = .ok (.getfield 979, 3) := by decide +kernel
theorem V.dX17_takesOwn_188 : decode cX17_takesOwn 188 = .ok (.aload_n 0, 1) := by decide +kernel
theorem V.dX17_takesOwn_189 : decode cX17_takesOwn 189 = .ok (.getfield 221, 3) := by decide +kernel
theorem V.dX17_takesOwn_192 : decode cX17_takesOwn 192 = .ok (.getfield 450, 3) := by decide +kernel
theorem V.dX17_takesOwn_195 : decode cX17_takesOwn 195 = .ok (.iload_n 3, 1) := by decide +kernel
theorem V.dX17_takesOwn_196 : decode cX17_takesOwn 196 = .ok (.laload, 1) := by decide +kernel
theorem V.dX17_takesOwn_197 : decode cX17_takesOwn 197 = .ok (.lastore, 1) := by decide +kernel
theorem V.dX17_takesOwn_198 : decode cX17_takesOwn 198 = .ok (.aload_n 0, 1) := by decide +kernel
theorem V.dX17_takesOwn_199 : decode cX17_takesOwn 199 = .ok (.getfield 109, 3) := by decide +kernel
theorem V.dX17_takesOwn_202 : decode cX17_takesOwn 202 = .ok (.aload_n 0, 1) := by decide +kernel
theorem V.dX17_takesOwn_203 : decode cX17_takesOwn 203 = .ok (.getfield 979, 3) := by decide +kernel
theorem V.dX17_takesOwn_206 : decode cX17_takesOwn 206 = .ok (.iconst 0, 1) := by decide +kernel
theorem V.dX17_takesOwn_207 : decode cX17_takesOwn 207 = .ok (.iastore, 1) := by decide +kernel
theorem V.dX17_takesOwn_208 : decode cX17_takesOwn 208 = .ok (.aload_n 0, 1) := by decide +kernel
theorem V.dX17_takesOwn_209 : decode cX17_takesOwn 209 = .ok (.aload_n 0, 1) := by decide +kernel
theorem V.dX17_takesOwn_210 : decode cX17_takesOwn 210 = .ok (.getfield 979, 3) := by decide +kernel
theorem V.dX17_takesOwn_213 : decode cX17_takesOwn 213 = .ok (.aload_n 0, 1) := by decide +kernel
theorem V.dX17_takesOwn_214 : decode cX17_takesOwn 214 = .ok (.getfield 221, 3) := by decide +kernel
theorem V.dX17_takesOwn_217 : decode cX17_takesOwn 217 = .ok (.getfield 447, 3) := by decide +kernel
theorem V.dX17_takesOwn_220 : decode cX17_takesOwn 220 = .ok (.iload_n 3, 1) := by decide +kernel
theorem V.dX17_takesOwn_221 : decode cX17_takesOwn 221 = .ok (.laload, 1) := by decide +kernel
theorem V.dX17_takesOwn_222 : decode cX17_takesOwn 222 = .ok (.l2i, 1) := by decide +kernel
theorem V.dX17_takesOwn_223 : decode cX17_takesOwn 223 = .ok (.invokevirtual 1017, 3) := by decide +kernel
theorem V.dX17_takesOwn_226 : decode cX17_takesOwn 226 = .ok (.aload_n 0, 1) := by decide +kernel
theorem V.dX17_takesOwn_227 : decode cX17_takesOwn 227 = .ok (.iconst 2, 1) := by decide +kernel
theorem V.dX17_takesOwn_228 : decode cX17_takesOwn 228 = .ok (.iload_n 1, 1) := by decide +kernel
theorem V.dX17_takesOwn_229 : decode cX17_takesOwn 229 = .ok (.aload_n 0, 1) := by decide +kernel
theorem V.dX17_takesOwn_230 : decode cX17_takesOwn 230 = .ok (.getfield 221, 3) := by decide +kernel
theorem V.dX17_takesOwn_233 : decode cX17_takesOwn 233 = .ok (.iconst 2, 1) := by decide +kernel
theorem V.dX17_takesOwn_234 : decode cX17_takesOwn 234 = .ok (.invokevirtual 664, 3) := by decide +kernel
theorem V.dX17_takesOwn_237 : decode cX17_takesOwn 237 = .ok (.iload_n 3, 1) := by decide +kernel
theorem V.dX17_takesOwn_238 : decode cX17_takesOwn 238 = .ok (.iadd, 1) := by decide +kernel
theorem V.dX17_takesOwn_239 : decode cX17_takesOwn 239 = .ok (.aload_n 0, 1) := by decide +kernel
theorem V.dX17_takesOwn_240 : decode cX17_takesOwn 240 = .ok (.getfield 979, 3) := by decide +kernel
theorem V.dX17_takesOwn_243 : decode cX17_takesOwn 243 = .ok (.invokevirtual 1009, 3) := by decide +kernel
theorem V.dX17_takesOwn_246 : decode cX17_takesOwn 246 = .ok (.aload_n 0, 1) := by decide +kernel
theorem V.dX17_takesOwn_247 : decode cX17_takesOwn 247 = .ok (.dup, 1) := by decide +kernel
theorem V.dX17_takesOwn_248 : decode cX17_takesOwn 248 = .ok (.getfield 979, 3) := by decide +kernel
theorem V.dX17_takesOwn_251 : decode cX17_takesOwn 251 = .ok (.iconst 1, 1) := by decide +kernel
theorem V.dX17_takesOwn_252 : decode cX17_takesOwn 252 = .ok (.iadd, 1) := by decide +kernel
theorem V.dX17_takesOwn_253 : decode cX17_takesOwn 253 = .ok (.putfield 979, 3) := by decide +kernel
theorem V.dX17_takesOwn_256 : decode cX17_takesOwn 256 = .ok (.iinc 3 1, 3) := by decide +kernel
theorem V.dX17_takesOwn_259 : decode cX17_takesOwn 259 = .ok (.goto (-90), 3) := by decide +kernel
theorem V.dX17_takesOwn_262 : decode cX17_takesOwn 262 = .ok (.iconst 0, 1) := by decide +kernel
theorem V.dX17_takesOwn_263 : decode cX17_takesOwn 263 = .ok (.istore_n 3, 1) := by decide +kernel
theorem V.dX17_takesOwn_264 : decode cX17_takesOwn 264 = .ok (.iload_n 3, 1) := by decide +kernel
theorem V.dX17_takesOwn_265 : decode cX17_takesOwn 265 = .ok (.aload_n 0, 1) := by decide +kernel
theorem V.dX17_takesOwn_266 : decode cX17_takesOwn 266 = .ok (.getfield 221, 3) := by decide +kernel
theorem V.dX17_takesOwn_269 : decode cX17_takesOwn 269 = .ok (.getfield 453, 3) := by decide +kernel
theorem V.dX17_takesOwn_272 : decode cX17_takesOwn 272 = .ok (.if_icmp .ge 98, 3) := by decide +kernel
theorem V.dX17_takesOwn_275 : decode cX17_takesOwn 275 = .ok (.aload_n 0, 1) := by decide +kernel
theorem V.dX17_takesOwn_276 : decode cX17_takesOwn 276 = .ok (.getfield 122, 3) := by decide +kernel
theorem V.dX17_takesOwn_279 : decode cX17_takesOwn 279 = .ok (.aload_n 0, 1) := by decide +kernel
theorem V.dX17_takesOwn_280 : decode cX17_takesOwn 280 = .ok (.getfield 980, 3) := by decide +kernel
theorem V.dX17_takesOwn_283 : decode cX17_takesOwn 283 = .ok (.aload_n 0, 1) := by decide +kernel
theorem V.dX17_takesOwn_284 : decode cX17_takesOwn 284 = .ok (.getfield 221, 3) := by decide +kernel
theorem V.dX17_takesOwn_287 : decode cX17_takesOwn 287 = .ok (.getfield 459, 3) := by decide +kernel
theorem V.dX17_takesOwn_290 : decode cX17_takesOwn 290 = .ok (.iload_n 3, 1) := by decide +kernel
theorem V.dX17_takesOwn_291 : decode cX17_takesOwn 291 = .ok (.iaload, 1) := by decide +kernel
theorem V.dX17_takesOwn_292 : decode cX17_takesOwn 292 = .ok (.iastore, 1) := by decide +kernel
theorem V.dX17_takesOwn_293 : decode cX17_takesOwn 293 = .ok (.aload_n 0, 1) := by decide +kernel
theorem V.dX17_takesOwn_294 : decode cX17_takesOwn 294 = .ok (.getfield 125, 3) := by decide +kernel
theorem V.dX17_takesOwn_297 : decode cX17_takesOwn 297 = .ok (.aload_n 0, 1) := by decide +kernel
theorem V.dX17_takesOwn_298 : decode cX17_takesOwn 298 = .ok (.getfield 980, 3) := by decide +kernel
theorem V.dX17_takesOwn_301 : decode cX17_takesOwn 301 = .ok (.aload_n 0, 1) := by decide +kernel
theorem V.dX17_takesOwn_302 : decode cX17_takesOwn 302 = .ok (.getfield 221, 3) := by decide +kernel
theorem V.dX17_takesOwn_305 : decode cX17_takesOwn 305 = .ok (.getfield 462, 3) := by decide +kernel
theorem V.dX17_takesOwn_308 : decode cX17_takesOwn 308 = .ok (.iload_n 3, 1) := by decide +kernel
theorem V.dX17_takesOwn_309 : decode cX17_takesOwn 309 = .ok (.baload, 1) := by decide +kernel
theorem V.dX17_takesOwn_310 : decode cX17_takesOwn 310 = .ok (.bastore, 1) := by decide +kernel
theorem V.dX17_takesOwn_311 : decode cX17_takesOwn 311 = .ok (.aload_n 0, 1) := by decide +kernel
theorem V.dX17_takesOwn_312 : decode cX17_takesOwn 312 = .ok (.getfield 128, 3) := by decide +kernel
theorem V.dX17_takesOwn_315 : decode cX17_takesOwn 315 = .ok (.aload_n 0, 1) := by decide +kernel
theorem V.dX17_takesOwn_316 : decode cX17_takesOwn 316 = .ok (.getfield 980, 3) := by decide +kernel
theorem V.dX17_takesOwn_319 : decode cX17_takesOwn 319 = .ok (.aload_n 0, 1) := by decide +kernel
theorem V.dX17_takesOwn_320 : decode cX17_takesOwn 320 = .ok (.iload_n 1, 1) := by decide +kernel
theorem V.dX17_takesOwn_321 : decode cX17_takesOwn 321 = .ok (.aload_n 0, 1) := by decide +kernel
theorem V.dX17_takesOwn_322 : decode cX17_takesOwn 322 = .ok (.getfield 221, 3) := by decide +kernel
theorem V.dX17_takesOwn_325 : decode cX17_takesOwn 325 = .ok (.getfield 463, 3) := by decide +kernel
theorem V.dX17_takesOwn_328 : decode cX17_takesOwn 328 = .ok (.iload_n 3, 1) := by decide +kernel
theorem V.dX17_takesOwn_329 : decode cX17_takesOwn 329 = .ok (.iaload, 1) := by decide +kernel
theorem V.dX17_takesOwn_330 : decode cX17_takesOwn 330 = .ok (.invokevirtual 1020, 3) := by decide +kernel
theorem V.dX17_takesOwn_333 : decode cX17_takesOwn 333 = .ok (.lastore, 1) := by decide +kernel
theorem V.dX17_takesOwn_334 : decode cX17_takesOwn 334 = .ok (.aload_n 0, 1) := by decide +kernel
theorem V.dX17_takesOwn_335 : decode cX17_takesOwn 335 = .ok (.iconst 3, 1) := by decide +kernel
theorem V.dX17_takesOwn_336 : decode cX17_takesOwn 336 = .ok (.iload_n 1, 1) := by decide +kernel
theorem V.dX17_takesOwn_337 : decode cX17_takesOwn 337 = .ok (.aload_n 0, 1) := by decide +kernel
theorem V.dX17_takesOwn_338 : decode cX17_takesOwn 338 = .ok (.getfield 221, 3) := by decide +kernel
theorem V.dX17_takesOwn_341 : decode cX17_takesOwn 341 = .ok (.iconst 3, 1) := by decide +kernel
theorem V.dX17_takesOwn_342 : decode cX17_takesOwn 342 = .ok (.invokevirtual 664, 3) := by decide +kernel
theorem V.dX17_takesOwn_345 : decode cX17_takesOwn 345 = .ok (.iload_n 3, 1) := by decide +kernel
theorem V.dX17_takesOwn_346 : decode cX17_takesOwn 346 = .ok (.iadd, 1) := by decide +kernel
theorem V.dX17_takesOwn_347 : decode cX17_takesOwn 347 = .ok (.aload_n 0, 1) := by decide +kernel
theorem V.dX17_takesOwn_348 : decode cX17_takesOwn 348 = .ok (.getfield 980, 3) := by decide +kernel
theorem V.dX17_takesOwn_351 : decode cX17_takesOwn 351 = .ok (.invokevirtual 1009, 3) := by decide +kernel
theorem V.dX17_takesOwn_354 : decode cX17_takesOwn 354 = .ok (.aload_n 0, 1) := by decide +kernel
theorem V.dX17_takesOwn_355 : decode cX17_takesOwn 355 = .ok (.dup, 1) := by decide +kernel
theorem V.dX17_takesOwn_356 : decode cX17_takesOwn 356 = .ok (.getfield 980, 3) := by decide +kernel
theorem V.dX17_takesOwn_359 : decode cX17_takesOwn 359 = .ok (.iconst 1, 1) := by decide +kernel
theorem V.dX17_takesOwn_360 : decode cX17_takesOwn 360 = .ok (.iadd, 1) := by decide +kernel
theorem V.dX17_takesOwn_361 : decode cX17_takesOwn 361 = .ok (.putfield 980, 3) := by decide +kernel
theorem V.dX17_takesOwn_364 : decode cX17_takesOwn 364 = .ok (.iinc 3 1, 3) := by decide +kernel
theorem V.dX17_takesOwn_367 : decode cX17_takesOwn 367 = .ok (.goto (-103), 3) := by decide +kernel
theorem V.dX17_takesOwn_370 : decode cX17_takesOwn 370 = .ok (.iconst 0, 1) := by decide +kernel
theorem V.dX17_takesOwn_371 : decode cX17_takesOwn 371 = .ok (.istore_n 3, 1) := by decide +kernel
theorem V.dX17_takesOwn_372 : decode cX17_takesOwn 372 = .ok (.iload_n 3, 1) := by decide +kernel
theorem V.dX17_takesOwn_373 : decode cX17_takesOwn 373 = .ok (.aload_n 0, 1) := by decide +kernel
theorem V.dX17_takesOwn_374 : decode cX17_takesOwn 374 = .ok (.getfield 221, 3) := by decide +kernel
theorem V.dX17_takesOwn_377 : decode cX17_takesOwn 377 = .ok (.getfield 481, 3) := by decide +kernel
theorem V.dX17_takesOwn_380 : decode cX17_takesOwn 380 = .ok (.if_icmp .ge 15, 3) := by decide +kernel
theorem V.dX17_takesOwn_383 : decode cX17_takesOwn 383 = .ok (.aload_n 0, 1) := by decide +kernel
theorem V.dX17_takesOwn_384 : decode cX17_takesOwn 384 = .ok (.iload_n 1, 1) := by decide +kernel
theorem V.dX17_takesOwn_385 : decode cX17_takesOwn 385 = .ok (.iload_n 3, 1) := by decide +kernel
theorem V.dX17_takesOwn_386 : decode cX17_takesOwn 386 = .ok (.invokevirtual 1024, 3) := by decide +kernel
theorem V.dX17_takesOwn_389 : decode cX17_takesOwn 389 = .ok (.iinc 3 1, 3) := by decide +kernel
theorem V.dX17_takesOwn_392 : decode cX17_takesOwn 392 = .ok (.goto (-20), 3) := by decide +kernel
theorem V.dX17_takesOwn_395 : decode cX17_takesOwn 395 = .ok (.iconst 0, 1) := by decide +kernel
theorem V.dX17_takesOwn_396 : decode cX17_takesOwn 396 = .ok (.istore_n 3, 1) := by decide +kernel
theorem V.dX17_takesOwn_397 : decode cX17_takesOwn 397 = .ok (.iload_n 3, 1) := by decide +kernel
theorem V.dX17_takesOwn_398 : decode cX17_takesOwn 398 = .ok (.aload_n 0, 1) := by decide +kernel
theorem V.dX17_takesOwn_399 : decode cX17_takesOwn 399 = .ok (.getfield 221, 3) := by decide +kernel
theorem V.dX17_takesOwn_402 : decode cX17_takesOwn 402 = .ok (.getfield 529, 3) := by decide +kernel
theorem V.dX17_takesOwn_405 : decode cX17_takesOwn 405 = .ok (.if_icmp .ge 21, 3) := by decide +kernel
theorem V.dX17_takesOwn_408 : decode cX17_takesOwn 408 = .ok (.aload_n 0, 1) := by decide +kernel
theorem V.dX17_takesOwn_409 : decode cX17_takesOwn 409 = .ok (.getfield 152, 3) := by decide +kernel
theorem V.dX17_takesOwn_412 : decode cX17_takesOwn 412 = .ok (.bipush 64, 2) := by decide +kernel
theorem V.dX17_takesOwn_414 : decode cX17_takesOwn 414 = .ok (.iload_n 1, 1) := by decide +kernel
theorem V.dX17_takesOwn_415 : decode cX17_takesOwn 415 = .ok (.imul, 1) := by decide +kernel
theorem V.dX17_takesOwn_416 : decode cX17_takesOwn 416 = .ok (.iload_n 3, 1) := by decide +kernel
theorem V.dX17_takesOwn_417 : decode cX17_takesOwn 417 = .ok (.iadd, 1) := by decide +kernel
theorem V.dX17_takesOwn_418 : decode cX17_takesOwn 418 = .ok (.iconst 1, 1) := by decide +kernel
theorem V.dX17_takesOwn_419 : decode cX17_takesOwn 419 = .ok (.bastore, 1) := by decide +kernel
theorem V.dX17_takesOwn_420 : decode cX17_takesOwn 420 = .ok (.iinc 3 1, 3) := by decide +kernel
theorem V.dX17_takesOwn_423 : decode cX17_takesOwn 423 = .ok (.goto (-26), 3) := by decide +kernel
theorem V.dX17_takesOwn_426 : decode cX17_takesOwn 426 = .ok (.return_, 1) := by decide +kernel
theorem V.mdX17_1013 : MD RX17 1013 yX17_grows cX17_grows 5 none 3 := ⟨Or.inl q4058, q377, q4061, by decide, by decide, by decide +kernel⟩
theorem V.fpX17_978 {nm : String} : FP RX17 nm 978 17 46 (.int) := ⟨(RX17, TX17, 101), tyX17, rfl, rfl, in_X17, by decide, tyX17_ok, nmX17, rfl, Or.inl ⟨rfl, Or.inl q3082⟩⟩
theorem V.mdX17_1017 : MD RX17 1017 yX17_growsPages cX17_growsPages 4 none 2 := ⟨Or.inl q4062, q377, q4065, by decide, by decide, by decide +kernel⟩
theorem V.fpX17_979 {nm : String} : FP RX17 nm 979 17 52 (.int) := ⟨(RX17, TX17, 101), tyX17, rfl, rfl, in_X17, by decide, tyX17_ok, nmX17, rfl, Or.inl ⟨rfl, Or.inl q3088⟩⟩
theorem V.fpX17_980 {nm : String} : FP RX17 nm 980 17 58 (.int) := ⟨(RX17, TX17, 101), tyX17, rfl, rfl, in_X17, by decide, tyX17_ok, nmX17, rfl, Or.inl ⟨rfl, Or.inl q3094⟩⟩
theorem V.mdX17_1024 : MD RX17 1024 yX17_takesElement cX17_takesElement 4 none 2 := ⟨Or.inl q4074, q377, q4077, by decide, by decide, by decide +kernel⟩
theorem V.fdX17_152 : FD RX17 152 17 70 2 := ⟨(RX17, TX17, 101), tyX17, rfl, rfl, in_X17, by decide, Or.inl q3106, rfl⟩
/-! ModuleEngineModel.takesOwn(II)V -/
def V.Mdl_takesOwn_p397  : Nat → HS → Nat → Int32 → Int32 → Option (Unit × HS)
  | 0, _, _, _, _ => none
  | n + 1, σ, x0, x1, x3 =>
    ck (tg σ x0 = 18) <|
    ck (tg σ (gR σ x0 10) = 21) <|
    if (gI σ (gR σ x0 10) 44) ≤ x3 then (
      some ((), σ))
    else (
      ck (tg σ x0 = 18) <|
      ck (tg σ (gR σ x0 70) = 103 ∧ inb (((64 : Int32) * x1) + x3) (ln σ (gR σ x0 70)) ∧ zb (1 : Int32)) <| bn (sI σ (gR σ x0 70) (ix (((64 : Int32) * x1) + x3)) (1 : Int32)) fun σ1 =>
      bn (x3 + (1 : Int32)) fun y2 =>
      Mdl_takesOwn_p397 n σ1 x0 x1 y2)
theorem V.gX17_takesOwn_p397 {X : CX}  : ∀ (n : Nat) (σ : HS) (x0 : Nat) (x1 : Int32) (x3 : Int32), G X RX17 "takesOwn" cX17_takesOwn 4 none 4 94 enV 397 [(0, av x0), (1, iv x1), (3, iv x3)] [] σ (Mdl_takesOwn_p397 n σ x0 x1 x3)
  | 0, σ, x0, x1, x3 => by rw [Mdl_takesOwn_p397]; exact G.nul
  | n + 1, σ, x0, x1, x3 => by
    rw [Mdl_takesOwn_p397]
    refine g_iload_n 3 2 dX17_takesOwn_397 rfl rfl ?_
    refine g_aload_n 0 0 dX17_takesOwn_398 rfl rfl ?_
    refine g_getR fdX17_221 dX17_takesOwn_399 ?_
    refine g_getI fdX17_529 dX17_takesOwn_402 ?_
    refine g_icmp_ge 426 dX17_takesOwn_405 (by decide) ?_ ?_
    · exact g_return rfl dX17_takesOwn_426
    · refine g_aload_n 0 0 dX17_takesOwn_408 rfl rfl ?_
      refine g_getR fdX17_152 dX17_takesOwn_409 ?_
      refine g_bipush (v := 64) dX17_takesOwn_412 (by decide) ?_
      refine g_iload_n 1 1 dX17_takesOwn_414 rfl rfl ?_
      refine g_imul dX17_takesOwn_415 ?_
      refine g_iload_n 3 2 dX17_takesOwn_416 rfl rfl ?_
      refine g_iadd dX17_takesOwn_417 ?_
      refine g_iconst (v := 1) dX17_takesOwn_418 (by decide) ?_
      refine g_zastore dX17_takesOwn_419 (fun σ1 => ?_)
      refine g_iincB (w := 1) 2 dX17_takesOwn_420 rfl (by decide) (by decide) (fun _ => rfl) (fun y2 => ?_)
      refine g_goto 397 dX17_takesOwn_423 (by decide) ?_
      refine G.sub [1, 2, 0] rfl ?_
      exact gX17_takesOwn_p397 n _ _ _ _
def V.Mdl_takesOwn_p372  : Nat → HS → Nat → Int32 → Int32 → Option (Unit × HS)
  | 0, _, _, _, _ => none
  | n + 1, σ, x0, x1, x3 =>
    ck (tg σ x0 = 18) <|
    ck (tg σ (gR σ x0 10) = 21) <|
    if (gI σ (gR σ x0 10) 34) ≤ x3 then (
      Mdl_takesOwn_p397 FU σ x0 x1 (0 : Int32))
    else (
      ck (tg σ x0 = 18) <| cl (Mdl_takesElement σ x0 x1 x3) fun _ σ1 =>
      bn (x3 + (1 : Int32)) fun y2 =>
      Mdl_takesOwn_p372 n σ1 x0 x1 y2)
theorem V.gX17_takesOwn_p372 {X : CX}  : ∀ (n : Nat) (σ : HS) (x0 : Nat) (x1 : Int32) (x3 : Int32), G X RX17 "takesOwn" cX17_takesOwn 4 none 4 94 enV 372 [(0, av x0), (1, iv x1), (3, iv x3)] [] σ (Mdl_takesOwn_p372 n σ x0 x1 x3)
  | 0, σ, x0, x1, x3 => by rw [Mdl_takesOwn_p372]; exact G.nul
  | n + 1, σ, x0, x1, x3 => by
    rw [Mdl_takesOwn_p372]
    refine g_iload_n 3 2 dX17_takesOwn_372 rfl rfl ?_
    refine g_aload_n 0 0 dX17_takesOwn_373 rfl rfl ?_
    refine g_getR fdX17_221 dX17_takesOwn_374 ?_
    refine g_getI fdX17_481 dX17_takesOwn_377 ?_
    refine g_icmp_ge 395 dX17_takesOwn_380 (by decide) ?_ ?_
    · refine g_iconst (v := 0) dX17_takesOwn_395 (by decide) ?_
      refine g_istore_n 3 dX17_takesOwn_396 rfl (by decide) rfl ?_
      refine G.sub [1, 2, 0] rfl ?_
      exact gX17_takesOwn_p397 FU _ _ _ _
    · refine g_aload_n 0 0 dX17_takesOwn_383 rfl rfl ?_
      refine g_iload_n 1 1 dX17_takesOwn_384 rfl rfl ?_
      refine g_iload_n 3 2 dX17_takesOwn_385 rfl rfl ?_
      refine g_callV (fc := fun sς => Mdl_takesElement sς x0 x1 x3) (ci := 17) (as := [iv x1, iv x3]) rfl rfl rfl q4076 qs305 mdX17_1024 (ctX17_takesElement x0 x1 x3) rfl (Nat.le_of_ble_eq_true rfl) (Nat.le_of_ble_eq_true rfl) (Nat.le_of_ble_eq_true rfl) pu_V dX17_takesOwn_386 (fun _ σ1 => ?_)
      refine g_iincB (w := 1) 2 dX17_takesOwn_389 rfl (by decide) (by decide) (fun _ => rfl) (fun y2 => ?_)
      refine g_goto 372 dX17_takesOwn_392 (by decide) ?_
      refine G.sub [1, 2, 0] rfl ?_
      exact gX17_takesOwn_p372 n _ _ _ _
def V.Mdl_takesOwn_p264  : Nat → HS → Nat → Int32 → Int32 → Option (Unit × HS)
  | 0, _, _, _, _ => none
  | n + 1, σ, x0, x1, x3 =>
    ck (tg σ x0 = 18) <|
    ck (tg σ (gR σ x0 10) = 21) <|
    if (gI σ (gR σ x0 10) 24) ≤ x3 then (
      Mdl_takesOwn_p372 FU σ x0 x1 (0 : Int32))
    else (
      ck (tg σ x0 = 18) <|
      ck (tg σ x0 = 18) <|
      ck (tg σ x0 = 18) <|
      ck (tg σ (gR σ x0 10) = 21) <|
      ck (tg σ (gR σ (gR σ x0 10) 25) = 100 ∧ inb x3 (ln σ (gR σ (gR σ x0 10) 25))) <|
      ck (tg σ (gR σ x0 59) = 100 ∧ inb (gI σ x0 58) (ln σ (gR σ x0 59))) <| bn (sI σ (gR σ x0 59) (ix (gI σ x0 58)) (gI σ (gR σ (gR σ x0 10) 25) (ix x3))) fun σ1 =>
      ck (tg σ1 x0 = 18) <|
      ck (tg σ1 x0 = 18) <|
      ck (tg σ1 x0 = 18) <|
      ck (tg σ1 (gR σ1 x0 10) = 21) <|
      ck (tg σ1 (gR σ1 (gR σ1 x0 10) 26) = 103 ∧ inb x3 (ln σ1 (gR σ1 (gR σ1 x0 10) 26))) <|
      ck (tg σ1 (gR σ1 x0 60) = 103 ∧ inb (gI σ1 x0 58) (ln σ1 (gR σ1 x0 60)) ∧ zb (gI σ1 (gR σ1 (gR σ1 x0 10) 26) (ix x3))) <| bn (sI σ1 (gR σ1 x0 60) (ix (gI σ1 x0 58)) (gI σ1 (gR σ1 (gR σ1 x0 10) 26) (ix x3))) fun σ2 =>
      ck (tg σ2 x0 = 18) <|
      ck (tg σ2 x0 = 18) <|
      ck (tg σ2 x0 = 18) <|
      ck (tg σ2 (gR σ2 x0 10) = 21) <|
      ck (tg σ2 (gR σ2 (gR σ2 x0 10) 27) = 100 ∧ inb x3 (ln σ2 (gR σ2 (gR σ2 x0 10) 27))) <|
      ck (tg σ2 x0 = 18) <| cl (Mdl_constant σ2 x0 x1 (gI σ2 (gR σ2 (gR σ2 x0 10) 27) (ix x3))) fun r4 σ3 =>
      ck (tg σ3 (gR σ2 x0 61) = 101 ∧ inb (gI σ2 x0 58) (ln σ3 (gR σ2 x0 61))) <| bn (sJ σ3 (gR σ2 x0 61) (ix (gI σ2 x0 58)) r4) fun σ5 =>
      ck (tg σ5 x0 = 18) <|
      ck (tg σ5 (gR σ5 x0 10) = 21) <| cl (Pln_imported σ5 (gR σ5 x0 10) (3 : Int32)) fun r7 σ6 =>
      ck (tg σ6 x0 = 18) <|
      ck (tg σ6 x0 = 18) <| cl (Mdl_has σ6 x0 (3 : Int32) x1 (r7 + x3) (gI σ6 x0 58)) fun _ σ8 =>
      ck (tg σ8 x0 = 18) <|
      ck (tg σ8 x0 = 18) <| bn (sI σ8 x0 58 ((gI σ8 x0 58) + (1 : Int32))) fun σ9 =>
      bn (x3 + (1 : Int32)) fun y10 =>
      Mdl_takesOwn_p264 n σ9 x0 x1 y10)
theorem V.gX17_takesOwn_p264 {X : CX}  : ∀ (n : Nat) (σ : HS) (x0 : Nat) (x1 : Int32) (x3 : Int32), G X RX17 "takesOwn" cX17_takesOwn 4 none 4 94 enV 264 [(0, av x0), (1, iv x1), (3, iv x3)] [] σ (Mdl_takesOwn_p264 n σ x0 x1 x3)
  | 0, σ, x0, x1, x3 => by rw [Mdl_takesOwn_p264]; exact G.nul
  | n + 1, σ, x0, x1, x3 => by
    rw [Mdl_takesOwn_p264]
    refine g_iload_n 3 2 dX17_takesOwn_264 rfl rfl ?_
    refine g_aload_n 0 0 dX17_takesOwn_265 rfl rfl ?_
    refine g_getR fdX17_221 dX17_takesOwn_266 ?_
    refine g_getI fdX17_453 dX17_takesOwn_269 ?_
    refine g_icmp_ge 370 dX17_takesOwn_272 (by decide) ?_ ?_
    · refine g_iconst (v := 0) dX17_takesOwn_370 (by decide) ?_
      refine g_istore_n 3 dX17_takesOwn_371 rfl (by decide) rfl ?_
      refine G.sub [1, 2, 0] rfl ?_
      exact gX17_takesOwn_p372 FU _ _ _ _
    · refine g_aload_n 0 0 dX17_takesOwn_275 rfl rfl ?_
      refine g_getR fdX17_122 dX17_takesOwn_276 ?_
      refine g_aload_n 0 0 dX17_takesOwn_279 rfl rfl ?_
      refine g_getI fdX17_980 dX17_takesOwn_280 ?_
      refine g_aload_n 0 0 dX17_takesOwn_283 rfl rfl ?_
      refine g_getR fdX17_221 dX17_takesOwn_284 ?_
      refine g_getR fdX17_459 dX17_takesOwn_287 ?_
      refine g_iload_n 3 2 dX17_takesOwn_290 rfl rfl ?_
      refine g_iaload dX17_takesOwn_291 ?_
      refine g_iastore dX17_takesOwn_292 (fun σ1 => ?_)
      refine g_aload_n 0 0 dX17_takesOwn_293 rfl rfl ?_
      refine g_getR fdX17_125 dX17_takesOwn_294 ?_
      refine g_aload_n 0 0 dX17_takesOwn_297 rfl rfl ?_
      refine g_getI fdX17_980 dX17_takesOwn_298 ?_
      refine g_aload_n 0 0 dX17_takesOwn_301 rfl rfl ?_
      refine g_getR fdX17_221 dX17_takesOwn_302 ?_
      refine g_getR fdX17_462 dX17_takesOwn_305 ?_
      refine g_iload_n 3 2 dX17_takesOwn_308 rfl rfl ?_
      refine g_zaload dX17_takesOwn_309 ?_
      refine g_zastore dX17_takesOwn_310 (fun σ2 => ?_)
      refine g_aload_n 0 0 dX17_takesOwn_311 rfl rfl ?_
      refine g_getR fdX17_128 dX17_takesOwn_312 ?_
      refine g_aload_n 0 0 dX17_takesOwn_315 rfl rfl ?_
      refine g_getI fdX17_980 dX17_takesOwn_316 ?_
      refine g_aload_n 0 0 dX17_takesOwn_319 rfl rfl ?_
      refine g_iload_n 1 1 dX17_takesOwn_320 rfl rfl ?_
      refine g_aload_n 0 0 dX17_takesOwn_321 rfl rfl ?_
      refine g_getR fdX17_221 dX17_takesOwn_322 ?_
      refine g_getR fdX17_463 dX17_takesOwn_325 ?_
      refine g_iload_n 3 2 dX17_takesOwn_328 rfl rfl ?_
      refine g_iaload dX17_takesOwn_329 ?_
      refine g_callV (fc := fun sς => Mdl_constant sς x0 x1 (gI σ2 (gR σ2 (gR σ2 x0 10) 27) (ix x3))) (ci := 17) (as := [iv x1, iv (gI σ2 (gR σ2 (gR σ2 x0 10) 27) (ix x3))]) rfl rfl rfl q4068 qs303 mdX17_1020 (ctX17_constant x0 x1 (gI σ2 (gR σ2 (gR σ2 x0 10) 27) (ix x3))) rfl (Nat.le_of_ble_eq_true rfl) (Nat.le_of_ble_eq_true rfl) (Nat.le_of_ble_eq_true rfl) pu_J dX17_takesOwn_330 (fun r4 σ3 => ?_)
      refine g_lastore dX17_takesOwn_333 (fun σ5 => ?_)
      refine g_aload_n 0 0 dX17_takesOwn_334 rfl rfl ?_
      refine g_iconst (v := 3) dX17_takesOwn_335 (by decide) ?_
      refine g_iload_n 1 1 dX17_takesOwn_336 rfl rfl ?_
      refine g_aload_n 0 0 dX17_takesOwn_337 rfl rfl ?_
      refine g_getR fdX17_221 dX17_takesOwn_338 ?_
      refine g_iconst (v := 3) dX17_takesOwn_341 (by decide) ?_
      refine g_callV (fc := fun sς => Pln_imported sς (gR σ5 x0 10) (3 : Int32)) (ci := 20) (as := [iv (3 : Int32)]) rfl rfl rfl q3784 q3785 mdX17_664 (ctX20_imported (gR σ5 x0 10) (3 : Int32)) rfl (Nat.le_of_ble_eq_true rfl) (Nat.le_of_ble_eq_true rfl) (Nat.le_of_ble_eq_true rfl) pu_I dX17_takesOwn_342 (fun r7 σ6 => ?_)
      refine g_iload_n 3 2 dX17_takesOwn_345 rfl rfl ?_
      refine g_iadd dX17_takesOwn_346 ?_
      refine g_aload_n 0 0 dX17_takesOwn_347 rfl rfl ?_
      refine g_getI fdX17_980 dX17_takesOwn_348 ?_
      refine g_callV (fc := fun sς => Mdl_has sς x0 (3 : Int32) x1 (r7 + x3) (gI σ6 x0 58)) (ci := 17) (as := [iv (3 : Int32), iv x1, iv (r7 + x3), iv (gI σ6 x0 58)]) rfl rfl rfl q4052 qs299 mdX17_1009 (ctX17_has x0 (3 : Int32) x1 (r7 + x3) (gI σ6 x0 58)) rfl (Nat.le_of_ble_eq_true rfl) (Nat.le_of_ble_eq_true rfl) (Nat.le_of_ble_eq_true rfl) pu_V dX17_takesOwn_351 (fun _ σ8 => ?_)
      refine g_aload_n 0 0 dX17_takesOwn_354 rfl rfl ?_
      refine g_dup dX17_takesOwn_355 rfl ?_
      refine g_getI fdX17_980 dX17_takesOwn_356 ?_
      refine g_iconst (v := 1) dX17_takesOwn_359 (by decide) ?_
      refine g_iadd dX17_takesOwn_360 ?_
      refine g_putI fpX17_980 dX17_takesOwn_361 (fun σ9 => ?_)
      refine g_iincB (w := 1) 2 dX17_takesOwn_364 rfl (by decide) (by decide) (fun _ => rfl) (fun y10 => ?_)
      refine g_goto 264 dX17_takesOwn_367 (by decide) ?_
      refine G.sub [1, 2, 0] rfl ?_
      exact gX17_takesOwn_p264 n _ _ _ _
def V.Mdl_takesOwn_p169  : Nat → HS → Nat → Int32 → Int32 → Option (Unit × HS)
  | 0, _, _, _, _ => none
  | n + 1, σ, x0, x1, x3 =>
    ck (tg σ x0 = 18) <|
    ck (tg σ (gR σ x0 10) = 21) <|
    if (gI σ (gR σ x0 10) 21) ≤ x3 then (
      Mdl_takesOwn_p264 FU σ x0 x1 (0 : Int32))
    else (
      ck (tg σ x0 = 18) <|
      ck (tg σ x0 = 18) <|
      ck (tg σ x0 = 18) <|
      ck (tg σ (gR σ x0 10) = 21) <|
      ck (tg σ (gR σ (gR σ x0 10) 23) = 101 ∧ inb x3 (ln σ (gR σ (gR σ x0 10) 23))) <|
      ck (tg σ (gR σ x0 55) = 101 ∧ inb (gI σ x0 52) (ln σ (gR σ x0 55))) <| bn (sJ σ (gR σ x0 55) (ix (gI σ x0 52)) (gJ σ (gR σ (gR σ x0 10) 23) (ix x3))) fun σ1 =>
      ck (tg σ1 x0 = 18) <|
      ck (tg σ1 x0 = 18) <|
      ck (tg σ1 (gR σ1 x0 54) = 100 ∧ inb (gI σ1 x0 52) (ln σ1 (gR σ1 x0 54))) <| bn (sI σ1 (gR σ1 x0 54) (ix (gI σ1 x0 52)) (0 : Int32)) fun σ2 =>
      ck (tg σ2 x0 = 18) <|
      ck (tg σ2 x0 = 18) <|
      ck (tg σ2 (gR σ2 x0 10) = 21) <|
      ck (tg σ2 (gR σ2 (gR σ2 x0 10) 22) = 101 ∧ inb x3 (ln σ2 (gR σ2 (gR σ2 x0 10) 22))) <|
      ck (tg σ2 x0 = 18) <| cl (Mdl_growsPages σ2 x0 (gI σ2 x0 52) ((gJ σ2 (gR σ2 (gR σ2 x0 10) 22) (ix x3)).toInt32)) fun _ σ3 =>
      ck (tg σ3 x0 = 18) <|
      ck (tg σ3 (gR σ3 x0 10) = 21) <| cl (Pln_imported σ3 (gR σ3 x0 10) (2 : Int32)) fun r5 σ4 =>
      ck (tg σ4 x0 = 18) <|
      ck (tg σ4 x0 = 18) <| cl (Mdl_has σ4 x0 (2 : Int32) x1 (r5 + x3) (gI σ4 x0 52)) fun _ σ6 =>
      ck (tg σ6 x0 = 18) <|
      ck (tg σ6 x0 = 18) <| bn (sI σ6 x0 52 ((gI σ6 x0 52) + (1 : Int32))) fun σ7 =>
      bn (x3 + (1 : Int32)) fun y8 =>
      Mdl_takesOwn_p169 n σ7 x0 x1 y8)
theorem V.gX17_takesOwn_p169 {X : CX}  : ∀ (n : Nat) (σ : HS) (x0 : Nat) (x1 : Int32) (x3 : Int32), G X RX17 "takesOwn" cX17_takesOwn 4 none 4 94 enV 169 [(0, av x0), (1, iv x1), (3, iv x3)] [] σ (Mdl_takesOwn_p169 n σ x0 x1 x3)
  | 0, σ, x0, x1, x3 => by rw [Mdl_takesOwn_p169]; exact G.nul
  | n + 1, σ, x0, x1, x3 => by
    rw [Mdl_takesOwn_p169]
    refine g_iload_n 3 2 dX17_takesOwn_169 rfl rfl ?_
    refine g_aload_n 0 0 dX17_takesOwn_170 rfl rfl ?_
    refine g_getR fdX17_221 dX17_takesOwn_171 ?_
    refine g_getI fdX17_444 dX17_takesOwn_174 ?_
    refine g_icmp_ge 262 dX17_takesOwn_177 (by decide) ?_ ?_
    · refine g_iconst (v := 0) dX17_takesOwn_262 (by decide) ?_
      refine g_istore_n 3 dX17_takesOwn_263 rfl (by decide) rfl ?_
      refine G.sub [1, 2, 0] rfl ?_
      exact gX17_takesOwn_p264 FU _ _ _ _
    · refine g_aload_n 0 0 dX17_takesOwn_180 rfl rfl ?_
      refine g_getR fdX17_112 dX17_takesOwn_181 ?_
      refine g_aload_n 0 0 dX17_takesOwn_184 rfl rfl ?_
      refine g_getI fdX17_979 dX17_takesOwn_185 ?_
      refine g_aload_n 0 0 dX17_takesOwn_188 rfl rfl ?_
      refine g_getR fdX17_221 dX17_takesOwn_189 ?_
      refine g_getR fdX17_450 dX17_takesOwn_192 ?_
      refine g_iload_n 3 2 dX17_takesOwn_195 rfl rfl ?_
      refine g_laload dX17_takesOwn_196 ?_
      refine g_lastore dX17_takesOwn_197 (fun σ1 => ?_)
      refine g_aload_n 0 0 dX17_takesOwn_198 rfl rfl ?_
      refine g_getR fdX17_109 dX17_takesOwn_199 ?_
      refine g_aload_n 0 0 dX17_takesOwn_202 rfl rfl ?_
      refine g_getI fdX17_979 dX17_takesOwn_203 ?_
      refine g_iconst (v := 0) dX17_takesOwn_206 (by decide) ?_
      refine g_iastore dX17_takesOwn_207 (fun σ2 => ?_)
      refine g_aload_n 0 0 dX17_takesOwn_208 rfl rfl ?_
      refine g_aload_n 0 0 dX17_takesOwn_209 rfl rfl ?_
      refine g_getI fdX17_979 dX17_takesOwn_210 ?_
      refine g_aload_n 0 0 dX17_takesOwn_213 rfl rfl ?_
      refine g_getR fdX17_221 dX17_takesOwn_214 ?_
      refine g_getR fdX17_447 dX17_takesOwn_217 ?_
      refine g_iload_n 3 2 dX17_takesOwn_220 rfl rfl ?_
      refine g_laload dX17_takesOwn_221 ?_
      refine g_l2i dX17_takesOwn_222 ?_
      refine g_callV (fc := fun sς => Mdl_growsPages sς x0 (gI σ2 x0 52) ((gJ σ2 (gR σ2 (gR σ2 x0 10) 22) (ix x3)).toInt32)) (ci := 17) (as := [iv (gI σ2 x0 52), iv ((gJ σ2 (gR σ2 (gR σ2 x0 10) 22) (ix x3)).toInt32)]) rfl rfl rfl q4064 qs302 mdX17_1017 (ctX17_growsPages x0 (gI σ2 x0 52) ((gJ σ2 (gR σ2 (gR σ2 x0 10) 22) (ix x3)).toInt32)) rfl (Nat.le_of_ble_eq_true rfl) (Nat.le_of_ble_eq_true rfl) (Nat.le_of_ble_eq_true rfl) pu_V dX17_takesOwn_223 (fun _ σ3 => ?_)
      refine g_aload_n 0 0 dX17_takesOwn_226 rfl rfl ?_
      refine g_iconst (v := 2) dX17_takesOwn_227 (by decide) ?_
      refine g_iload_n 1 1 dX17_takesOwn_228 rfl rfl ?_
      refine g_aload_n 0 0 dX17_takesOwn_229 rfl rfl ?_
      refine g_getR fdX17_221 dX17_takesOwn_230 ?_
      refine g_iconst (v := 2) dX17_takesOwn_233 (by decide) ?_
      refine g_callV (fc := fun sς => Pln_imported sς (gR σ3 x0 10) (2 : Int32)) (ci := 20) (as := [iv (2 : Int32)]) rfl rfl rfl q3784 q3785 mdX17_664 (ctX20_imported (gR σ3 x0 10) (2 : Int32)) rfl (Nat.le_of_ble_eq_true rfl) (Nat.le_of_ble_eq_true rfl) (Nat.le_of_ble_eq_true rfl) pu_I dX17_takesOwn_234 (fun r5 σ4 => ?_)
      refine g_iload_n 3 2 dX17_takesOwn_237 rfl rfl ?_
      refine g_iadd dX17_takesOwn_238 ?_
      refine g_aload_n 0 0 dX17_takesOwn_239 rfl rfl ?_
      refine g_getI fdX17_979 dX17_takesOwn_240 ?_
      refine g_callV (fc := fun sς => Mdl_has sς x0 (2 : Int32) x1 (r5 + x3) (gI σ4 x0 52)) (ci := 17) (as := [iv (2 : Int32), iv x1, iv (r5 + x3), iv (gI σ4 x0 52)]) rfl rfl rfl q4052 qs299 mdX17_1009 (ctX17_has x0 (2 : Int32) x1 (r5 + x3) (gI σ4 x0 52)) rfl (Nat.le_of_ble_eq_true rfl) (Nat.le_of_ble_eq_true rfl) (Nat.le_of_ble_eq_true rfl) pu_V dX17_takesOwn_243 (fun _ σ6 => ?_)
      refine g_aload_n 0 0 dX17_takesOwn_246 rfl rfl ?_
      refine g_dup dX17_takesOwn_247 rfl ?_
      refine g_getI fdX17_979 dX17_takesOwn_248 ?_
      refine g_iconst (v := 1) dX17_takesOwn_251 (by decide) ?_
      refine g_iadd dX17_takesOwn_252 ?_
      refine g_putI fpX17_979 dX17_takesOwn_253 (fun σ7 => ?_)
      refine g_iincB (w := 1) 2 dX17_takesOwn_256 rfl (by decide) (by decide) (fun _ => rfl) (fun y8 => ?_)
      refine g_goto 169 dX17_takesOwn_259 (by decide) ?_
      refine G.sub [1, 2, 0] rfl ?_
      exact gX17_takesOwn_p169 n _ _ _ _
def V.Mdl_takesOwn_p55  : Nat → HS → Nat → Int32 → Int32 → Option (Unit × HS)
  | 0, _, _, _, _ => none
  | n + 1, σ, x0, x1, x3 =>
    ck (tg σ x0 = 18) <|
    ck (tg σ (gR σ x0 10) = 21) <|
    if (gI σ (gR σ x0 10) 17) ≤ x3 then (
      Mdl_takesOwn_p169 FU σ x0 x1 (0 : Int32))
    else (
      ck (tg σ x0 = 18) <|
      ck (tg σ x0 = 18) <|
      ck (tg σ x0 = 18) <|
      ck (tg σ (gR σ x0 10) = 21) <|
      ck (tg σ (gR σ (gR σ x0 10) 18) = 100 ∧ inb x3 (ln σ (gR σ (gR σ x0 10) 18))) <|
      ck (tg σ (gR σ x0 48) = 100 ∧ inb (gI σ x0 46) (ln σ (gR σ x0 48))) <| bn (sI σ (gR σ x0 48) (ix (gI σ x0 46)) (gI σ (gR σ (gR σ x0 10) 18) (ix x3))) fun σ1 =>
      ck (tg σ1 x0 = 18) <|
      ck (tg σ1 x0 = 18) <|
      ck (tg σ1 x0 = 18) <|
      ck (tg σ1 (gR σ1 x0 10) = 21) <|
      ck (tg σ1 (gR σ1 (gR σ1 x0 10) 20) = 101 ∧ inb x3 (ln σ1 (gR σ1 (gR σ1 x0 10) 20))) <|
      ck (tg σ1 (gR σ1 x0 50) = 101 ∧ inb (gI σ1 x0 46) (ln σ1 (gR σ1 x0 50))) <| bn (sJ σ1 (gR σ1 x0 50) (ix (gI σ1 x0 46)) (gJ σ1 (gR σ1 (gR σ1 x0 10) 20) (ix x3))) fun σ2 =>
      ck (tg σ2 x0 = 18) <|
      ck (tg σ2 x0 = 18) <|
      ck (tg σ2 (gR σ2 x0 49) = 100 ∧ inb (gI σ2 x0 46) (ln σ2 (gR σ2 x0 49))) <| bn (sI σ2 (gR σ2 x0 49) (ix (gI σ2 x0 46)) (0 : Int32)) fun σ3 =>
      ck (tg σ3 x0 = 18) <|
      ck (tg σ3 x0 = 18) <|
      ck (tg σ3 (gR σ3 x0 10) = 21) <|
      ck (tg σ3 (gR σ3 (gR σ3 x0 10) 19) = 101 ∧ inb x3 (ln σ3 (gR σ3 (gR σ3 x0 10) 19))) <|
      ck (tg σ3 x0 = 18) <| cl (Mdl_grows σ3 x0 (gI σ3 x0 46) ((gJ σ3 (gR σ3 (gR σ3 x0 10) 19) (ix x3)).toInt32) (-1 : Int32)) fun _ σ4 =>
      ck (tg σ4 x0 = 18) <|
      ck (tg σ4 (gR σ4 x0 10) = 21) <| cl (Pln_imported σ4 (gR σ4 x0 10) (1 : Int32)) fun r6 σ5 =>
      ck (tg σ5 x0 = 18) <|
      ck (tg σ5 x0 = 18) <| cl (Mdl_has σ5 x0 (1 : Int32) x1 (r6 + x3) (gI σ5 x0 46)) fun _ σ7 =>
      ck (tg σ7 x0 = 18) <|
      ck (tg σ7 x0 = 18) <| bn (sI σ7 x0 46 ((gI σ7 x0 46) + (1 : Int32))) fun σ8 =>
      bn (x3 + (1 : Int32)) fun y9 =>
      Mdl_takesOwn_p55 n σ8 x0 x1 y9)
theorem V.gX17_takesOwn_p55 {X : CX}  : ∀ (n : Nat) (σ : HS) (x0 : Nat) (x1 : Int32) (x3 : Int32), G X RX17 "takesOwn" cX17_takesOwn 4 none 4 94 enV 55 [(0, av x0), (1, iv x1), (3, iv x3)] [] σ (Mdl_takesOwn_p55 n σ x0 x1 x3)
  | 0, σ, x0, x1, x3 => by rw [Mdl_takesOwn_p55]; exact G.nul
  | n + 1, σ, x0, x1, x3 => by
    rw [Mdl_takesOwn_p55]
    refine g_iload_n 3 2 dX17_takesOwn_55 rfl rfl ?_
    refine g_aload_n 0 0 dX17_takesOwn_56 rfl rfl ?_
    refine g_getR fdX17_221 dX17_takesOwn_57 ?_
    refine g_getI fdX17_432 dX17_takesOwn_60 ?_
    refine g_icmp_ge 167 dX17_takesOwn_63 (by decide) ?_ ?_
    · refine g_iconst (v := 0) dX17_takesOwn_167 (by decide) ?_
      refine g_istore_n 3 dX17_takesOwn_168 rfl (by decide) rfl ?_
      refine G.sub [1, 2, 0] rfl ?_
      exact gX17_takesOwn_p169 FU _ _ _ _
    · refine g_aload_n 0 0 dX17_takesOwn_66 rfl rfl ?_
      refine g_getR fdX17_93 dX17_takesOwn_67 ?_
      refine g_aload_n 0 0 dX17_takesOwn_70 rfl rfl ?_
      refine g_getI fdX17_978 dX17_takesOwn_71 ?_
      refine g_aload_n 0 0 dX17_takesOwn_74 rfl rfl ?_
      refine g_getR fdX17_221 dX17_takesOwn_75 ?_
      refine g_getR fdX17_435 dX17_takesOwn_78 ?_
      refine g_iload_n 3 2 dX17_takesOwn_81 rfl rfl ?_
      refine g_iaload dX17_takesOwn_82 ?_
      refine g_iastore dX17_takesOwn_83 (fun σ1 => ?_)
      refine g_aload_n 0 0 dX17_takesOwn_84 rfl rfl ?_
      refine g_getR fdX17_99 dX17_takesOwn_85 ?_
      refine g_aload_n 0 0 dX17_takesOwn_88 rfl rfl ?_
      refine g_getI fdX17_978 dX17_takesOwn_89 ?_
      refine g_aload_n 0 0 dX17_takesOwn_92 rfl rfl ?_
      refine g_getR fdX17_221 dX17_takesOwn_93 ?_
      refine g_getR fdX17_441 dX17_takesOwn_96 ?_
      refine g_iload_n 3 2 dX17_takesOwn_99 rfl rfl ?_
      refine g_laload dX17_takesOwn_100 ?_
      refine g_lastore dX17_takesOwn_101 (fun σ2 => ?_)
      refine g_aload_n 0 0 dX17_takesOwn_102 rfl rfl ?_
      refine g_getR fdX17_96 dX17_takesOwn_103 ?_
      refine g_aload_n 0 0 dX17_takesOwn_106 rfl rfl ?_
      refine g_getI fdX17_978 dX17_takesOwn_107 ?_
      refine g_iconst (v := 0) dX17_takesOwn_110 (by decide) ?_
      refine g_iastore dX17_takesOwn_111 (fun σ3 => ?_)
      refine g_aload_n 0 0 dX17_takesOwn_112 rfl rfl ?_
      refine g_aload_n 0 0 dX17_takesOwn_113 rfl rfl ?_
      refine g_getI fdX17_978 dX17_takesOwn_114 ?_
      refine g_aload_n 0 0 dX17_takesOwn_117 rfl rfl ?_
      refine g_getR fdX17_221 dX17_takesOwn_118 ?_
      refine g_getR fdX17_438 dX17_takesOwn_121 ?_
      refine g_iload_n 3 2 dX17_takesOwn_124 rfl rfl ?_
      refine g_laload dX17_takesOwn_125 ?_
      refine g_l2i dX17_takesOwn_126 ?_
      refine g_iconst (v := (-1)) dX17_takesOwn_127 (by decide) ?_
      refine g_callV (fc := fun sς => Mdl_grows sς x0 (gI σ3 x0 46) ((gJ σ3 (gR σ3 (gR σ3 x0 10) 19) (ix x3)).toInt32) (-1 : Int32)) (ci := 17) (as := [iv (gI σ3 x0 46), iv ((gJ σ3 (gR σ3 (gR σ3 x0 10) 19) (ix x3)).toInt32), iv (-1 : Int32)]) rfl rfl rfl q4060 qs301 mdX17_1013 (ctX17_grows x0 (gI σ3 x0 46) ((gJ σ3 (gR σ3 (gR σ3 x0 10) 19) (ix x3)).toInt32) (-1 : Int32)) rfl (Nat.le_of_ble_eq_true rfl) (Nat.le_of_ble_eq_true rfl) (Nat.le_of_ble_eq_true rfl) pu_V dX17_takesOwn_128 (fun _ σ4 => ?_)
      refine g_aload_n 0 0 dX17_takesOwn_131 rfl rfl ?_
      refine g_iconst (v := 1) dX17_takesOwn_132 (by decide) ?_
      refine g_iload_n 1 1 dX17_takesOwn_133 rfl rfl ?_
      refine g_aload_n 0 0 dX17_takesOwn_134 rfl rfl ?_
      refine g_getR fdX17_221 dX17_takesOwn_135 ?_
      refine g_iconst (v := 1) dX17_takesOwn_138 (by decide) ?_
      refine g_callV (fc := fun sς => Pln_imported sς (gR σ4 x0 10) (1 : Int32)) (ci := 20) (as := [iv (1 : Int32)]) rfl rfl rfl q3784 q3785 mdX17_664 (ctX20_imported (gR σ4 x0 10) (1 : Int32)) rfl (Nat.le_of_ble_eq_true rfl) (Nat.le_of_ble_eq_true rfl) (Nat.le_of_ble_eq_true rfl) pu_I dX17_takesOwn_139 (fun r6 σ5 => ?_)
      refine g_iload_n 3 2 dX17_takesOwn_142 rfl rfl ?_
      refine g_iadd dX17_takesOwn_143 ?_
      refine g_aload_n 0 0 dX17_takesOwn_144 rfl rfl ?_
      refine g_getI fdX17_978 dX17_takesOwn_145 ?_
      refine g_callV (fc := fun sς => Mdl_has sς x0 (1 : Int32) x1 (r6 + x3) (gI σ5 x0 46)) (ci := 17) (as := [iv (1 : Int32), iv x1, iv (r6 + x3), iv (gI σ5 x0 46)]) rfl rfl rfl q4052 qs299 mdX17_1009 (ctX17_has x0 (1 : Int32) x1 (r6 + x3) (gI σ5 x0 46)) rfl (Nat.le_of_ble_eq_true rfl) (Nat.le_of_ble_eq_true rfl) (Nat.le_of_ble_eq_true rfl) pu_V dX17_takesOwn_148 (fun _ σ7 => ?_)
      refine g_aload_n 0 0 dX17_takesOwn_151 rfl rfl ?_
      refine g_dup dX17_takesOwn_152 rfl ?_
      refine g_getI fdX17_978 dX17_takesOwn_153 ?_
      refine g_iconst (v := 1) dX17_takesOwn_156 (by decide) ?_
      refine g_iadd dX17_takesOwn_157 ?_
      refine g_putI fpX17_978 dX17_takesOwn_158 (fun σ8 => ?_)
      refine g_iincB (w := 1) 2 dX17_takesOwn_161 rfl (by decide) (by decide) (fun _ => rfl) (fun y9 => ?_)
      refine g_goto 55 dX17_takesOwn_164 (by decide) ?_
      refine G.sub [1, 2, 0] rfl ?_
      exact gX17_takesOwn_p55 n _ _ _ _
def V.Mdl_takesOwn_p2  : Nat → HS → Nat → Int32 → Int32 → Int32 → Option (Unit × HS)
  | 0, _, _, _, _, _ => none
  | n + 1, σ, x0, x1, x2, x3 =>
    ck (tg σ x0 = 18) <|
    ck (tg σ (gR σ x0 10) = 21) <|
    if (gI σ (gR σ x0 10) 15) ≤ x3 then (
      Mdl_takesOwn_p55 FU σ x0 x1 (0 : Int32))
    else (
      ck (tg σ x0 = 18) <|
      ck (tg σ (gR σ x0 10) = 21) <| cl (Pln_imported σ (gR σ x0 10) (0 : Int32)) fun r2 σ1 =>
      ck (tg σ1 x0 = 18) <|
      ck (tg σ1 (gR σ1 x0 10) = 21) <|
      ck (tg σ1 (gR σ1 (gR σ1 x0 10) 16) = 101 ∧ inb x3 (ln σ1 (gR σ1 (gR σ1 x0 10) 16))) <|
      ck (tg σ1 x0 = 18) <| cl (Mdl_newFunction σ1 x0 x2 ((gJ σ1 (gR σ1 (gR σ1 x0 10) 16) (ix x3)).toInt32) x1 x3 (-1 : Int32)) fun r4 σ3 =>
      ck (tg σ3 x0 = 18) <| cl (Mdl_has σ3 x0 (0 : Int32) x1 (r2 + x3) r4) fun _ σ5 =>
      bn (x3 + (1 : Int32)) fun y6 =>
      Mdl_takesOwn_p2 n σ5 x0 x1 x2 y6)
theorem V.gX17_takesOwn_p2 {X : CX}  : ∀ (n : Nat) (σ : HS) (x0 : Nat) (x1 : Int32) (x2 : Int32) (x3 : Int32), G X RX17 "takesOwn" cX17_takesOwn 4 none 4 94 enV 2 [(0, av x0), (1, iv x1), (2, iv x2), (3, iv x3)] [] σ (Mdl_takesOwn_p2 n σ x0 x1 x2 x3)
  | 0, σ, x0, x1, x2, x3 => by rw [Mdl_takesOwn_p2]; exact G.nul
  | n + 1, σ, x0, x1, x2, x3 => by
    rw [Mdl_takesOwn_p2]
    refine g_iload_n 3 3 dX17_takesOwn_2 rfl rfl ?_
    refine g_aload_n 0 0 dX17_takesOwn_3 rfl rfl ?_
    refine g_getR fdX17_221 dX17_takesOwn_4 ?_
    refine g_getI fdX17_426 dX17_takesOwn_7 ?_
    refine g_icmp_ge 53 dX17_takesOwn_10 (by decide) ?_ ?_
    · refine g_iconst (v := 0) dX17_takesOwn_53 (by decide) ?_
      refine g_istore_n 3 dX17_takesOwn_54 rfl (by decide) rfl ?_
      refine G.sub [1, 2, 0] rfl ?_
      exact gX17_takesOwn_p55 FU _ _ _ _
    · refine g_aload_n 0 0 dX17_takesOwn_13 rfl rfl ?_
      refine g_iconst (v := 0) dX17_takesOwn_14 (by decide) ?_
      refine g_iload_n 1 1 dX17_takesOwn_15 rfl rfl ?_
      refine g_aload_n 0 0 dX17_takesOwn_16 rfl rfl ?_
      refine g_getR fdX17_221 dX17_takesOwn_17 ?_
      refine g_iconst (v := 0) dX17_takesOwn_20 (by decide) ?_
      refine g_callV (fc := fun sς => Pln_imported sς (gR σ x0 10) (0 : Int32)) (ci := 20) (as := [iv (0 : Int32)]) rfl rfl rfl q3784 q3785 mdX17_664 (ctX20_imported (gR σ x0 10) (0 : Int32)) rfl (Nat.le_of_ble_eq_true rfl) (Nat.le_of_ble_eq_true rfl) (Nat.le_of_ble_eq_true rfl) pu_I dX17_takesOwn_21 (fun r2 σ1 => ?_)
      refine g_iload_n 3 3 dX17_takesOwn_24 rfl rfl ?_
      refine g_iadd dX17_takesOwn_25 ?_
      refine g_aload_n 0 0 dX17_takesOwn_26 rfl rfl ?_
      refine g_iload_n 2 2 dX17_takesOwn_27 rfl rfl ?_
      refine g_aload_n 0 0 dX17_takesOwn_28 rfl rfl ?_
      refine g_getR fdX17_221 dX17_takesOwn_29 ?_
      refine g_getR fdX17_429 dX17_takesOwn_32 ?_
      refine g_iload_n 3 3 dX17_takesOwn_35 rfl rfl ?_
      refine g_laload dX17_takesOwn_36 ?_
      refine g_l2i dX17_takesOwn_37 ?_
      refine g_iload_n 1 1 dX17_takesOwn_38 rfl rfl ?_
      refine g_iload_n 3 3 dX17_takesOwn_39 rfl rfl ?_
      refine g_iconst (v := (-1)) dX17_takesOwn_40 (by decide) ?_
      refine g_callV (fc := fun sς => Mdl_newFunction sς x0 x2 ((gJ σ1 (gR σ1 (gR σ1 x0 10) 16) (ix x3)).toInt32) x1 x3 (-1 : Int32)) (ci := 17) (as := [iv x2, iv ((gJ σ1 (gR σ1 (gR σ1 x0 10) 16) (ix x3)).toInt32), iv x1, iv x3, iv (-1 : Int32)]) rfl rfl rfl q4048 qs298 mdX17_1005 (ctX17_newFunction x0 x2 ((gJ σ1 (gR σ1 (gR σ1 x0 10) 16) (ix x3)).toInt32) x1 x3 (-1 : Int32)) rfl (Nat.le_of_ble_eq_true rfl) (Nat.le_of_ble_eq_true rfl) (Nat.le_of_ble_eq_true rfl) pu_I dX17_takesOwn_41 (fun r4 σ3 => ?_)
      refine g_callV (fc := fun sς => Mdl_has sς x0 (0 : Int32) x1 (r2 + x3) r4) (ci := 17) (as := [iv (0 : Int32), iv x1, iv (r2 + x3), iv r4]) rfl rfl rfl q4052 qs299 mdX17_1009 (ctX17_has x0 (0 : Int32) x1 (r2 + x3) r4) rfl (Nat.le_of_ble_eq_true rfl) (Nat.le_of_ble_eq_true rfl) (Nat.le_of_ble_eq_true rfl) pu_V dX17_takesOwn_44 (fun _ σ5 => ?_)
      refine g_iincB (w := 1) 3 dX17_takesOwn_47 rfl (by decide) (by decide) (fun _ => rfl) (fun y6 => ?_)
      refine g_goto 2 dX17_takesOwn_50 (by decide) ?_
      refine G.sub [1, 2, 3, 0] rfl ?_
      exact gX17_takesOwn_p2 n _ _ _ _ _
def V.Mdl_takesOwn (σ : HS) (x0 : Nat) (x1 : Int32) (x2 : Int32) : Option (Unit × HS) :=
  Mdl_takesOwn_p2 FU σ x0 x1 x2 (0 : Int32)
theorem V.ctX17_takesOwn (x0 : Nat) (x1 : Int32) (x2 : Int32) : Ct yX17_takesOwn  cX17_takesOwn 4 none 4 94 eV [av x0, iv x1, iv x2] (fun σ => Mdl_takesOwn σ x0 x1 x2) := by
  refine Ct.of (own := RX17) (nm := "takesOwn") (desc := "(II)V") rfl (by decide) (Nat.le_of_ble_eq_true rfl) (by decide) (fun X σ => ?_)
  show G X RX17 "takesOwn" cX17_takesOwn 4 none 4 94 enV 0 [(0, av x0), (1, iv x1), (2, iv x2)] [] σ (Mdl_takesOwn σ x0 x1 x2)
  unfold Mdl_takesOwn
  refine g_iconst (v := 0) dX17_takesOwn_0 (by decide) ?_
  refine g_istore_n 3 dX17_takesOwn_1 rfl (by decide) rfl ?_
  refine G.sub [1, 2, 3, 0] rfl ?_
  exact gX17_takesOwn_p2 FU _ _ _ _ _
theorem V.dX17_copiesElement_0 : decode cX17_copiesElement 0 = .ok (.lload 6, 2) := by decide +kernel
theorem V.dX17_copiesElement_2 : decode cX17_copiesElement 2 = .ok (.lload 8, 2) := by decide +kernel
theorem V.dX17_copiesElement_4 : decode cX17_copiesElement 4 = .ok (.ladd, 1) := by decide +kernel
theorem V.dX17_copiesElement_5 : decode cX17_copiesElement 5 = .ok (.aload_n 0, 1) := by decide +kernel
theorem V.dX17_copiesElement_6 : decode cX17_copiesElement 6 = .ok (.getfield 149, 3) := by decide +kernel
theorem V.dX17_copiesElement_9 : decode cX17_copiesElement 9 = .ok (.bipush 64, 2) := by decide +kernel
theorem V.dX17_copiesElement_11 : decode cX17_copiesElement 11 = .ok (.iload_n 1, 1) := by decide +kernel
theorem V.dX17_copiesElement_12 : decode cX17_copiesElement 12 = .ok (.imul, 1) := by decide +kernel
theorem V.dX17_copiesElement_13 : decode cX17_copiesElement 13 = .ok (.iload_n 2, 1) := by decide +kernel
theorem V.dX17_copiesElement_14 : decode cX17_copiesElement 14 = .ok (.iadd, 1) := by decide +kernel
theorem V.dX17_copiesElement_15 : decode cX17_copiesElement 15 = .ok (.iaload, 1) := by decide +kernel
theorem V.dX17_copiesElement_16 : decode cX17_copiesElement 16 = .ok (.i2l, 1) := by decide +kernel
theorem V.dX17_copiesElement_17 : decode cX17_copiesElement 17 = .ok (.lcmp, 1) := by decide +kernel
theorem V.dX17_copiesElement_18 : decode cX17_copiesElement 18 = .ok (.ifCond .gt 19, 3) := by decide +kernel
theorem V.dX17_copiesElement_21 : decode cX17_copiesElement 21 = .ok (.lload 4, 2) := by decide +kernel
theorem V.dX17_copiesElement_23 : decode cX17_copiesElement 23 = .ok (.lload 8, 2) := by decide +kernel
theorem V.dX17_copiesElement_25 : decode cX17_copiesElement 25 = .ok (.ladd, 1) := by decide +kernel
theorem V.dX17_copiesElement_26 : decode cX17_copiesElement 26 = .ok (.aload_n 0, 1) := by decide +kernel
theorem V.dX17_copiesElement_27 : decode cX17_copiesElement 27 = .ok (.getfield 96, 3) := by decide +kernel
theorem V.dX17_copiesElement_30 : decode cX17_copiesElement 30 = .ok (.iload_n 3, 1) := by decide +kernel
theorem V.dX17_copiesElement_31 : decode cX17_copiesElement 31 = .ok (.iaload, 1) := by decide +kernel
theorem V.dX17_copiesElement_32 : decode cX17_copiesElement 32 = .ok (.i2l, 1) := by decide +kernel
theorem V.dX17_copiesElement_33 : decode cX17_copiesElement 33 = .ok (.lcmp, 1) := by decide +kernel
theorem V.dX17_copiesElement_34 : decode cX17_copiesElement 34 = .ok (.ifCond .le 5, 3) := by decide +kernel
theorem V.dX17_copiesElement_37 : decode cX17_copiesElement 37 = .ok (.iconst 0, 1) := by decide +kernel
theorem V.dX17_copiesElement_38 : decode cX17_copiesElement 38 = .ok (.ireturn, 1) := by decide +kernel
theorem V.dX17_copiesElement_39 : decode cX17_copiesElement 39 = .ok (.iconst 0, 1) := by decide +kernel
theorem V.dX17_copiesElement_40 : decode cX17_copiesElement 40 = .ok (.istore 10, 2) := by decide +kernel
theorem V.dX17_copiesElement_42 : decode cX17_copiesElement 42 = .ok (.iload 10, 2) := by decide +kernel
theorem V.dX17_copiesElement_44 : decode cX17_copiesElement 44 = .ok (.i2l, 1) := by decide +kernel
theorem V.dX17_copiesElement_45 : decode cX17_copiesElement 45 = .ok (.lload 8, 2) := by decide +kernel
theorem V.dX17_copiesElement_47 : decode cX17_copiesElement 47 = .ok (.lcmp, 1) := by decide +kernel
theorem V.dX17_copiesElement_48 : decode cX17_copiesElement 48 = .ok (.ifCond .ge 49, 3) := by decide +kernel
theorem V.dX17_copiesElement_51 : decode cX17_copiesElement 51 = .ok (.aload_n 0, 1) := by decide +kernel
theorem V.dX17_copiesElement_52 : decode cX17_copiesElement 52 = .ok (.getfield 103, 3) := by decide +kernel
theorem V.dX17_copiesElement_55 : decode cX17_copiesElement 55 = .ok (.sipush 1024, 3) := by decide +kernel
theorem V.dX17_copiesElement_58 : decode cX17_copiesElement 58 = .ok (.iload_n 3, 1) := by decide +kernel
theorem V.dX17_copiesElement_59 : decode cX17_copiesElement 59 = .ok (.imul, 1) := by decide +kernel
theorem V.dX17_copiesElement_60 : decode cX17_copiesElement 60 = .ok (.lload 4, 2) := by decide +kernel
theorem V.dX17_copiesElement_62 : decode cX17_copiesElement 62 = .ok (.l2i, 1) := by decide +kernel
theorem V.dX17_copiesElement_63 : decode cX17_copiesElement 63 = .ok (.iadd, 1) := by decide +kernel
theorem V.dX17_copiesElement_64 : decode cX17_copiesElement 64 = .ok (.iload 10, 2) := by decide +kernel
theorem V.dX17_copiesElement_66 : decode cX17_copiesElement 66 = .ok (.iadd, 1) := by decide +kernel
theorem V.dX17_copiesElement_67 : decode cX17_copiesElement 67 = .ok (.aload_n 0, 1) := by decide +kernel
theorem V.dX17_copiesElement_68 : decode cX17_copiesElement 68 = .ok (.getfield 155, 3) := by decide +kernel
theorem V.dX17_copiesElement_71 : decode cX17_copiesElement 71 = .ok (.aload_n 0, 1) := by decide +kernel
theorem V.dX17_copiesElement_72 : decode cX17_copiesElement 72 = .ok (.getfield 146, 3) := by decide +kernel
theorem V.dX17_copiesElement_75 : decode cX17_copiesElement 75 = .ok (.bipush 64, 2) := by decide +kernel
theorem V.dX17_copiesElement_77 : decode cX17_copiesElement 77 = .ok (.iload_n 1, 1) := by decide +kernel
theorem V.dX17_copiesElement_78 : decode cX17_copiesElement 78 = .ok (.imul, 1) := by decide +kernel
theorem V.dX17_copiesElement_79 : decode cX17_copiesElement 79 = .ok (.iload_n 2, 1) := by decide +kernel
theorem V.dX17_copiesElement_80 : decode cX17_copiesElement 80 = .ok (.iadd, 1) := by decide +kernel
theorem V.dX17_copiesElement_81 : decode cX17_copiesElement 81 = .ok (.iaload, 1) := by decide +kernel
theorem V.dX17_copiesElement_82 : decode cX17_copiesElement 82 = .ok (.lload 6, 2) := by decide +kernel
theorem V.dX17_copiesElement_84 : decode cX17_copiesElement 84 = .ok (.l2i, 1) := by decide +kernel
theorem V.dX17_copiesElement_85 : decode cX17_copiesElement 85 = .ok (.iadd, 1) := by decide +kernel
theorem V.dX17_copiesElement_86 : decode cX17_copiesElement 86 = .ok (.iload 10, 2) := by decide +kernel
theorem V.dX17_copiesElement_88 : decode cX17_copiesElement 88 = .ok (.iadd, 1) := by decide +kernel
theorem V.dX17_copiesElement_89 : decode cX17_copiesElement 89 = .ok (.iaload, 1) := by decide +kernel
theorem V.dX17_copiesElement_90 : decode cX17_copiesElement 90 = .ok (.iastore, 1) := by decide +kernel
theorem V.dX17_copiesElement_91 : decode cX17_copiesElement 91 = .ok (.iinc 10 1, 3) := by decide +kernel
theorem V.dX17_copiesElement_94 : decode cX17_copiesElement 94 = .ok (.goto (-52), 3) := by decide +kernel
theorem V.dX17_copiesElement_97 : decode cX17_copiesElement 97 = .ok (.iconst 1, 1) := by decide +kernel
theorem V.dX17_copiesElement_98 : decode cX17_copiesElement 98 = .ok (.ireturn, 1) := by decide +kernel
/-! ModuleEngineModel.copiesElement(IIIJJJ)Z -/
def V.Mdl_copiesElement_p42  : Nat → HS → Nat → Int32 → Int32 → Int32 → Int64 → Int64 → Int64 → Int32 → Option (Int32 × HS)
  | 0, _, _, _, _, _, _, _, _, _ => none
  | n + 1, σ, x0, x1, x2, x3, x4, x6, x8, x10 =>
    if x8 ≤ x10.toInt64 then (
      some ((1 : Int32), σ))
    else (
      ck (tg σ x0 = 18) <|
      ck (tg σ x0 = 18) <|
      ck (tg σ x0 = 18) <|
      ck (tg σ (gR σ x0 68) = 100 ∧ inb (((64 : Int32) * x1) + x2) (ln σ (gR σ x0 68))) <|
      ck (tg σ (gR σ x0 72) = 100 ∧ inb (((gI σ (gR σ x0 68) (ix (((64 : Int32) * x1) + x2))) + x6.toInt32) + x10) (ln σ (gR σ x0 72))) <|
      ck (tg σ (gR σ x0 51) = 100 ∧ inb ((((1024 : Int32) * x3) + x4.toInt32) + x10) (ln σ (gR σ x0 51))) <| bn (sI σ (gR σ x0 51) (ix ((((1024 : Int32) * x3) + x4.toInt32) + x10)) (gI σ (gR σ x0 72) (ix (((gI σ (gR σ x0 68) (ix (((64 : Int32) * x1) + x2))) + x6.toInt32) + x10)))) fun σ1 =>
      bn (x10 + (1 : Int32)) fun y2 =>
      Mdl_copiesElement_p42 n σ1 x0 x1 x2 x3 x4 x6 x8 y2)
theorem V.gX17_copiesElement_p42 {X : CX}  : ∀ (n : Nat) (σ : HS) (x0 : Nat) (x1 : Int32) (x2 : Int32) (x3 : Int32) (x4 : Int64) (x6 : Int64) (x8 : Int64) (x10 : Int32), G X RX17 "copiesElement" cX17_copiesElement 11 (some .boolean) 0 0 enI 42 [(0, av x0), (1, iv x1), (2, iv x2), (3, iv x3), (4, jv x4), (6, jv x6), (8, jv x8), (10, iv x10)] [] σ (Mdl_copiesElement_p42 n σ x0 x1 x2 x3 x4 x6 x8 x10)
  | 0, σ, x0, x1, x2, x3, x4, x6, x8, x10 => by rw [Mdl_copiesElement_p42]; exact G.nul
  | n + 1, σ, x0, x1, x2, x3, x4, x6, x8, x10 => by
    rw [Mdl_copiesElement_p42]
    refine g_iload 7 dX17_copiesElement_42 rfl ?_
    refine g_i2l dX17_copiesElement_44 ?_
    refine g_lload 6 dX17_copiesElement_45 rfl ?_
    refine g_lcmp_ge 97 dX17_copiesElement_47 dX17_copiesElement_48 (by decide) ?_ ?_
    · refine g_iconst (v := 1) dX17_copiesElement_97 (by decide) ?_
      exact g_zreturn rfl (by decide +kernel) dX17_copiesElement_98
    · refine g_aload_n 0 0 dX17_copiesElement_51 rfl rfl ?_
      refine g_getR fdX17_103 dX17_copiesElement_52 ?_
      refine g_sipush (v := 1024) dX17_copiesElement_55 (by decide) ?_
      refine g_iload_n 3 3 dX17_copiesElement_58 rfl rfl ?_
      refine g_imul dX17_copiesElement_59 ?_
      refine g_lload 4 dX17_copiesElement_60 rfl ?_
      refine g_l2i dX17_copiesElement_62 ?_
      refine g_iadd dX17_copiesElement_63 ?_
      refine g_iload 7 dX17_copiesElement_64 rfl ?_
      refine g_iadd dX17_copiesElement_66 ?_
      refine g_aload_n 0 0 dX17_copiesElement_67 rfl rfl ?_
      refine g_getR fdX17_155 dX17_copiesElement_68 ?_
      refine g_aload_n 0 0 dX17_copiesElement_71 rfl rfl ?_
      refine g_getR fdX17_146 dX17_copiesElement_72 ?_
      refine g_bipush (v := 64) dX17_copiesElement_75 (by decide) ?_
      refine g_iload_n 1 1 dX17_copiesElement_77 rfl rfl ?_
      refine g_imul dX17_copiesElement_78 ?_
      refine g_iload_n 2 2 dX17_copiesElement_79 rfl rfl ?_
      refine g_iadd dX17_copiesElement_80 ?_
      refine g_iaload dX17_copiesElement_81 ?_
      refine g_lload 5 dX17_copiesElement_82 rfl ?_
      refine g_l2i dX17_copiesElement_84 ?_
      refine g_iadd dX17_copiesElement_85 ?_
      refine g_iload 7 dX17_copiesElement_86 rfl ?_
      refine g_iadd dX17_copiesElement_88 ?_
      refine g_iaload dX17_copiesElement_89 ?_
      refine g_iastore dX17_copiesElement_90 (fun σ1 => ?_)
      refine g_iincB (w := 1) 7 dX17_copiesElement_91 rfl (by decide) (by decide) (fun _ => rfl) (fun y2 => ?_)
      refine g_goto 42 dX17_copiesElement_94 (by decide) ?_
      refine G.sub [1, 2, 3, 4, 5, 6, 7, 0] rfl ?_
      exact gX17_copiesElement_p42 n _ _ _ _ _ _ _ _ _
def V.Mdl_copiesElement (σ : HS) (x0 : Nat) (x1 : Int32) (x2 : Int32) (x3 : Int32) (x4 : Int64) (x6 : Int64) (x8 : Int64) : Option (Int32 × HS) :=
  ck (tg σ x0 = 18) <|
  ck (tg σ (gR σ x0 69) = 100 ∧ inb (((64 : Int32) * x1) + x2) (ln σ (gR σ x0 69))) <|
  if ((gI σ (gR σ x0 69) (ix (((64 : Int32) * x1) + x2))).toInt64) < (x6 + x8) then (
    some ((0 : Int32), σ))
  else (
    ck (tg σ x0 = 18) <|
    ck (tg σ (gR σ x0 49) = 100 ∧ inb x3 (ln σ (gR σ x0 49))) <|
    if (x4 + x8) ≤ ((gI σ (gR σ x0 49) (ix x3)).toInt64) then (
      Mdl_copiesElement_p42 FU σ x0 x1 x2 x3 x4 x6 x8 (0 : Int32))
    else (
      some ((0 : Int32), σ)))
theorem V.ctX17_copiesElement (x0 : Nat) (x1 : Int32) (x2 : Int32) (x3 : Int32) (x4 : Int64) (x6 : Int64) (x8 : Int64) : Ct yX17_copiesElement  cX17_copiesElement 11 (some .boolean) 0 0 eI [av x0, iv x1, iv x2, iv x3, jv x4, jv x6, jv x8] (fun σ => Mdl_copiesElement σ x0 x1 x2 x3 x4 x6 x8) := by
  refine Ct.of (own := RX17) (nm := "copiesElement") (desc := "(IIIJJJ)Z") rfl (by decide) (Nat.le_of_ble_eq_true rfl) (by decide) (fun X σ => ?_)
  show G X RX17 "copiesElement" cX17_copiesElement 11 (some .boolean) 0 0 enI 0 [(0, av x0), (1, iv x1), (2, iv x2), (3, iv x3), (4, jv x4), (6, jv x6), (8, jv x8)] [] σ (Mdl_copiesElement σ x0 x1 x2 x3 x4 x6 x8)
  unfold Mdl_copiesElement
  refine g_lload 5 dX17_copiesElement_0 rfl ?_
  refine g_lload 6 dX17_copiesElement_2 rfl ?_
  refine g_ladd dX17_copiesElement_4 ?_
  refine g_aload_n 0 0 dX17_copiesElement_5 rfl rfl ?_
  refine g_getR fdX17_149 dX17_copiesElement_6 ?_
  refine g_bipush (v := 64) dX17_copiesElement_9 (by decide) ?_
  refine g_iload_n 1 1 dX17_copiesElement_11 rfl rfl ?_
  refine g_imul dX17_copiesElement_12 ?_
  refine g_iload_n 2 2 dX17_copiesElement_13 rfl rfl ?_
  refine g_iadd dX17_copiesElement_14 ?_
  refine g_iaload dX17_copiesElement_15 ?_
  refine g_i2l dX17_copiesElement_16 ?_
  refine g_lcmp_gt 37 dX17_copiesElement_17 dX17_copiesElement_18 (by decide) ?_ ?_
  · refine g_iconst (v := 0) dX17_copiesElement_37 (by decide) ?_
    exact g_zreturn rfl (by decide +kernel) dX17_copiesElement_38
  · refine g_lload 4 dX17_copiesElement_21 rfl ?_
    refine g_lload 6 dX17_copiesElement_23 rfl ?_
    refine g_ladd dX17_copiesElement_25 ?_
    refine g_aload_n 0 0 dX17_copiesElement_26 rfl rfl ?_
    refine g_getR fdX17_96 dX17_copiesElement_27 ?_
    refine g_iload_n 3 3 dX17_copiesElement_30 rfl rfl ?_
    refine g_iaload dX17_copiesElement_31 ?_
    refine g_i2l dX17_copiesElement_32 ?_
    refine g_lcmp_le 39 dX17_copiesElement_33 dX17_copiesElement_34 (by decide) ?_ ?_
    · refine g_iconst (v := 0) dX17_copiesElement_39 (by decide) ?_
      refine g_istore dX17_copiesElement_40 (by decide) rfl ?_
      refine G.sub [1, 2, 3, 4, 5, 6, 7, 0] rfl ?_
      exact gX17_copiesElement_p42 FU _ _ _ _ _ _ _ _ _
    · refine g_iconst (v := 0) dX17_copiesElement_37 (by decide) ?_
      exact g_zreturn rfl (by decide +kernel) dX17_copiesElement_38
theorem V.dX17_failsAtOnce_0 : decode cX17_failsAtOnce 0 = .ok (.aload_n 0, 1) := by decide +kernel
theorem V.dX17_failsAtOnce_1 : decode cX17_failsAtOnce 1 = .ok (.iconst 3, 1) := by decide +kernel
theorem V.dX17_failsAtOnce_2 : decode cX17_failsAtOnce 2 = .ok (.putfield 970, 3) := by decide +kernel
theorem V.dX17_failsAtOnce_5 : decode cX17_failsAtOnce 5 = .ok (.aload_n 0, 1) := by decide +kernel
theorem V.dX17_failsAtOnce_6 : decode cX17_failsAtOnce 6 = .ok (.iload_n 1, 1) := by decide +kernel
theorem V.dX17_failsAtOnce_7 : decode cX17_failsAtOnce 7 = .ok (.putfield 1046, 3) := by decide +kernel
theorem V.dX17_failsAtOnce_10 : decode cX17_failsAtOnce 10 = .ok (.aload_n 0, 1) := by decide +kernel
theorem V.dX17_failsAtOnce_11 : decode cX17_failsAtOnce 11 = .ok (.iconst 0, 1) := by decide +kernel
theorem V.dX17_failsAtOnce_12 : decode cX17_failsAtOnce 12 = .ok (.putfield 1049, 3) := by decide +kernel
theorem V.dX17_failsAtOnce_15 : decode cX17_failsAtOnce 15 = .ok (.aload_n 0, 1) := by decide +kernel
theorem V.dX17_failsAtOnce_16 : decode cX17_failsAtOnce 16 = .ok (.iconst 0, 1) := by decide +kernel
theorem V.dX17_failsAtOnce_17 : decode cX17_failsAtOnce 17 = .ok (.putfield 1052, 3) := by decide +kernel
theorem V.dX17_failsAtOnce_20 : decode cX17_failsAtOnce 20 = .ok (.return_, 1) := by decide +kernel
theorem V.fpX17_970 {nm : String} : FP RX17 nm 970 17 76 (.int) := ⟨(RX17, TX17, 101), tyX17, rfl, rfl, in_X17, by decide, tyX17_ok, nmX17, rfl, Or.inl ⟨rfl, Or.inl q3112⟩⟩
theorem V.fpX17_1046 {nm : String} : FP RX17 nm 1046 17 77 (.int) := ⟨(RX17, TX17, 101), tyX17, rfl, rfl, in_X17, by decide, tyX17_ok, nmX17, rfl, Or.inl ⟨rfl, Or.inl q3113⟩⟩
theorem V.fpX17_1049 {nm : String} : FP RX17 nm 1049 17 78 (.int) := ⟨(RX17, TX17, 101), tyX17, rfl, rfl, in_X17, by decide, tyX17_ok, nmX17, rfl, Or.inl ⟨rfl, Or.inl q3114⟩⟩
theorem V.fpX17_1052 {nm : String} : FP RX17 nm 1052 17 85 (.int) := ⟨(RX17, TX17, 101), tyX17, rfl, rfl, in_X17, by decide, tyX17_ok, nmX17, rfl, Or.inl ⟨rfl, Or.inl q3121⟩⟩
/-! ModuleEngineModel.failsAtOnce(I)V -/
def V.Mdl_failsAtOnce (σ : HS) (x0 : Nat) (x1 : Int32) : Option (Unit × HS) :=
  ck (tg σ x0 = 18) <| bn (sI σ x0 76 (3 : Int32)) fun σ1 =>
  ck (tg σ1 x0 = 18) <| bn (sI σ1 x0 77 x1) fun σ2 =>
  ck (tg σ2 x0 = 18) <| bn (sI σ2 x0 78 (0 : Int32)) fun σ3 =>
  ck (tg σ3 x0 = 18) <| bn (sI σ3 x0 85 (0 : Int32)) fun σ4 =>
  some ((), σ4)
theorem V.ctX17_failsAtOnce (x0 : Nat) (x1 : Int32) : Ct yX17_failsAtOnce  cX17_failsAtOnce 2 none 0 0 eV [av x0, iv x1] (fun σ => Mdl_failsAtOnce σ x0 x1) := by
  refine Ct.of (own := RX17) (nm := "failsAtOnce") (desc := "(I)V") rfl (by decide) (Nat.le_of_ble_eq_true rfl) (by decide) (fun X σ => ?_)
  show G X RX17 "failsAtOnce" cX17_failsAtOnce 2 none 0 0 enV 0 [(0, av x0), (1, iv x1)] [] σ (Mdl_failsAtOnce σ x0 x1)
  unfold Mdl_failsAtOnce
  refine g_aload_n 0 0 dX17_failsAtOnce_0 rfl rfl ?_
  refine g_iconst (v := 3) dX17_failsAtOnce_1 (by decide) ?_
  refine g_putI fpX17_970 dX17_failsAtOnce_2 (fun σ1 => ?_)
  refine g_aload_n 0 0 dX17_failsAtOnce_5 rfl rfl ?_
  refine g_iload_n 1 1 dX17_failsAtOnce_6 rfl rfl ?_
  refine g_putI fpX17_1046 dX17_failsAtOnce_7 (fun σ2 => ?_)
  refine g_aload_n 0 0 dX17_failsAtOnce_10 rfl rfl ?_
  refine g_iconst (v := 0) dX17_failsAtOnce_11 (by decide) ?_
  refine g_putI fpX17_1049 dX17_failsAtOnce_12 (fun σ3 => ?_)
  refine g_aload_n 0 0 dX17_failsAtOnce_15 rfl rfl ?_
  refine g_iconst (v := 0) dX17_failsAtOnce_16 (by decide) ?_
  refine g_putI fpX17_1052 dX17_failsAtOnce_17 (fun σ4 => ?_)
  exact g_return rfl dX17_failsAtOnce_20
theorem V.dX17_dropped_0 : decode cX17_dropped 0 = .ok (.aload_n 0, 1) := by decide +kernel
theorem V.dX17_dropped_1 : decode cX17_dropped 1 = .ok (.getfield 149, 3) := by decide +kernel
theorem V.dX17_dropped_4 : decode cX17_dropped 4 = .ok (.bipush 64, 2) := by decide +kernel
theorem V.dX17_dropped_6 : decode cX17_dropped 6 = .ok (.iload_n 1, 1) := by decide +kernel
theorem V.dX17_dropped_7 : decode cX17_dropped 7 = .ok (.imul, 1) := by decide +kernel
theorem V.dX17_dropped_8 : decode cX17_dropped 8 = .ok (.iload_n 2, 1) := by decide +kernel
theorem V.dX17_dropped_9 : decode cX17_dropped 9 = .ok (.iadd, 1) := by decide +kernel
theorem V.dX17_dropped_10 : decode cX17_dropped 10 = .ok (.iconst 0, 1) := by decide +kernel
theorem V.dX17_dropped_11 : decode cX17_dropped 11 = .ok (.iastore, 1) := by decide +kernel
theorem V.dX17_dropped_12 : decode cX17_dropped 12 = .ok (.return_, 1) := by decide +kernel
/-! ModuleEngineModel.dropped(II)V -/
def V.Mdl_dropped (σ : HS) (x0 : Nat) (x1 : Int32) (x2 : Int32) : Option (Unit × HS) :=
  ck (tg σ x0 = 18) <|
  ck (tg σ (gR σ x0 69) = 100 ∧ inb (((64 : Int32) * x1) + x2) (ln σ (gR σ x0 69))) <| bn (sI σ (gR σ x0 69) (ix (((64 : Int32) * x1) + x2)) (0 : Int32)) fun σ1 =>
  some ((), σ1)
theorem V.ctX17_dropped (x0 : Nat) (x1 : Int32) (x2 : Int32) : Ct yX17_dropped  cX17_dropped 3 none 0 0 eV [av x0, iv x1, iv x2] (fun σ => Mdl_dropped σ x0 x1 x2) := by
  refine Ct.of (own := RX17) (nm := "dropped") (desc := "(II)V") rfl (by decide) (Nat.le_of_ble_eq_true rfl) (by decide) (fun X σ => ?_)
  show G X RX17 "dropped" cX17_dropped 3 none 0 0 enV 0 [(0, av x0), (1, iv x1), (2, iv x2)] [] σ (Mdl_dropped σ x0 x1 x2)
  unfold Mdl_dropped
  refine g_aload_n 0 0 dX17_dropped_0 rfl rfl ?_
  refine g_getR fdX17_149 dX17_dropped_1 ?_
  refine g_bipush (v := 64) dX17_dropped_4 (by decide) ?_
  refine g_iload_n 1 1 dX17_dropped_6 rfl rfl ?_
  refine g_imul dX17_dropped_7 ?_
  refine g_iload_n 2 2 dX17_dropped_8 rfl rfl ?_
  refine g_iadd dX17_dropped_9 ?_
  refine g_iconst (v := 0) dX17_dropped_10 (by decide) ?_
  refine g_iastore dX17_dropped_11 (fun σ1 => ?_)
  exact g_return rfl dX17_dropped_12
theorem V.dX17_placeOf_0 : decode cX17_placeOf 0 = .ok (.ldc_w 290, 3) := by decide +kernel
theorem V.dX17_placeOf_3 : decode cX17_placeOf 3 = .ok (.aload_n 0, 1) := by decide +kernel
theorem V.dX17_placeOf_4 : decode cX17_placeOf 4 = .ok (.getfield 115, 3) := by decide +kernel
theorem V.dX17_placeOf_7 : decode cX17_placeOf 7 = .ok (.bipush 8, 2) := by decide +kernel
theorem V.dX17_placeOf_9 : decode cX17_placeOf 9 = .ok (.iload_n 1, 1) := by decide +kernel
theorem V.dX17_placeOf_10 : decode cX17_placeOf 10 = .ok (.imul, 1) := by decide +kernel
theorem V.dX17_placeOf_11 : decode cX17_placeOf 11 = .ok (.lload_n 2, 1) := by decide +kernel
theorem V.dX17_placeOf_12 : decode cX17_placeOf 12 = .ok (.bipush 16, 2) := by decide +kernel
theorem V.dX17_placeOf_14 : decode cX17_placeOf 14 = .ok (.lshr, 1) := by decide +kernel
theorem V.dX17_placeOf_15 : decode cX17_placeOf 15 = .ok (.l2i, 1) := by decide +kernel
theorem V.dX17_placeOf_16 : decode cX17_placeOf 16 = .ok (.iadd, 1) := by decide +kernel
theorem V.dX17_placeOf_17 : decode cX17_placeOf 17 = .ok (.iaload, 1) := by decide +kernel
theorem V.dX17_placeOf_18 : decode cX17_placeOf 18 = .ok (.imul, 1) := by decide +kernel
theorem V.dX17_placeOf_19 : decode cX17_placeOf 19 = .ok (.lload_n 2, 1) := by decide +kernel
theorem V.dX17_placeOf_20 : decode cX17_placeOf 20 = .ok (.ldc2_w 1059, 3) := by decide +kernel
theorem V.dX17_placeOf_23 : decode cX17_placeOf 23 = .ok (.land, 1) := by decide +kernel
theorem V.dX17_placeOf_24 : decode cX17_placeOf 24 = .ok (.l2i, 1) := by decide +kernel
theorem V.dX17_placeOf_25 : decode cX17_placeOf 25 = .ok (.iadd, 1) := by decide +kernel
theorem V.dX17_placeOf_26 : decode cX17_placeOf 26 = .ok (.ireturn, 1) := by decide +kernel
/-! ModuleEngineModel.placeOf(IJ)I -/
def V.Mdl_placeOf (σ : HS) (x0 : Nat) (x1 : Int32) (x2 : Int64) : Option (Int32 × HS) :=
  ck (tg σ x0 = 18) <|
  ck (tg σ (gR σ x0 56) = 100 ∧ inb (((8 : Int32) * x1) + ((lshr x2 (16 : Int32)).toInt32)) (ln σ (gR σ x0 56))) <|
  some (((65536 : Int32) * (gI σ (gR σ x0 56) (ix (((8 : Int32) * x1) + ((lshr x2 (16 : Int32)).toInt32))))) + ((x2 &&& (65535 : Int64)).toInt32), σ)
theorem V.ctX17_placeOf (x0 : Nat) (x1 : Int32) (x2 : Int64) : Ct yX17_placeOf  cX17_placeOf 4 (some .int) 0 0 eI [av x0, iv x1, jv x2] (fun σ => Mdl_placeOf σ x0 x1 x2) := by
  refine Ct.of (own := RX17) (nm := "placeOf") (desc := "(IJ)I") rfl (by decide) (Nat.le_of_ble_eq_true rfl) (by decide) (fun X σ => ?_)
  show G X RX17 "placeOf" cX17_placeOf 4 (some .int) 0 0 enI 0 [(0, av x0), (1, iv x1), (2, jv x2)] [] σ (Mdl_placeOf σ x0 x1 x2)
  unfold Mdl_placeOf
  refine g_ldcw q3635 dX17_placeOf_0 ?_
  refine g_aload_n 0 0 dX17_placeOf_3 rfl rfl ?_
  refine g_getR fdX17_115 dX17_placeOf_4 ?_
  refine g_bipush (v := 8) dX17_placeOf_7 (by decide) ?_
  refine g_iload_n 1 1 dX17_placeOf_9 rfl rfl ?_
  refine g_imul dX17_placeOf_10 ?_
  refine g_lload_n 2 2 dX17_placeOf_11 rfl rfl ?_
  refine g_bipush (v := 16) dX17_placeOf_12 (by decide) ?_
  refine g_lshr dX17_placeOf_14 ?_
  refine g_l2i dX17_placeOf_15 ?_
  refine g_iadd dX17_placeOf_16 ?_
  refine g_iaload dX17_placeOf_17 ?_
  refine g_imul dX17_placeOf_18 ?_
  refine g_lload_n 2 2 dX17_placeOf_19 rfl rfl ?_
  refine g_ldc2 q4106 dX17_placeOf_20 ?_
  refine g_land dX17_placeOf_23 ?_
  refine g_l2i dX17_placeOf_24 ?_
  refine g_iadd dX17_placeOf_25 ?_
  exact g_ireturn rfl dX17_placeOf_26
theorem V.dX17_sets_0 : decode cX17_sets 0 = .ok (.aload_n 0, 1) := by decide +kernel
theorem V.dX17_sets_1 : decode cX17_sets 1 = .ok (.getfield 119, 3) := by decide +kernel
theorem V.dX17_sets_4 : decode cX17_sets 4 = .ok (.aload_n 0, 1) := by decide +kernel
theorem V.dX17_sets_5 : decode cX17_sets 5 = .ok (.iload_n 1, 1) := by decide +kernel
theorem V.dX17_sets_6 : decode cX17_sets 6 = .ok (.lload_n 2, 1) := by decide +kernel
theorem V.dX17_sets_7 : decode cX17_sets 7 = .ok (.invokevirtual 1061, 3) := by decide +kernel
theorem V.dX17_sets_10 : decode cX17_sets 10 = .ok (.iload 4, 2) := by decide +kernel
theorem V.dX17_sets_12 : decode cX17_sets 12 = .ok (.bastore, 1) := by decide +kernel
theorem V.dX17_sets_13 : decode cX17_sets 13 = .ok (.return_, 1) := by decide +kernel
theorem V.fdX17_119 : FD RX17 119 17 57 2 := ⟨(RX17, TX17, 101), tyX17, rfl, rfl, in_X17, by decide, Or.inl q3093, rfl⟩
theorem V.mdX17_1061 : MD RX17 1061 yX17_placeOf cX17_placeOf 4 (some .int) 2 := ⟨Or.inl q4102, q377, q4105, by decide, by decide, by decide +kernel⟩
/-! ModuleEngineModel.sets(IJB)V -/
def V.Mdl_sets (σ : HS) (x0 : Nat) (x1 : Int32) (x2 : Int64) (x4 : Int32) : Option (Unit × HS) :=
  ck (tg σ x0 = 18) <|
  ck (tg σ x0 = 18) <| cl (Mdl_placeOf σ x0 x1 x2) fun r2 σ1 =>
  ck (tg σ1 (gR σ x0 57) = 102 ∧ inb r2 (ln σ1 (gR σ x0 57))) <| bn (sI σ1 (gR σ x0 57) (ix r2) (i2b x4)) fun σ3 =>
  some ((), σ3)
theorem V.ctX17_sets (x0 : Nat) (x1 : Int32) (x2 : Int64) (x4 : Int32) : Ct yX17_sets  cX17_sets 5 none 1 23 eV [av x0, iv x1, jv x2, iv x4] (fun σ => Mdl_sets σ x0 x1 x2 x4) := by
  refine Ct.of (own := RX17) (nm := "sets") (desc := "(IJB)V") rfl (by decide) (Nat.le_of_ble_eq_true rfl) (by decide) (fun X σ => ?_)
  show G X RX17 "sets" cX17_sets 5 none 1 23 enV 0 [(0, av x0), (1, iv x1), (2, jv x2), (4, iv x4)] [] σ (Mdl_sets σ x0 x1 x2 x4)
  unfold Mdl_sets
  refine g_aload_n 0 0 dX17_sets_0 rfl rfl ?_
  refine g_getR fdX17_119 dX17_sets_1 ?_
  refine g_aload_n 0 0 dX17_sets_4 rfl rfl ?_
  refine g_iload_n 1 1 dX17_sets_5 rfl rfl ?_
  refine g_lload_n 2 2 dX17_sets_6 rfl rfl ?_
  refine g_callV (fc := fun sς => Mdl_placeOf sς x0 x1 x2) (ci := 17) (as := [iv x1, jv x2]) rfl rfl rfl q4104 qs312 mdX17_1061 (ctX17_placeOf x0 x1 x2) rfl (Nat.le_of_ble_eq_true rfl) (Nat.le_of_ble_eq_true rfl) (Nat.le_of_ble_eq_true rfl) pu_I dX17_sets_7 (fun r2 σ1 => ?_)
  refine g_iload 3 dX17_sets_10 rfl ?_
  refine g_bastore dX17_sets_12 (fun σ3 => ?_)
  exact g_return rfl dX17_sets_13
theorem V.dX17_copiesData_0 : decode cX17_copiesData 0 = .ok (.aload_n 0, 1) := by decide +kernel
theorem V.dX17_copiesData_1 : decode cX17_copiesData 1 = .ok (.getfield 16, 3) := by decide +kernel
theorem V.dX17_copiesData_4 : decode cX17_copiesData 4 = .ok (.aload_n 0, 1) := by decide +kernel
theorem V.dX17_copiesData_5 : decode cX17_copiesData 5 = .ok (.getfield 131, 3) := by decide +kernel
theorem V.dX17_copiesData_8 : decode cX17_copiesData 8 = .ok (.iload_n 1, 1) := by decide +kernel
theorem V.dX17_copiesData_9 : decode cX17_copiesData 9 = .ok (.iaload, 1) := by decide +kernel
theorem V.dX17_copiesData_10 : decode cX17_copiesData 10 = .ok (.aaload, 1) := by decide +kernel
theorem V.dX17_copiesData_11 : decode cX17_copiesData 11 = .ok (.astore 10, 2) := by decide +kernel
theorem V.dX17_copiesData_13 : decode cX17_copiesData 13 = .ok (.aload_n 0, 1) := by decide +kernel
theorem V.dX17_copiesData_14 : decode cX17_copiesData 14 = .ok (.getfield 152, 3) := by decide +kernel
theorem V.dX17_copiesData_17 : decode cX17_copiesData 17 = .ok (.bipush 64, 2) := by decide +kernel
theorem V.dX17_copiesData_19 : decode cX17_copiesData 19 = .ok (.iload_n 1, 1) := by decide +kernel
theorem V.dX17_copiesData_20 : decode cX17_copiesData 20 = .ok (.imul, 1) := by decide +kernel
theorem V.dX17_copiesData_21 : decode cX17_copiesData 21 = .ok (.iload_n 2, 1) := by decide +kernel
theorem V.dX17_copiesData_22 : decode cX17_copiesData 22 = .ok (.iadd, 1) := by decide +kernel
theorem V.dX17_copiesData_23 : decode cX17_copiesData 23 = .ok (.baload, 1) := by decide +kernel
theorem V.dX17_copiesData_24 : decode cX17_copiesData 24 = .ok (.ifCond .eq 13, 3) := by decide +kernel
theorem V.dX17_copiesData_27 : decode cX17_copiesData 27 = .ok (.aload 10, 2) := by decide +kernel
theorem V.dX17_copiesData_29 : decode cX17_copiesData 29 = .ok (.getfield 546, 3) := by decide +kernel
theorem V.dX17_copiesData_32 : decode cX17_copiesData 32 = .ok (.iload_n 2, 1) := by decide +kernel
theorem V.dX17_copiesData_33 : decode cX17_copiesData 33 = .ok (.iaload, 1) := by decide +kernel
theorem V.dX17_copiesData_34 : decode cX17_copiesData 34 = .ok (.goto 4, 3) := by decide +kernel
theorem V.dX17_copiesData_37 : decode cX17_copiesData 37 = .ok (.iconst 0, 1) := by decide +kernel
theorem V.dX17_copiesData_38 : decode cX17_copiesData 38 = .ok (.istore 11, 2) := by decide +kernel
theorem V.dX17_copiesData_40 : decode cX17_copiesData 40 = .ok (.lload 6, 2) := by decide +kernel
theorem V.dX17_copiesData_42 : decode cX17_copiesData 42 = .ok (.lload 8, 2) := by decide +kernel
theorem V.dX17_copiesData_44 : decode cX17_copiesData 44 = .ok (.ladd, 1) := by decide +kernel
theorem V.dX17_copiesData_45 : decode cX17_copiesData 45 = .ok (.iload 11, 2) := by decide +kernel
theorem V.dX17_copiesData_47 : decode cX17_copiesData 47 = .ok (.i2l, 1) := by decide +kernel
theorem V.dX17_copiesData_48 : decode cX17_copiesData 48 = .ok (.lcmp, 1) := by decide +kernel
theorem V.dX17_copiesData_49 : decode cX17_copiesData 49 = .ok (.ifCond .gt 23, 3) := by decide +kernel
theorem V.dX17_copiesData_52 : decode cX17_copiesData 52 = .ok (.lload 4, 2) := by decide +kernel
theorem V.dX17_copiesData_54 : decode cX17_copiesData 54 = .ok (.lload 8, 2) := by decide +kernel
theorem V.dX17_copiesData_56 : decode cX17_copiesData 56 = .ok (.ladd, 1) := by decide +kernel
theorem V.dX17_copiesData_57 : decode cX17_copiesData 57 = .ok (.ldc2_w 636, 3) := by decide +kernel
theorem V.dX17_copiesData_60 : decode cX17_copiesData 60 = .ok (.aload_n 0, 1) := by decide +kernel
theorem V.dX17_copiesData_61 : decode cX17_copiesData 61 = .ok (.getfield 109, 3) := by decide +kernel
theorem V.dX17_copiesData_64 : decode cX17_copiesData 64 = .ok (.iload_n 3, 1) := by decide +kernel
theorem V.dX17_copiesData_65 : decode cX17_copiesData 65 = .ok (.iaload, 1) := by decide +kernel
theorem V.dX17_copiesData_66 : decode cX17_copiesData 66 = .ok (.i2l, 1) := by decide +kernel
theorem V.dX17_copiesData_67 : decode cX17_copiesData 67 = .ok (.lmul, 1) := by decide +kernel
theorem V.dX17_copiesData_68 : decode cX17_copiesData 68 = .ok (.lcmp, 1) := by decide +kernel
theorem V.dX17_copiesData_69 : decode cX17_copiesData 69 = .ok (.ifCond .le 5, 3) := by decide +kernel
theorem V.dX17_copiesData_72 : decode cX17_copiesData 72 = .ok (.iconst 0, 1) := by decide +kernel
theorem V.dX17_copiesData_73 : decode cX17_copiesData 73 = .ok (.ireturn, 1) := by decide +kernel
theorem V.dX17_copiesData_74 : decode cX17_copiesData 74 = .ok (.iconst 0, 1) := by decide +kernel
theorem V.dX17_copiesData_75 : decode cX17_copiesData 75 = .ok (.istore 12, 2) := by decide +kernel
theorem V.dX17_copiesData_77 : decode cX17_copiesData 77 = .ok (.iload 12, 2) := by decide +kernel
theorem V.dX17_copiesData_79 : decode cX17_copiesData 79 = .ok (.i2l, 1) := by decide +kernel
theorem V.dX17_copiesData_80 : decode cX17_copiesData 80 = .ok (.lload 8, 2) := by decide +kernel
theorem V.dX17_copiesData_82 : decode cX17_copiesData 82 = .ok (.lcmp, 1) := by decide +kernel
theorem V.dX17_copiesData_83 : decode cX17_copiesData 83 = .ok (.ifCond .ge 40, 3) := by decide +kernel
theorem V.dX17_copiesData_86 : decode cX17_copiesData 86 = .ok (.aload_n 0, 1) := by decide +kernel
theorem V.dX17_copiesData_87 : decode cX17_copiesData 87 = .ok (.iload_n 3, 1) := by decide +kernel
theorem V.dX17_copiesData_88 : decode cX17_copiesData 88 = .ok (.lload 4, 2) := by decide +kernel
theorem V.dX17_copiesData_90 : decode cX17_copiesData 90 = .ok (.iload 12, 2) := by decide +kernel
theorem V.dX17_copiesData_92 : decode cX17_copiesData 92 = .ok (.i2l, 1) := by decide +kernel
theorem V.dX17_copiesData_93 : decode cX17_copiesData 93 = .ok (.ladd, 1) := by decide +kernel
theorem V.dX17_copiesData_94 : decode cX17_copiesData 94 = .ok (.aload 10, 2) := by decide +kernel
theorem V.dX17_copiesData_96 : decode cX17_copiesData 96 = .ok (.getfield 232, 3) := by decide +kernel
theorem V.dX17_copiesData_99 : decode cX17_copiesData 99 = .ok (.aload 10, 2) := by decide +kernel
theorem V.dX17_copiesData_101 : decode cX17_copiesData 101 = .ok (.getfield 543, 3) := by decide +kernel
theorem V.dX17_copiesData_104 : decode cX17_copiesData 104 = .ok (.iload_n 2, 1) := by decide +kernel
theorem V.dX17_copiesData_105 : decode cX17_copiesData 105 = .ok (.iaload, 1) := by decide +kernel
theorem V.dX17_copiesData_106 : decode cX17_copiesData 106 = .ok (.lload 6, 2) := by decide +kernel
theorem V.dX17_copiesData_108 : decode cX17_copiesData 108 = .ok (.l2i, 1) := by decide +kernel
theorem V.dX17_copiesData_109 : decode cX17_copiesData 109 = .ok (.iadd, 1) := by decide +kernel
theorem V.dX17_copiesData_110 : decode cX17_copiesData 110 = .ok (.iload 12, 2) := by decide +kernel
theorem V.dX17_copiesData_112 : decode cX17_copiesData 112 = .ok (.iadd, 1) := by decide +kernel
theorem V.dX17_copiesData_113 : decode cX17_copiesData 113 = .ok (.baload, 1) := by decide +kernel
theorem V.dX17_copiesData_114 : decode cX17_copiesData 114 = .ok (.invokevirtual 1055, 3) := by decide +kernel
theorem V.dX17_copiesData_117 : decode cX17_copiesData 117 = .ok (.iinc 12 1, 3) := by decide +kernel
theorem V.dX17_copiesData_120 : decode cX17_copiesData 120 = .ok (.goto (-43), 3) := by decide +kernel
theorem V.dX17_copiesData_123 : decode cX17_copiesData 123 = .ok (.iconst 1, 1) := by decide +kernel
theorem V.dX17_copiesData_124 : decode cX17_copiesData 124 = .ok (.ireturn, 1) := by decide +kernel
theorem V.mdX17_1055 : MD RX17 1055 yX17_sets cX17_sets 5 none 3 := ⟨Or.inl q4098, q377, q4101, by decide, by decide, by decide +kernel⟩
/-! ModuleEngineModel.copiesData(IIIJJJ)Z -/
def V.Mdl_copiesData_p77  : Nat → HS → Nat → Int32 → Int32 → Int64 → Int64 → Int64 → Nat → Int32 → Option (Int32 × HS)
  | 0, _, _, _, _, _, _, _, _, _ => none
  | n + 1, σ, x0, x2, x3, x4, x6, x8, x10, x12 =>
    if x8 ≤ x12.toInt64 then (
      some ((1 : Int32), σ))
    else (
      ck (tg σ x10 = 21) <|
      ck (tg σ x10 = 21) <|
      ck (tg σ (gR σ x10 48) = 100 ∧ inb x2 (ln σ (gR σ x10 48))) <|
      ck (tg σ (gR σ x10 0) = 102 ∧ inb (((gI σ (gR σ x10 48) (ix x2)) + x6.toInt32) + x12) (ln σ (gR σ x10 0))) <|
      ck (tg σ x0 = 18) <| cl (Mdl_sets σ x0 x3 (x4 + x12.toInt64) (gI σ (gR σ x10 0) (ix (((gI σ (gR σ x10 48) (ix x2)) + x6.toInt32) + x12)))) fun _ σ1 =>
      bn (x12 + (1 : Int32)) fun y2 =>
      Mdl_copiesData_p77 n σ1 x0 x2 x3 x4 x6 x8 x10 y2)
theorem V.gX17_copiesData_p77 {X : CX}  : ∀ (n : Nat) (σ : HS) (x0 : Nat) (x2 : Int32) (x3 : Int32) (x4 : Int64) (x6 : Int64) (x8 : Int64) (x10 : Nat) (x12 : Int32), G X RX17 "copiesData" cX17_copiesData 13 (some .boolean) 2 47 enI 77 [(0, av x0), (2, iv x2), (3, iv x3), (4, jv x4), (6, jv x6), (8, jv x8), (10, av x10), (12, iv x12)] [] σ (Mdl_copiesData_p77 n σ x0 x2 x3 x4 x6 x8 x10 x12)
  | 0, σ, x0, x2, x3, x4, x6, x8, x10, x12 => by rw [Mdl_copiesData_p77]; exact G.nul
  | n + 1, σ, x0, x2, x3, x4, x6, x8, x10, x12 => by
    rw [Mdl_copiesData_p77]
    refine g_iload 7 dX17_copiesData_77 rfl ?_
    refine g_i2l dX17_copiesData_79 ?_
    refine g_lload 5 dX17_copiesData_80 rfl ?_
    refine g_lcmp_ge 123 dX17_copiesData_82 dX17_copiesData_83 (by decide) ?_ ?_
    · refine g_iconst (v := 1) dX17_copiesData_123 (by decide) ?_
      exact g_zreturn rfl (by decide +kernel) dX17_copiesData_124
    · refine g_aload_n 0 0 dX17_copiesData_86 rfl rfl ?_
      refine g_iload_n 3 2 dX17_copiesData_87 rfl rfl ?_
      refine g_lload 3 dX17_copiesData_88 rfl ?_
      refine g_iload 7 dX17_copiesData_90 rfl ?_
      refine g_i2l dX17_copiesData_92 ?_
      refine g_ladd dX17_copiesData_93 ?_
      refine g_aload 6 dX17_copiesData_94 rfl ?_
      refine g_getR fdX17_232 dX17_copiesData_96 ?_
      refine g_aload 6 dX17_copiesData_99 rfl ?_
      refine g_getR fdX17_543 dX17_copiesData_101 ?_
      refine g_iload_n 2 1 dX17_copiesData_104 rfl rfl ?_
      refine g_iaload dX17_copiesData_105 ?_
      refine g_lload 4 dX17_copiesData_106 rfl ?_
      refine g_l2i dX17_copiesData_108 ?_
      refine g_iadd dX17_copiesData_109 ?_
      refine g_iload 7 dX17_copiesData_110 rfl ?_
      refine g_iadd dX17_copiesData_112 ?_
      refine g_baload dX17_copiesData_113 ?_
      refine g_callV (fc := fun sς => Mdl_sets sς x0 x3 (x4 + x12.toInt64) (gI σ (gR σ x10 0) (ix (((gI σ (gR σ x10 48) (ix x2)) + x6.toInt32) + x12)))) (ci := 17) (as := [iv x3, jv (x4 + x12.toInt64), iv (gI σ (gR σ x10 0) (ix (((gI σ (gR σ x10 48) (ix x2)) + x6.toInt32) + x12)))]) rfl rfl rfl q4100 qs311 mdX17_1055 (ctX17_sets x0 x3 (x4 + x12.toInt64) (gI σ (gR σ x10 0) (ix (((gI σ (gR σ x10 48) (ix x2)) + x6.toInt32) + x12)))) rfl (Nat.le_of_ble_eq_true rfl) (Nat.le_of_ble_eq_true rfl) (Nat.le_of_ble_eq_true rfl) pu_V dX17_copiesData_114 (fun _ σ1 => ?_)
      refine g_iincB (w := 1) 7 dX17_copiesData_117 rfl (by decide) (by decide) (fun _ => rfl) (fun y2 => ?_)
      refine g_goto 77 dX17_copiesData_120 (by decide) ?_
      refine G.sub [1, 2, 3, 4, 5, 6, 7, 0] rfl ?_
      exact gX17_copiesData_p77 n _ _ _ _ _ _ _ _ _
def V.Mdl_copiesData_p38  (σ : HS) (x0 : Nat) (x2 : Int32) (x3 : Int32) (x4 : Int64) (x6 : Int64) (x8 : Int64) (x10 : Nat) (s0 : Int32) : Option (Int32 × HS) :=
  if s0.toInt64 < (x6 + x8) then (
    some ((0 : Int32), σ))
  else (
    ck (tg σ x0 = 18) <|
    ck (tg σ (gR σ x0 54) = 100 ∧ inb x3 (ln σ (gR σ x0 54))) <|
    if (x4 + x8) ≤ ((65536 : Int64) * ((gI σ (gR σ x0 54) (ix x3)).toInt64)) then (
      Mdl_copiesData_p77 FU σ x0 x2 x3 x4 x6 x8 x10 (0 : Int32))
    else (
      some ((0 : Int32), σ)))
theorem V.gX17_copiesData_p38 {X : CX}  (σ : HS) (x0 : Nat) (x2 : Int32) (x3 : Int32) (x4 : Int64) (x6 : Int64) (x8 : Int64) (x10 : Nat) (s0 : Int32) : G X RX17 "copiesData" cX17_copiesData 13 (some .boolean) 2 47 enI 38 [(0, av x0), (2, iv x2), (3, iv x3), (4, jv x4), (6, jv x6), (8, jv x8), (10, av x10)] [iv s0] σ (Mdl_copiesData_p38 σ x0 x2 x3 x4 x6 x8 x10 s0) := by
  unfold Mdl_copiesData_p38
  refine g_istore dX17_copiesData_38 (by decide) rfl ?_
  refine g_lload 5 dX17_copiesData_40 rfl ?_
  refine g_lload 6 dX17_copiesData_42 rfl ?_
  refine g_ladd dX17_copiesData_44 ?_
  refine g_iload 0 dX17_copiesData_45 rfl ?_
  refine g_i2l dX17_copiesData_47 ?_
  refine g_lcmp_gt 72 dX17_copiesData_48 dX17_copiesData_49 (by decide) ?_ ?_
  · refine g_iconst (v := 0) dX17_copiesData_72 (by decide) ?_
    exact g_zreturn rfl (by decide +kernel) dX17_copiesData_73
  · refine g_lload 4 dX17_copiesData_52 rfl ?_
    refine g_lload 6 dX17_copiesData_54 rfl ?_
    refine g_ladd dX17_copiesData_56 ?_
    refine g_ldc2 q3778 dX17_copiesData_57 ?_
    refine g_aload_n 0 1 dX17_copiesData_60 rfl rfl ?_
    refine g_getR fdX17_109 dX17_copiesData_61 ?_
    refine g_iload_n 3 3 dX17_copiesData_64 rfl rfl ?_
    refine g_iaload dX17_copiesData_65 ?_
    refine g_i2l dX17_copiesData_66 ?_
    refine g_lmul dX17_copiesData_67 ?_
    refine g_lcmp_le 74 dX17_copiesData_68 dX17_copiesData_69 (by decide) ?_ ?_
    · refine g_iconst (v := 0) dX17_copiesData_74 (by decide) ?_
      refine g_istore dX17_copiesData_75 (by decide) rfl ?_
      refine G.sub [2, 3, 4, 5, 6, 7, 8, 0] rfl ?_
      exact gX17_copiesData_p77 FU _ _ _ _ _ _ _ _ _
    · refine g_iconst (v := 0) dX17_copiesData_72 (by decide) ?_
      exact g_zreturn rfl (by decide +kernel) dX17_copiesData_73
def V.Mdl_copiesData (σ : HS) (x0 : Nat) (x1 : Int32) (x2 : Int32) (x3 : Int32) (x4 : Int64) (x6 : Int64) (x8 : Int64) : Option (Int32 × HS) :=
  ck (tg σ x0 = 18) <|
  ck (tg σ x0 = 18) <|
  ck (tg σ (gR σ x0 63) = 100 ∧ inb x1 (ln σ (gR σ x0 63))) <|
  ck (tg σ (gR σ x0 4) = 107 ∧ inb (gI σ (gR σ x0 63) (ix x1)) (ln σ (gR σ x0 4))) <|
  bn (gR σ (gR σ x0 4) (ix (gI σ (gR σ x0 63) (ix x1)))) fun y1 =>
  ck (tg σ x0 = 18) <|
  ck (tg σ (gR σ x0 70) = 103 ∧ inb (((64 : Int32) * x1) + x2) (ln σ (gR σ x0 70))) <|
  if (gI σ (gR σ x0 70) (ix (((64 : Int32) * x1) + x2))) = 0 then (
    Mdl_copiesData_p38 σ x0 x2 x3 x4 x6 x8 y1 (0 : Int32))
  else (
    ck (tg σ y1 = 21) <|
    ck (tg σ (gR σ y1 49) = 100 ∧ inb x2 (ln σ (gR σ y1 49))) <|
    Mdl_copiesData_p38 σ x0 x2 x3 x4 x6 x8 y1 (gI σ (gR σ y1 49) (ix x2)))
theorem V.ctX17_copiesData (x0 : Nat) (x1 : Int32) (x2 : Int32) (x3 : Int32) (x4 : Int64) (x6 : Int64) (x8 : Int64) : Ct yX17_copiesData  cX17_copiesData 13 (some .boolean) 2 47 eI [av x0, iv x1, iv x2, iv x3, jv x4, jv x6, jv x8] (fun σ => Mdl_copiesData σ x0 x1 x2 x3 x4 x6 x8) := by
  refine Ct.of (own := RX17) (nm := "copiesData") (desc := "(IIIJJJ)Z") rfl (by decide) (Nat.le_of_ble_eq_true rfl) (by decide) (fun X σ => ?_)
  show G X RX17 "copiesData" cX17_copiesData 13 (some .boolean) 2 47 enI 0 [(0, av x0), (1, iv x1), (2, iv x2), (3, iv x3), (4, jv x4), (6, jv x6), (8, jv x8)] [] σ (Mdl_copiesData σ x0 x1 x2 x3 x4 x6 x8)
  unfold Mdl_copiesData
  refine g_aload_n 0 0 dX17_copiesData_0 rfl rfl ?_
  refine g_getR fdX17_16 dX17_copiesData_1 ?_
  refine g_aload_n 0 0 dX17_copiesData_4 rfl rfl ?_
  refine g_getR fdX17_131 dX17_copiesData_5 ?_
  refine g_iload_n 1 1 dX17_copiesData_8 rfl rfl ?_
  refine g_iaload dX17_copiesData_9 ?_
  refine g_aaload 7 rfl dX17_copiesData_10 ?_
  refine g_nmA (fun y1 => ?_)
  refine g_astore dX17_copiesData_11 (by decide) rfl ?_
  refine g_aload_n 0 1 dX17_copiesData_13 rfl rfl ?_
  refine g_getR fdX17_152 dX17_copiesData_14 ?_
  refine g_bipush (v := 64) dX17_copiesData_17 (by decide) ?_
  refine g_iload_n 1 2 dX17_copiesData_19 rfl rfl ?_
  refine g_imul dX17_copiesData_20 ?_
  refine g_iload_n 2 3 dX17_copiesData_21 rfl rfl ?_
  refine g_iadd dX17_copiesData_22 ?_
  refine g_zaload dX17_copiesData_23 ?_
  refine g_if_eq 37 dX17_copiesData_24 (by decide) ?_ ?_
  · refine g_iconst (v := 0) dX17_copiesData_37 (by decide) ?_
    refine G.sub [1, 3, 4, 5, 6, 7, 0] rfl ?_
    exact gX17_copiesData_p38 _ _ _ _ _ _ _ _ _
  · refine g_aload 0 dX17_copiesData_27 rfl ?_
    refine g_getR fdX17_546 dX17_copiesData_29 ?_
    refine g_iload_n 2 3 dX17_copiesData_32 rfl rfl ?_
    refine g_iaload dX17_copiesData_33 ?_
    refine g_goto 38 dX17_copiesData_34 (by decide) ?_
    refine G.sub [1, 3, 4, 5, 6, 7, 0] rfl ?_
    exact gX17_copiesData_p38 _ _ _ _ _ _ _ _ _
theorem V.dX17_planOf_0 : decode cX17_planOf 0 = .ok (.aload_n 0, 1) := by decide +kernel
theorem V.dX17_planOf_1 : decode cX17_planOf 1 = .ok (.getfield 16, 3) := by decide +kernel
theorem V.dX17_planOf_4 : decode cX17_planOf 4 = .ok (.aload_n 0, 1) := by decide +kernel
theorem V.dX17_planOf_5 : decode cX17_planOf 5 = .ok (.getfield 68, 3) := by decide +kernel
theorem V.dX17_planOf_8 : decode cX17_planOf 8 = .ok (.iload_n 1, 1) := by decide +kernel
theorem V.dX17_planOf_9 : decode cX17_planOf 9 = .ok (.iaload, 1) := by decide +kernel
theorem V.dX17_planOf_10 : decode cX17_planOf 10 = .ok (.aaload, 1) := by decide +kernel
theorem V.dX17_planOf_11 : decode cX17_planOf 11 = .ok (.areturn, 1) := by decide +kernel
/-! ModuleEngineModel.planOf(I)LModuleEngineModel$Plan; -/
def V.Mdl_planOf (σ : HS) (x0 : Nat) (x1 : Int32) : Option (Nat × HS) :=
  ck (tg σ x0 = 18) <|
  ck (tg σ x0 = 18) <|
  ck (tg σ (gR σ x0 37) = 100 ∧ inb x1 (ln σ (gR σ x0 37))) <|
  ck (tg σ (gR σ x0 4) = 107 ∧ inb (gI σ (gR σ x0 37) (ix x1)) (ln σ (gR σ x0 4))) <|
  some (gR σ (gR σ x0 4) (ix (gI σ (gR σ x0 37) (ix x1))), σ)
theorem V.ctX17_planOf (x0 : Nat) (x1 : Int32) : Ct yX17_planOf  cX17_planOf 2 (some (.object "ModuleEngineModel$Plan")) 0 0 enR [av x0, iv x1] (fun σ => Mdl_planOf σ x0 x1) := by
  refine Ct.of (own := RX17) (nm := "planOf") (desc := "(I)LModuleEngineModel$Plan;") rfl (by decide) (Nat.le_of_ble_eq_true rfl) (by decide) (fun X σ => ?_)
  show G X RX17 "planOf" cX17_planOf 2 (some (.object "ModuleEngineModel$Plan")) 0 0 (enR (cxz X)) 0 [(0, av x0), (1, iv x1)] [] σ (Mdl_planOf σ x0 x1)
  unfold Mdl_planOf
  refine g_aload_n 0 0 dX17_planOf_0 rfl rfl ?_
  refine g_getR fdX17_16 dX17_planOf_1 ?_
  refine g_aload_n 0 0 dX17_planOf_4 rfl rfl ?_
  refine g_getR fdX17_68 dX17_planOf_5 ?_
  refine g_iload_n 1 1 dX17_planOf_8 rfl rfl ?_
  refine g_iaload dX17_planOf_9 ?_
  refine g_aaload 7 rfl dX17_planOf_10 ?_
  exact g_areturn rfl dX17_planOf_11
theorem V.dX17_parametersIn_0 : decode cX17_parametersIn 0 = .ok (.aload_n 0, 1) := by decide +kernel
theorem V.dX17_parametersIn_1 : decode cX17_parametersIn 1 = .ok (.iload_n 1, 1) := by decide +kernel
theorem V.dX17_parametersIn_2 : decode cX17_parametersIn 2 = .ok (.invokevirtual 1065, 3) := by decide +kernel
theorem V.dX17_parametersIn_5 : decode cX17_parametersIn 5 = .ok (.getfield 387, 3) := by decide +kernel
theorem V.dX17_parametersIn_8 : decode cX17_parametersIn 8 = .ok (.aload_n 0, 1) := by decide +kernel
theorem V.dX17_parametersIn_9 : decode cX17_parametersIn 9 = .ok (.getfield 71, 3) := by decide +kernel
theorem V.dX17_parametersIn_12 : decode cX17_parametersIn 12 = .ok (.iload_n 1, 1) := by decide +kernel
theorem V.dX17_parametersIn_13 : decode cX17_parametersIn 13 = .ok (.iaload, 1) := by decide +kernel
theorem V.dX17_parametersIn_14 : decode cX17_parametersIn 14 = .ok (.iaload, 1) := by decide +kernel
theorem V.dX17_parametersIn_15 : decode cX17_parametersIn 15 = .ok (.ireturn, 1) := by decide +kernel
theorem V.mdX17_1065 : MD RX17 1065 yX17_planOf cX17_planOf 2 (some (.object "ModuleEngineModel$Plan")) 1 := ⟨Or.inl q4119, q377, q4122, by decide, by decide, by decide +kernel⟩
/-! ModuleEngineModel.parametersIn(I)I -/
def V.Mdl_parametersIn (σ : HS) (x0 : Nat) (x1 : Int32) : Option (Int32 × HS) :=
  ck (tg σ x0 = 18) <| cl (Mdl_planOf σ x0 x1) fun r2 σ1 =>
  ck (tg σ1 r2 = 21) <|
  ck (tg σ1 x0 = 18) <|
  ck (tg σ1 (gR σ1 x0 38) = 100 ∧ inb x1 (ln σ1 (gR σ1 x0 38))) <|
  ck (tg σ1 (gR σ1 r2 5) = 100 ∧ inb (gI σ1 (gR σ1 x0 38) (ix x1)) (ln σ1 (gR σ1 r2 5))) <|
  some (gI σ1 (gR σ1 r2 5) (ix (gI σ1 (gR σ1 x0 38) (ix x1))), σ1)
theorem V.ctX17_parametersIn (x0 : Nat) (x1 : Int32) : Ct yX17_parametersIn  cX17_parametersIn 2 (some .int) 1 21 eI [av x0, iv x1] (fun σ => Mdl_parametersIn σ x0 x1) := by
  refine Ct.of (own := RX17) (nm := "parametersIn") (desc := "(I)I") rfl (by decide) (Nat.le_of_ble_eq_true rfl) (by decide) (fun X σ => ?_)
  show G X RX17 "parametersIn" cX17_parametersIn 2 (some .int) 1 21 enI 0 [(0, av x0), (1, iv x1)] [] σ (Mdl_parametersIn σ x0 x1)
  unfold Mdl_parametersIn
  refine g_aload_n 0 0 dX17_parametersIn_0 rfl rfl ?_
  refine g_iload_n 1 1 dX17_parametersIn_1 rfl rfl ?_
  refine g_callV (fc := fun sς => Mdl_planOf sς x0 x1) (ci := 17) (as := [iv x1]) rfl rfl rfl q4121 qs316 mdX17_1065 (ctX17_planOf x0 x1) rfl (Nat.le_of_ble_eq_true rfl) (Nat.le_of_ble_eq_true rfl) (Nat.le_of_ble_eq_true rfl) pu_R dX17_parametersIn_2 (fun r2 σ1 => ?_)
  refine g_getR fdX17_387 dX17_parametersIn_5 ?_
  refine g_aload_n 0 0 dX17_parametersIn_8 rfl rfl ?_
  refine g_getR fdX17_71 dX17_parametersIn_9 ?_
  refine g_iload_n 1 1 dX17_parametersIn_12 rfl rfl ?_
  refine g_iaload dX17_parametersIn_13 ?_
  refine g_iaload dX17_parametersIn_14 ?_
  exact g_ireturn rfl dX17_parametersIn_15
theorem V.dX17_counts_0 : decode cX17_counts 0 = .ok (.aload_n 0, 1) := by decide +kernel
theorem V.dX17_counts_1 : decode cX17_counts 1 = .ok (.getfield 83, 3) := by decide +kernel
theorem V.dX17_counts_4 : decode cX17_counts 4 = .ok (.iload_n 1, 1) := by decide +kernel
theorem V.dX17_counts_5 : decode cX17_counts 5 = .ok (.dup2, 1) := by decide +kernel
theorem V.dX17_counts_6 : decode cX17_counts 6 = .ok (.iaload, 1) := by decide +kernel
theorem V.dX17_counts_7 : decode cX17_counts 7 = .ok (.iconst 1, 1) := by decide +kernel
theorem V.dX17_counts_8 : decode cX17_counts 8 = .ok (.iadd, 1) := by decide +kernel
theorem V.dX17_counts_9 : decode cX17_counts 9 = .ok (.iastore, 1) := by decide +kernel
theorem V.dX17_counts_10 : decode cX17_counts 10 = .ok (.aload_n 0, 1) := by decide +kernel
theorem V.dX17_counts_11 : decode cX17_counts 11 = .ok (.getfield 86, 3) := by decide +kernel
theorem V.dX17_counts_14 : decode cX17_counts 14 = .ok (.iload_n 1, 1) := by decide +kernel
theorem V.dX17_counts_15 : decode cX17_counts 15 = .ok (.baload, 1) := by decide +kernel
theorem V.dX17_counts_16 : decode cX17_counts 16 = .ok (.ifCond .ne 40, 3) := by decide +kernel
theorem V.dX17_counts_19 : decode cX17_counts 19 = .ok (.aload_n 0, 1) := by decide +kernel
theorem V.dX17_counts_20 : decode cX17_counts 20 = .ok (.getfield 1117, 3) := by decide +kernel
theorem V.dX17_counts_23 : decode cX17_counts 23 = .ok (.ifCond .le 33, 3) := by decide +kernel
theorem V.dX17_counts_26 : decode cX17_counts 26 = .ok (.aload_n 0, 1) := by decide +kernel
theorem V.dX17_counts_27 : decode cX17_counts 27 = .ok (.getfield 83, 3) := by decide +kernel
theorem V.dX17_counts_30 : decode cX17_counts 30 = .ok (.iload_n 1, 1) := by decide +kernel
theorem V.dX17_counts_31 : decode cX17_counts 31 = .ok (.iaload, 1) := by decide +kernel
theorem V.dX17_counts_32 : decode cX17_counts 32 = .ok (.aload_n 0, 1) := by decide +kernel
theorem V.dX17_counts_33 : decode cX17_counts 33 = .ok (.getfield 1117, 3) := by decide +kernel
theorem V.dX17_counts_36 : decode cX17_counts 36 = .ok (.if_icmp .lt 20, 3) := by decide +kernel
theorem V.dX17_counts_39 : decode cX17_counts 39 = .ok (.aload_n 0, 1) := by decide +kernel
theorem V.dX17_counts_40 : decode cX17_counts 40 = .ok (.getfield 86, 3) := by decide +kernel
theorem V.dX17_counts_43 : decode cX17_counts 43 = .ok (.iload_n 1, 1) := by decide +kernel
theorem V.dX17_counts_44 : decode cX17_counts 44 = .ok (.iconst 1, 1) := by decide +kernel
theorem V.dX17_counts_45 : decode cX17_counts 45 = .ok (.bastore, 1) := by decide +kernel
theorem V.dX17_counts_46 : decode cX17_counts 46 = .ok (.aload_n 0, 1) := by decide +kernel
theorem V.dX17_counts_47 : decode cX17_counts 47 = .ok (.dup, 1) := by decide +kernel
theorem V.dX17_counts_48 : decode cX17_counts 48 = .ok (.getfield 1120, 3) := by decide +kernel
theorem V.dX17_counts_51 : decode cX17_counts 51 = .ok (.iconst 1, 1) := by decide +kernel
theorem V.dX17_counts_52 : decode cX17_counts 52 = .ok (.iadd, 1) := by decide +kernel
theorem V.dX17_counts_53 : decode cX17_counts 53 = .ok (.putfield 1120, 3) := by decide +kernel
theorem V.dX17_counts_56 : decode cX17_counts 56 = .ok (.return_, 1) := by decide +kernel
theorem V.fdX17_83 : FD RX17 83 17 42 2 := ⟨(RX17, TX17, 101), tyX17, rfl, rfl, in_X17, by decide, Or.inl q3078, rfl⟩
theorem V.fdX17_86 : FD RX17 86 17 43 2 := ⟨(RX17, TX17, 101), tyX17, rfl, rfl, in_X17, by decide, Or.inl q3079, rfl⟩
theorem V.fdX17_1117 : FD RX17 1117 17 44 0 := ⟨(RX17, TX17, 101), tyX17, rfl, rfl, in_X17, by decide, Or.inl q3080, rfl⟩
theorem V.fdX17_1120 : FD RX17 1120 17 45 0 := ⟨(RX17, TX17, 101), tyX17, rfl, rfl, in_X17, by decide, Or.inl q3081, rfl⟩
theorem V.fpX17_1120 {nm : String} : FP RX17 nm 1120 17 45 (.int) := ⟨(RX17, TX17, 101), tyX17, rfl, rfl, in_X17, by decide, tyX17_ok, nmX17, rfl, Or.inl ⟨rfl, Or.inl q3081⟩⟩
/-! ModuleEngineModel.counts(I)V -/
def V.Mdl_counts (σ : HS) (x0 : Nat) (x1 : Int32) : Option (Unit × HS) :=
  ck (tg σ x0 = 18) <|
  ck (tg σ (gR σ x0 42) = 100 ∧ inb x1 (ln σ (gR σ x0 42))) <|
  ck (tg σ (gR σ x0 42) = 100 ∧ inb x1 (ln σ (gR σ x0 42))) <| bn (sI σ (gR σ x0 42) (ix x1) ((gI σ (gR σ x0 42) (ix x1)) + (1 : Int32))) fun σ1 =>
  ck (tg σ1 x0 = 18) <|
  ck (tg σ1 (gR σ1 x0 43) = 103 ∧ inb x1 (ln σ1 (gR σ1 x0 43))) <|
  if (gI σ1 (gR σ1 x0 43) (ix x1)) = 0 then (
    ck (tg σ1 x0 = 18) <|
    if (gI σ1 x0 44) ≤ 0 then (
      some ((), σ1))
    else (
      ck (tg σ1 x0 = 18) <|
      ck (tg σ1 (gR σ1 x0 42) = 100 ∧ inb x1 (ln σ1 (gR σ1 x0 42))) <|
      ck (tg σ1 x0 = 18) <|
      if (gI σ1 (gR σ1 x0 42) (ix x1)) < (gI σ1 x0 44) then (
        some ((), σ1))
      else (
        ck (tg σ1 x0 = 18) <|
        ck (tg σ1 (gR σ1 x0 43) = 103 ∧ inb x1 (ln σ1 (gR σ1 x0 43)) ∧ zb (1 : Int32)) <| bn (sI σ1 (gR σ1 x0 43) (ix x1) (1 : Int32)) fun σ2 =>
        ck (tg σ2 x0 = 18) <|
        ck (tg σ2 x0 = 18) <| bn (sI σ2 x0 45 ((gI σ2 x0 45) + (1 : Int32))) fun σ3 =>
        some ((), σ3))))
  else (
    some ((), σ1))
theorem V.ctX17_counts (x0 : Nat) (x1 : Int32) : Ct yX17_counts  cX17_counts 2 none 0 0 eV [av x0, iv x1] (fun σ => Mdl_counts σ x0 x1) := by
  refine Ct.of (own := RX17) (nm := "counts") (desc := "(I)V") rfl (by decide) (Nat.le_of_ble_eq_true rfl) (by decide) (fun X σ => ?_)
  show G X RX17 "counts" cX17_counts 2 none 0 0 enV 0 [(0, av x0), (1, iv x1)] [] σ (Mdl_counts σ x0 x1)
  unfold Mdl_counts
  refine g_aload_n 0 0 dX17_counts_0 rfl rfl ?_
  refine g_getR fdX17_83 dX17_counts_1 ?_
  refine g_iload_n 1 1 dX17_counts_4 rfl rfl ?_
  refine g_dup2_11 dX17_counts_5 rfl rfl ?_
  refine g_iaload dX17_counts_6 ?_
  refine g_iconst (v := 1) dX17_counts_7 (by decide) ?_
  refine g_iadd dX17_counts_8 ?_
  refine g_iastore dX17_counts_9 (fun σ1 => ?_)
  refine g_aload_n 0 0 dX17_counts_10 rfl rfl ?_
  refine g_getR fdX17_86 dX17_counts_11 ?_
  refine g_iload_n 1 1 dX17_counts_14 rfl rfl ?_
  refine g_zaload dX17_counts_15 ?_
  refine g_if_ne 56 dX17_counts_16 (by decide) ?_ ?_
  · exact g_return rfl dX17_counts_56
  · refine g_aload_n 0 0 dX17_counts_19 rfl rfl ?_
    refine g_getI fdX17_1117 dX17_counts_20 ?_
    refine g_if_le 56 dX17_counts_23 (by decide) ?_ ?_
    · exact g_return rfl dX17_counts_56
    · refine g_aload_n 0 0 dX17_counts_26 rfl rfl ?_
      refine g_getR fdX17_83 dX17_counts_27 ?_
      refine g_iload_n 1 1 dX17_counts_30 rfl rfl ?_
      refine g_iaload dX17_counts_31 ?_
      refine g_aload_n 0 0 dX17_counts_32 rfl rfl ?_
      refine g_getI fdX17_1117 dX17_counts_33 ?_
      refine g_icmp_lt 56 dX17_counts_36 (by decide) ?_ ?_
      · exact g_return rfl dX17_counts_56
      · refine g_aload_n 0 0 dX17_counts_39 rfl rfl ?_
        refine g_getR fdX17_86 dX17_counts_40 ?_
        refine g_iload_n 1 1 dX17_counts_43 rfl rfl ?_
        refine g_iconst (v := 1) dX17_counts_44 (by decide) ?_
        refine g_zastore dX17_counts_45 (fun σ2 => ?_)
        refine g_aload_n 0 0 dX17_counts_46 rfl rfl ?_
        refine g_dup dX17_counts_47 rfl ?_
        refine g_getI fdX17_1120 dX17_counts_48 ?_
        refine g_iconst (v := 1) dX17_counts_51 (by decide) ?_
        refine g_iadd dX17_counts_52 ?_
        refine g_putI fpX17_1120 dX17_counts_53 (fun σ3 => ?_)
        exact g_return rfl dX17_counts_56
theorem V.dX17_opens_0 : decode cX17_opens 0 = .ok (.aload_n 0, 1) := by decide +kernel
theorem V.dX17_opens_1 : decode cX17_opens 1 = .ok (.getfield 195, 3) := by decide +kernel
theorem V.dX17_opens_4 : decode cX17_opens 4 = .ok (.aload_n 0, 1) := by decide +kernel
theorem V.dX17_opens_5 : decode cX17_opens 5 = .ok (.getfield 1086, 3) := by decide +kernel
theorem V.dX17_opens_8 : decode cX17_opens 8 = .ok (.iload_n 1, 1) := by decide +kernel
theorem V.dX17_opens_9 : decode cX17_opens 9 = .ok (.iastore, 1) := by decide +kernel
theorem V.dX17_opens_10 : decode cX17_opens 10 = .ok (.aload_n 0, 1) := by decide +kernel
theorem V.dX17_opens_11 : decode cX17_opens 11 = .ok (.getfield 198, 3) := by decide +kernel
theorem V.dX17_opens_14 : decode cX17_opens 14 = .ok (.aload_n 0, 1) := by decide +kernel
theorem V.dX17_opens_15 : decode cX17_opens 15 = .ok (.getfield 1086, 3) := by decide +kernel
theorem V.dX17_opens_18 : decode cX17_opens 18 = .ok (.aload_n 0, 1) := by decide +kernel
theorem V.dX17_opens_19 : decode cX17_opens 19 = .ok (.getfield 1104, 3) := by decide +kernel
theorem V.dX17_opens_22 : decode cX17_opens 22 = .ok (.iload_n 3, 1) := by decide +kernel
theorem V.dX17_opens_23 : decode cX17_opens 23 = .ok (.isub, 1) := by decide +kernel
theorem V.dX17_opens_24 : decode cX17_opens 24 = .ok (.iastore, 1) := by decide +kernel
theorem V.dX17_opens_25 : decode cX17_opens 25 = .ok (.aload_n 0, 1) := by decide +kernel
theorem V.dX17_opens_26 : decode cX17_opens 26 = .ok (.getfield 201, 3) := by decide +kernel
theorem V.dX17_opens_29 : decode cX17_opens 29 = .ok (.aload_n 0, 1) := by decide +kernel
theorem V.dX17_opens_30 : decode cX17_opens 30 = .ok (.getfield 1086, 3) := by decide +kernel
theorem V.dX17_opens_33 : decode cX17_opens 33 = .ok (.iload_n 2, 1) := by decide +kernel
theorem V.dX17_opens_34 : decode cX17_opens 34 = .ok (.iastore, 1) := by decide +kernel
theorem V.dX17_opens_35 : decode cX17_opens 35 = .ok (.aload_n 0, 1) := by decide +kernel
theorem V.dX17_opens_36 : decode cX17_opens 36 = .ok (.getfield 204, 3) := by decide +kernel
theorem V.dX17_opens_39 : decode cX17_opens 39 = .ok (.aload_n 0, 1) := by decide +kernel
theorem V.dX17_opens_40 : decode cX17_opens 40 = .ok (.getfield 1086, 3) := by decide +kernel
theorem V.dX17_opens_43 : decode cX17_opens 43 = .ok (.iload 4, 2) := by decide +kernel
theorem V.dX17_opens_45 : decode cX17_opens 45 = .ok (.bastore, 1) := by decide +kernel
theorem V.dX17_opens_46 : decode cX17_opens 46 = .ok (.aload_n 0, 1) := by decide +kernel
theorem V.dX17_opens_47 : decode cX17_opens 47 = .ok (.dup, 1) := by decide +kernel
theorem V.dX17_opens_48 : decode cX17_opens 48 = .ok (.getfield 1086, 3) := by decide +kernel
theorem V.dX17_opens_51 : decode cX17_opens 51 = .ok (.iconst 1, 1) := by decide +kernel
theorem V.dX17_opens_52 : decode cX17_opens 52 = .ok (.iadd, 1) := by decide +kernel
theorem V.dX17_opens_53 : decode cX17_opens 53 = .ok (.putfield 1086, 3) := by decide +kernel
theorem V.dX17_opens_56 : decode cX17_opens 56 = .ok (.return_, 1) := by decide +kernel
theorem V.fdX17_195 : FD RX17 195 17 97 2 := ⟨(RX17, TX17, 101), tyX17, rfl, rfl, in_X17, by decide, Or.inl q3133, rfl⟩
theorem V.fdX17_1086 : FD RX17 1086 17 96 0 := ⟨(RX17, TX17, 101), tyX17, rfl, rfl, in_X17, by decide, Or.inl q3132, rfl⟩
theorem V.fdX17_198 : FD RX17 198 17 98 2 := ⟨(RX17, TX17, 101), tyX17, rfl, rfl, in_X17, by decide, Or.inl q3134, rfl⟩
theorem V.fdX17_1104 : FD RX17 1104 17 93 0 := ⟨(RX17, TX17, 101), tyX17, rfl, rfl, in_X17, by decide, Or.inl q3129, rfl⟩
theorem V.fdX17_201 : FD RX17 201 17 99 2 := ⟨(RX17, TX17, 101), tyX17, rfl, rfl, in_X17, by decide, Or.inl q3135, rfl⟩
theorem V.fdX17_204 : FD RX17 204 17 100 2 := ⟨(RX17, TX17, 101), tyX17, rfl, rfl, in_X17, by decide, Or.inl q3136, rfl⟩
theorem V.fpX17_1086 {nm : String} : FP RX17 nm 1086 17 96 (.int) := ⟨(RX17, TX17, 101), tyX17, rfl, rfl, in_X17, by decide, tyX17_ok, nmX17, rfl, Or.inl ⟨rfl, Or.inl q3132⟩⟩
/-! ModuleEngineModel.opens(IIIZ)V -/
def V.Mdl_opens (σ : HS) (x0 : Nat) (x1 : Int32) (x2 : Int32) (x3 : Int32) (x4 : Int32) : Option (Unit × HS) :=
  ck (tg σ x0 = 18) <|
  ck (tg σ x0 = 18) <|
  ck (tg σ (gR σ x0 97) = 100 ∧ inb (gI σ x0 96) (ln σ (gR σ x0 97))) <| bn (sI σ (gR σ x0 97) (ix (gI σ x0 96)) x1) fun σ1 =>
  ck (tg σ1 x0 = 18) <|
  ck (tg σ1 x0 = 18) <|
  ck (tg σ1 x0 = 18) <|
  ck (tg σ1 (gR σ1 x0 98) = 100 ∧ inb (gI σ1 x0 96) (ln σ1 (gR σ1 x0 98))) <| bn (sI σ1 (gR σ1 x0 98) (ix (gI σ1 x0 96)) ((gI σ1 x0 93) - x3)) fun σ2 =>
  ck (tg σ2 x0 = 18) <|
  ck (tg σ2 x0 = 18) <|
  ck (tg σ2 (gR σ2 x0 99) = 100 ∧ inb (gI σ2 x0 96) (ln σ2 (gR σ2 x0 99))) <| bn (sI σ2 (gR σ2 x0 99) (ix (gI σ2 x0 96)) x2) fun σ3 =>
  ck (tg σ3 x0 = 18) <|
  ck (tg σ3 x0 = 18) <|
  ck (tg σ3 (gR σ3 x0 100) = 103 ∧ inb (gI σ3 x0 96) (ln σ3 (gR σ3 x0 100)) ∧ zb x4) <| bn (sI σ3 (gR σ3 x0 100) (ix (gI σ3 x0 96)) x4) fun σ4 =>
  ck (tg σ4 x0 = 18) <|
  ck (tg σ4 x0 = 18) <| bn (sI σ4 x0 96 ((gI σ4 x0 96) + (1 : Int32))) fun σ5 =>
  some ((), σ5)
theorem V.ctX17_opens (x0 : Nat) (x1 : Int32) (x2 : Int32) (x3 : Int32) (x4 : Int32) : Ct yX17_opens  cX17_opens 5 none 0 0 eV [av x0, iv x1, iv x2, iv x3, iv x4] (fun σ => Mdl_opens σ x0 x1 x2 x3 x4) := by
  refine Ct.of (own := RX17) (nm := "opens") (desc := "(IIIZ)V") rfl (by decide) (Nat.le_of_ble_eq_true rfl) (by decide) (fun X σ => ?_)
  show G X RX17 "opens" cX17_opens 5 none 0 0 enV 0 [(0, av x0), (1, iv x1), (2, iv x2), (3, iv x3), (4, iv x4)] [] σ (Mdl_opens σ x0 x1 x2 x3 x4)
  unfold Mdl_opens
  refine g_aload_n 0 0 dX17_opens_0 rfl rfl ?_
  refine g_getR fdX17_195 dX17_opens_1 ?_
  refine g_aload_n 0 0 dX17_opens_4 rfl rfl ?_
  refine g_getI fdX17_1086 dX17_opens_5 ?_
  refine g_iload_n 1 1 dX17_opens_8 rfl rfl ?_
  refine g_iastore dX17_opens_9 (fun σ1 => ?_)
  refine g_aload_n 0 0 dX17_opens_10 rfl rfl ?_
  refine g_getR fdX17_198 dX17_opens_11 ?_
  refine g_aload_n 0 0 dX17_opens_14 rfl rfl ?_
  refine g_getI fdX17_1086 dX17_opens_15 ?_
  refine g_aload_n 0 0 dX17_opens_18 rfl rfl ?_
  refine g_getI fdX17_1104 dX17_opens_19 ?_
  refine g_iload_n 3 3 dX17_opens_22 rfl rfl ?_
  refine g_isub dX17_opens_23 ?_
  refine g_iastore dX17_opens_24 (fun σ2 => ?_)
  refine g_aload_n 0 0 dX17_opens_25 rfl rfl ?_
  refine g_getR fdX17_201 dX17_opens_26 ?_
  refine g_aload_n 0 0 dX17_opens_29 rfl rfl ?_
  refine g_getI fdX17_1086 dX17_opens_30 ?_
  refine g_iload_n 2 2 dX17_opens_33 rfl rfl ?_
  refine g_iastore dX17_opens_34 (fun σ3 => ?_)
  refine g_aload_n 0 0 dX17_opens_35 rfl rfl ?_
  refine g_getR fdX17_204 dX17_opens_36 ?_
  refine g_aload_n 0 0 dX17_opens_39 rfl rfl ?_
  refine g_getI fdX17_1086 dX17_opens_40 ?_
  refine g_iload 4 dX17_opens_43 rfl ?_
  refine g_zastore dX17_opens_45 (fun σ4 => ?_)
  refine g_aload_n 0 0 dX17_opens_46 rfl rfl ?_
  refine g_dup dX17_opens_47 rfl ?_
  refine g_getI fdX17_1086 dX17_opens_48 ?_
  refine g_iconst (v := 1) dX17_opens_51 (by decide) ?_
  refine g_iadd dX17_opens_52 ?_
  refine g_putI fpX17_1086 dX17_opens_53 (fun σ5 => ?_)
  exact g_return rfl dX17_opens_56
theorem V.dX17_enters_0 : decode cX17_enters 0 = .ok (.aload_n 0, 1) := by decide +kernel
theorem V.dX17_enters_1 : decode cX17_enters 1 = .ok (.getfield 80, 3) := by decide +kernel
theorem V.dX17_enters_4 : decode cX17_enters 4 = .ok (.iload_n 1, 1) := by decide +kernel
theorem V.dX17_enters_5 : decode cX17_enters 5 = .ok (.iaload, 1) := by decide +kernel
theorem V.dX17_enters_6 : decode cX17_enters 6 = .ok (.ifCond .lt 33, 3) := by decide +kernel
theorem V.dX17_enters_9 : decode cX17_enters 9 = .ok (.aload_n 0, 1) := by decide +kernel
theorem V.dX17_enters_10 : decode cX17_enters 10 = .ok (.iconst 5, 1) := by decide +kernel
theorem V.dX17_enters_11 : decode cX17_enters 11 = .ok (.putfield 970, 3) := by decide +kernel
theorem V.dX17_enters_14 : decode cX17_enters 14 = .ok (.aload_n 0, 1) := by decide +kernel
theorem V.dX17_enters_15 : decode cX17_enters 15 = .ok (.aload_n 0, 1) := by decide +kernel
theorem V.dX17_enters_16 : decode cX17_enters 16 = .ok (.getfield 80, 3) := by decide +kernel
theorem V.dX17_enters_19 : decode cX17_enters 19 = .ok (.iload_n 1, 1) := by decide +kernel
theorem V.dX17_enters_20 : decode cX17_enters 20 = .ok (.iaload, 1) := by decide +kernel
theorem V.dX17_enters_21 : decode cX17_enters 21 = .ok (.putfield 164, 3) := by decide +kernel
theorem V.dX17_enters_24 : decode cX17_enters 24 = .ok (.aload_n 0, 1) := by decide +kernel
theorem V.dX17_enters_25 : decode cX17_enters 25 = .ok (.iload_n 1, 1) := by decide +kernel
theorem V.dX17_enters_26 : decode cX17_enters 26 = .ok (.putfield 1095, 3) := by decide +kernel
theorem V.dX17_enters_29 : decode cX17_enters 29 = .ok (.aload_n 0, 1) := by decide +kernel
theorem V.dX17_enters_30 : decode cX17_enters 30 = .ok (.aload_n 0, 1) := by decide +kernel
theorem V.dX17_enters_31 : decode cX17_enters 31 = .ok (.iload_n 1, 1) := by decide +kernel
theorem V.dX17_enters_32 : decode cX17_enters 32 = .ok (.invokevirtual 1077, 3) := by decide +kernel
theorem V.dX17_enters_35 : decode cX17_enters 35 = .ok (.putfield 1098, 3) := by decide +kernel
theorem V.dX17_enters_38 : decode cX17_enters 38 = .ok (.return_, 1) := by decide +kernel
theorem V.dX17_enters_39 : decode cX17_enters 39 = .ok (.aload_n 0, 1) := by decide +kernel
theorem V.dX17_enters_40 : decode cX17_enters 40 = .ok (.iload_n 1, 1) := by decide +kernel
theorem V.dX17_enters_41 : decode cX17_enters 41 = .ok (.invokevirtual 1065, 3) := by decide +kernel
theorem V.dX17_enters_44 : decode cX17_enters 44 = .ok (.astore_n 2, 1) := by decide +kernel
theorem V.dX17_enters_45 : decode cX17_enters 45 = .ok (.aload_n 0, 1) := by decide +kernel
theorem V.dX17_enters_46 : decode cX17_enters 46 = .ok (.getfield 77, 3) := by decide +kernel
theorem V.dX17_enters_49 : decode cX17_enters 49 = .ok (.iload_n 1, 1) := by decide +kernel
theorem V.dX17_enters_50 : decode cX17_enters 50 = .ok (.iaload, 1) := by decide +kernel
theorem V.dX17_enters_51 : decode cX17_enters 51 = .ok (.istore_n 3, 1) := by decide +kernel
theorem V.dX17_enters_52 : decode cX17_enters 52 = .ok (.aload_n 2, 1) := by decide +kernel
theorem V.dX17_enters_53 : decode cX17_enters 53 = .ok (.getfield 387, 3) := by decide +kernel
theorem V.dX17_enters_56 : decode cX17_enters 56 = .ok (.aload_n 0, 1) := by decide +kernel
theorem V.dX17_enters_57 : decode cX17_enters 57 = .ok (.getfield 71, 3) := by decide +kernel
theorem V.dX17_enters_60 : decode cX17_enters 60 = .ok (.iload_n 1, 1) := by decide +kernel
theorem V.dX17_enters_61 : decode cX17_enters 61 = .ok (.iaload, 1) := by decide +kernel
theorem V.dX17_enters_62 : decode cX17_enters 62 = .ok (.iaload, 1) := by decide +kernel
theorem V.dX17_enters_63 : decode cX17_enters 63 = .ok (.istore 4, 2) := by decide +kernel
theorem V.dX17_enters_65 : decode cX17_enters 65 = .ok (.iload 4, 2) := by decide +kernel
theorem V.dX17_enters_67 : decode cX17_enters 67 = .ok (.aload_n 2, 1) := by decide +kernel
theorem V.dX17_enters_68 : decode cX17_enters 68 = .ok (.getfield 520, 3) := by decide +kernel
theorem V.dX17_enters_71 : decode cX17_enters 71 = .ok (.iload_n 3, 1) := by decide +kernel
theorem V.dX17_enters_72 : decode cX17_enters 72 = .ok (.laload, 1) := by decide +kernel
theorem V.dX17_enters_73 : decode cX17_enters 73 = .ok (.l2i, 1) := by decide +kernel
theorem V.dX17_enters_74 : decode cX17_enters 74 = .ok (.iadd, 1) := by decide +kernel
theorem V.dX17_enters_75 : decode cX17_enters 75 = .ok (.istore 5, 2) := by decide +kernel
theorem V.dX17_enters_77 : decode cX17_enters 77 = .ok (.aload_n 0, 1) := by decide +kernel
theorem V.dX17_enters_78 : decode cX17_enters 78 = .ok (.getfield 1052, 3) := by decide +kernel
theorem V.dX17_enters_81 : decode cX17_enters 81 = .ok (.ifCond .ne 7, 3) := by decide +kernel
theorem V.dX17_enters_84 : decode cX17_enters 84 = .ok (.iconst 0, 1) := by decide +kernel
theorem V.dX17_enters_85 : decode cX17_enters 85 = .ok (.goto 26, 3) := by decide +kernel
theorem V.dX17_enters_88 : decode cX17_enters 88 = .ok (.aload_n 0, 1) := by decide +kernel
theorem V.dX17_enters_89 : decode cX17_enters 89 = .ok (.getfield 179, 3) := by decide +kernel
theorem V.dX17_enters_92 : decode cX17_enters 92 = .ok (.aload_n 0, 1) := by decide +kernel
theorem V.dX17_enters_93 : decode cX17_enters 93 = .ok (.getfield 1052, 3) := by decide +kernel
theorem V.dX17_enters_96 : decode cX17_enters 96 = .ok (.iconst 1, 1) := by decide +kernel
theorem V.dX17_enters_97 : decode cX17_enters 97 = .ok (.isub, 1) := by decide +kernel
theorem V.dX17_enters_98 : decode cX17_enters 98 = .ok (.iaload, 1) := by decide +kernel
theorem V.dX17_enters_99 : decode cX17_enters 99 = .ok (.aload_n 0, 1) := by decide +kernel
theorem V.dX17_enters_100 : decode cX17_enters 100 = .ok (.getfield 182, 3) := by decide +kernel
theorem V.dX17_enters_103 : decode cX17_enters 103 = .ok (.aload_n 0, 1) := by decide +kernel
theorem V.dX17_enters_104 : decode cX17_enters 104 = .ok (.getfield 1052, 3) := by decide +kernel
theorem V.dX17_enters_107 : decode cX17_enters 107 = .ok (.iconst 1, 1) := by decide +kernel
theorem V.dX17_enters_108 : decode cX17_enters 108 = .ok (.isub, 1) := by decide +kernel
theorem V.dX17_enters_109 : decode cX17_enters 109 = .ok (.iaload, 1) := by decide +kernel
theorem V.dX17_enters_110 : decode cX17_enters 110 = .ok (.iadd, 1) := by decide +kernel
theorem V.dX17_enters_111 : decode cX17_enters 111 = .ok (.istore 6, 2) := by decide +kernel
theorem V.dX17_enters_113 : decode cX17_enters 113 = .ok (.aload_n 0, 1) := by decide +kernel
theorem V.dX17_enters_114 : decode cX17_enters 114 = .ok (.getfield 1052, 3) := by decide +kernel
theorem V.dX17_enters_117 : decode cX17_enters 117 = .ok (.sipush 200, 3) := by decide +kernel
theorem V.dX17_enters_120 : decode cX17_enters 120 = .ok (.if_icmp .eq 21, 3) := by decide +kernel
theorem V.dX17_enters_123 : decode cX17_enters 123 = .ok (.iload 6, 2) := by decide +kernel
theorem V.dX17_enters_125 : decode cX17_enters 125 = .ok (.iload 5, 2) := by decide +kernel
theorem V.dX17_enters_127 : decode cX17_enters 127 = .ok (.iadd, 1) := by decide +kernel
theorem V.dX17_enters_128 : decode cX17_enters 128 = .ok (.aload_n 2, 1) := by decide +kernel
theorem V.dX17_enters_129 : decode cX17_enters 129 = .ok (.getfield 726, 3) := by decide +kernel
theorem V.dX17_enters_132 : decode cX17_enters 132 = .ok (.iload_n 3, 1) := by decide +kernel
theorem V.dX17_enters_133 : decode cX17_enters 133 = .ok (.iaload, 1) := by decide +kernel
theorem V.dX17_enters_134 : decode cX17_enters 134 = .ok (.iadd, 1) := by decide +kernel
theorem V.dX17_enters_135 : decode cX17_enters 135 = .ok (.sipush 4096, 3) := by decide +kernel
theorem V.dX17_enters_138 : decode cX17_enters 138 = .ok (.if_icmp .le 9, 3) := by decide +kernel
theorem V.dX17_enters_141 : decode cX17_enters 141 = .ok (.aload_n 0, 1) := by decide +kernel
theorem V.dX17_enters_142 : decode cX17_enters 142 = .ok (.iconst 4, 1) := by decide +kernel
theorem V.dX17_enters_143 : decode cX17_enters 143 = .ok (.putfield 970, 3) := by decide +kernel
theorem V.dX17_enters_146 : decode cX17_enters 146 = .ok (.return_, 1) := by decide +kernel
theorem V.dX17_enters_147 : decode cX17_enters 147 = .ok (.aload_n 0, 1) := by decide +kernel
theorem V.dX17_enters_148 : decode cX17_enters 148 = .ok (.iload_n 1, 1) := by decide +kernel
theorem V.dX17_enters_149 : decode cX17_enters 149 = .ok (.invokevirtual 1101, 3) := by decide +kernel
theorem V.dX17_enters_152 : decode cX17_enters 152 = .ok (.aload_n 0, 1) := by decide +kernel
theorem V.dX17_enters_153 : decode cX17_enters 153 = .ok (.getfield 1052, 3) := by decide +kernel
theorem V.dX17_enters_156 : decode cX17_enters 156 = .ok (.ifCond .le 18, 3) := by decide +kernel
theorem V.dX17_enters_159 : decode cX17_enters 159 = .ok (.aload_n 0, 1) := by decide +kernel
theorem V.dX17_enters_160 : decode cX17_enters 160 = .ok (.getfield 185, 3) := by decide +kernel
theorem V.dX17_enters_163 : decode cX17_enters 163 = .ok (.aload_n 0, 1) := by decide +kernel
theorem V.dX17_enters_164 : decode cX17_enters 164 = .ok (.getfield 1052, 3) := by decide +kernel
theorem V.dX17_enters_167 : decode cX17_enters 167 = .ok (.iconst 1, 1) := by decide +kernel
theorem V.dX17_enters_168 : decode cX17_enters 168 = .ok (.isub, 1) := by decide +kernel
theorem V.dX17_enters_169 : decode cX17_enters 169 = .ok (.aload_n 0, 1) := by decide +kernel
theorem V.dX17_enters_170 : decode cX17_enters 170 = .ok (.getfield 1104, 3) := by decide +kernel
theorem V.dX17_enters_173 : decode cX17_enters 173 = .ok (.iastore, 1) := by decide +kernel
theorem V.dX17_enters_174 : decode cX17_enters 174 = .ok (.aload_n 0, 1) := by decide +kernel
theorem V.dX17_enters_175 : decode cX17_enters 175 = .ok (.getfield 173, 3) := by decide +kernel
theorem V.dX17_enters_178 : decode cX17_enters 178 = .ok (.aload_n 0, 1) := by decide +kernel
theorem V.dX17_enters_179 : decode cX17_enters 179 = .ok (.getfield 1052, 3) := by decide +kernel
theorem V.dX17_enters_182 : decode cX17_enters 182 = .ok (.iload_n 1, 1) := by decide +kernel
theorem V.dX17_enters_183 : decode cX17_enters 183 = .ok (.iastore, 1) := by decide +kernel
theorem V.dX17_enters_184 : decode cX17_enters 184 = .ok (.aload_n 0, 1) := by decide +kernel
theorem V.dX17_enters_185 : decode cX17_enters 185 = .ok (.getfield 176, 3) := by decide +kernel
theorem V.dX17_enters_188 : decode cX17_enters 188 = .ok (.aload_n 0, 1) := by decide +kernel
theorem V.dX17_enters_189 : decode cX17_enters 189 = .ok (.getfield 1052, 3) := by decide +kernel
theorem V.dX17_enters_192 : decode cX17_enters 192 = .ok (.aload_n 0, 1) := by decide +kernel
theorem V.dX17_enters_193 : decode cX17_enters 193 = .ok (.getfield 1107, 3) := by decide +kernel
theorem V.dX17_enters_196 : decode cX17_enters 196 = .ok (.iastore, 1) := by decide +kernel
theorem V.dX17_enters_197 : decode cX17_enters 197 = .ok (.aload_n 0, 1) := by decide +kernel
theorem V.dX17_enters_198 : decode cX17_enters 198 = .ok (.getfield 179, 3) := by decide +kernel
theorem V.dX17_enters_201 : decode cX17_enters 201 = .ok (.aload_n 0, 1) := by decide +kernel
theorem V.dX17_enters_202 : decode cX17_enters 202 = .ok (.getfield 1052, 3) := by decide +kernel
theorem V.dX17_enters_205 : decode cX17_enters 205 = .ok (.iload 6, 2) := by decide +kernel
theorem V.dX17_enters_207 : decode cX17_enters 207 = .ok (.iastore, 1) := by decide +kernel
theorem V.dX17_enters_208 : decode cX17_enters 208 = .ok (.aload_n 0, 1) := by decide +kernel
theorem V.dX17_enters_209 : decode cX17_enters 209 = .ok (.getfield 182, 3) := by decide +kernel
theorem V.dX17_enters_212 : decode cX17_enters 212 = .ok (.aload_n 0, 1) := by decide +kernel
theorem V.dX17_enters_213 : decode cX17_enters 213 = .ok (.getfield 1052, 3) := by decide +kernel
theorem V.dX17_enters_216 : decode cX17_enters 216 = .ok (.iload 5, 2) := by decide +kernel
theorem V.dX17_enters_218 : decode cX17_enters 218 = .ok (.aload_n 2, 1) := by decide +kernel
theorem V.dX17_enters_219 : decode cX17_enters 219 = .ok (.getfield 726, 3) := by decide +kernel
theorem V.dX17_enters_222 : decode cX17_enters 222 = .ok (.iload_n 3, 1) := by decide +kernel
theorem V.dX17_enters_223 : decode cX17_enters 223 = .ok (.iaload, 1) := by decide +kernel
theorem V.dX17_enters_224 : decode cX17_enters 224 = .ok (.iadd, 1) := by decide +kernel
theorem V.dX17_enters_225 : decode cX17_enters 225 = .ok (.iastore, 1) := by decide +kernel
theorem V.dX17_enters_226 : decode cX17_enters 226 = .ok (.aload_n 0, 1) := by decide +kernel
theorem V.dX17_enters_227 : decode cX17_enters 227 = .ok (.getfield 188, 3) := by decide +kernel
theorem V.dX17_enters_230 : decode cX17_enters 230 = .ok (.aload_n 0, 1) := by decide +kernel
theorem V.dX17_enters_231 : decode cX17_enters 231 = .ok (.getfield 1052, 3) := by decide +kernel
theorem V.dX17_enters_234 : decode cX17_enters 234 = .ok (.aload_n 0, 1) := by decide +kernel
theorem V.dX17_enters_235 : decode cX17_enters 235 = .ok (.getfield 1086, 3) := by decide +kernel
theorem V.dX17_enters_238 : decode cX17_enters 238 = .ok (.iastore, 1) := by decide +kernel
theorem V.dX17_enters_239 : decode cX17_enters 239 = .ok (.aload_n 0, 1) := by decide +kernel
theorem V.dX17_enters_240 : decode cX17_enters 240 = .ok (.dup, 1) := by decide +kernel
theorem V.dX17_enters_241 : decode cX17_enters 241 = .ok (.getfield 1052, 3) := by decide +kernel
theorem V.dX17_enters_244 : decode cX17_enters 244 = .ok (.iconst 1, 1) := by decide +kernel
theorem V.dX17_enters_245 : decode cX17_enters 245 = .ok (.iadd, 1) := by decide +kernel
theorem V.dX17_enters_246 : decode cX17_enters 246 = .ok (.putfield 1052, 3) := by decide +kernel
theorem V.dX17_enters_249 : decode cX17_enters 249 = .ok (.aload_n 0, 1) := by decide +kernel
theorem V.dX17_enters_250 : decode cX17_enters 250 = .ok (.aload_n 2, 1) := by decide +kernel
theorem V.dX17_enters_251 : decode cX17_enters 251 = .ok (.putfield 221, 3) := by decide +kernel
theorem V.dX17_enters_254 : decode cX17_enters 254 = .ok (.aload_n 0, 1) := by decide +kernel
theorem V.dX17_enters_255 : decode cX17_enters 255 = .ok (.aload_n 0, 1) := by decide +kernel
theorem V.dX17_enters_256 : decode cX17_enters 256 = .ok (.getfield 74, 3) := by decide +kernel
theorem V.dX17_enters_259 : decode cX17_enters 259 = .ok (.iload_n 1, 1) := by decide +kernel
theorem V.dX17_enters_260 : decode cX17_enters 260 = .ok (.iaload, 1) := by decide +kernel
theorem V.dX17_enters_261 : decode cX17_enters 261 = .ok (.putfield 1110, 3) := by decide +kernel
theorem V.dX17_enters_264 : decode cX17_enters 264 = .ok (.iconst 0, 1) := by decide +kernel
theorem V.dX17_enters_265 : decode cX17_enters 265 = .ok (.istore 7, 2) := by decide +kernel
theorem V.dX17_enters_267 : decode cX17_enters 267 = .ok (.iload 7, 2) := by decide +kernel
theorem V.dX17_enters_269 : decode cX17_enters 269 = .ok (.iload 4, 2) := by decide +kernel
theorem V.dX17_enters_271 : decode cX17_enters 271 = .ok (.if_icmp .ge 26, 3) := by decide +kernel
theorem V.dX17_enters_274 : decode cX17_enters 274 = .ok (.aload_n 0, 1) := by decide +kernel
theorem V.dX17_enters_275 : decode cX17_enters 275 = .ok (.getfield 191, 3) := by decide +kernel
theorem V.dX17_enters_278 : decode cX17_enters 278 = .ok (.iload 6, 2) := by decide +kernel
theorem V.dX17_enters_280 : decode cX17_enters 280 = .ok (.iload 7, 2) := by decide +kernel
theorem V.dX17_enters_282 : decode cX17_enters 282 = .ok (.iadd, 1) := by decide +kernel
theorem V.dX17_enters_283 : decode cX17_enters 283 = .ok (.aload_n 0, 1) := by decide +kernel
theorem V.dX17_enters_284 : decode cX17_enters 284 = .ok (.getfield 170, 3) := by decide +kernel
theorem V.dX17_enters_287 : decode cX17_enters 287 = .ok (.iload 7, 2) := by decide +kernel
theorem V.dX17_enters_289 : decode cX17_enters 289 = .ok (.laload, 1) := by decide +kernel
theorem V.dX17_enters_290 : decode cX17_enters 290 = .ok (.lastore, 1) := by decide +kernel
theorem V.dX17_enters_291 : decode cX17_enters 291 = .ok (.iinc 7 1, 3) := by decide +kernel
theorem V.dX17_enters_294 : decode cX17_enters 294 = .ok (.goto (-27), 3) := by decide +kernel
theorem V.dX17_enters_297 : decode cX17_enters 297 = .ok (.aload_n 0, 1) := by decide +kernel
theorem V.dX17_enters_298 : decode cX17_enters 298 = .ok (.iload 6, 2) := by decide +kernel
theorem V.dX17_enters_300 : decode cX17_enters 300 = .ok (.iload 4, 2) := by decide +kernel
theorem V.dX17_enters_302 : decode cX17_enters 302 = .ok (.iadd, 1) := by decide +kernel
theorem V.dX17_enters_303 : decode cX17_enters 303 = .ok (.putfield 1104, 3) := by decide +kernel
theorem V.dX17_enters_306 : decode cX17_enters 306 = .ok (.aload_n 0, 1) := by decide +kernel
theorem V.dX17_enters_307 : decode cX17_enters 307 = .ok (.aload_n 2, 1) := by decide +kernel
theorem V.dX17_enters_308 : decode cX17_enters 308 = .ok (.getfield 517, 3) := by decide +kernel
theorem V.dX17_enters_311 : decode cX17_enters 311 = .ok (.iload_n 3, 1) := by decide +kernel
theorem V.dX17_enters_312 : decode cX17_enters 312 = .ok (.iaload, 1) := by decide +kernel
theorem V.dX17_enters_313 : decode cX17_enters 313 = .ok (.putfield 594, 3) := by decide +kernel
theorem V.dX17_enters_316 : decode cX17_enters 316 = .ok (.aload_n 0, 1) := by decide +kernel
theorem V.dX17_enters_317 : decode cX17_enters 317 = .ok (.invokevirtual 603, 3) := by decide +kernel
theorem V.dX17_enters_320 : decode cX17_enters 320 = .ok (.lstore 7, 2) := by decide +kernel
theorem V.dX17_enters_322 : decode cX17_enters 322 = .ok (.lload 7, 2) := by decide +kernel
theorem V.dX17_enters_324 : decode cX17_enters 324 = .ok (.lconst 0, 1) := by decide +kernel
theorem V.dX17_enters_325 : decode cX17_enters 325 = .ok (.lcmp, 1) := by decide +kernel
theorem V.dX17_enters_326 : decode cX17_enters 326 = .ok (.ifCond .le 88, 3) := by decide +kernel
theorem V.dX17_enters_329 : decode cX17_enters 329 = .ok (.aload_n 0, 1) := by decide +kernel
theorem V.dX17_enters_330 : decode cX17_enters 330 = .ok (.invokevirtual 603, 3) := by decide +kernel
theorem V.dX17_enters_333 : decode cX17_enters 333 = .ok (.lstore 9, 2) := by decide +kernel
theorem V.dX17_enters_335 : decode cX17_enters 335 = .ok (.aload_n 2, 1) := by decide +kernel
theorem V.dX17_enters_336 : decode cX17_enters 336 = .ok (.aload_n 0, 1) := by decide +kernel
theorem V.dX17_enters_337 : decode cX17_enters 337 = .ok (.getfield 594, 3) := by decide +kernel
theorem V.dX17_enters_340 : decode cX17_enters 340 = .ok (.invokevirtual 261, 3) := by decide +kernel
theorem V.dX17_enters_343 : decode cX17_enters 343 = .ok (.invokestatic 270, 3) := by decide +kernel
theorem V.dX17_enters_346 : decode cX17_enters 346 = .ok (.ifCond .eq 9, 3) := by decide +kernel
theorem V.dX17_enters_349 : decode cX17_enters 349 = .ok (.ldc2_w 268, 3) := by decide +kernel
theorem V.dX17_enters_352 : decode cX17_enters 352 = .ok (.goto 4, 3) := by decide +kernel
theorem V.dX17_enters_355 : decode cX17_enters 355 = .ok (.lconst 0, 1) := by decide +kernel
theorem V.dX17_enters_356 : decode cX17_enters 356 = .ok (.lstore 11, 2) := by decide +kernel
theorem V.dX17_enters_358 : decode cX17_enters 358 = .ok (.aload_n 0, 1) := by decide +kernel
theorem V.dX17_enters_359 : decode cX17_enters 359 = .ok (.dup, 1) := by decide +kernel
theorem V.dX17_enters_360 : decode cX17_enters 360 = .ok (.getfield 594, 3) := by decide +kernel
theorem V.dX17_enters_363 : decode cX17_enters 363 = .ok (.iconst 1, 1) := by decide +kernel
theorem V.dX17_enters_364 : decode cX17_enters 364 = .ok (.iadd, 1) := by decide +kernel
theorem V.dX17_enters_365 : decode cX17_enters 365 = .ok (.putfield 594, 3) := by decide +kernel
theorem V.dX17_enters_368 : decode cX17_enters 368 = .ok (.lload 9, 2) := by decide +kernel
theorem V.dX17_enters_370 : decode cX17_enters 370 = .ok (.lconst 0, 1) := by decide +kernel
theorem V.dX17_enters_371 : decode cX17_enters 371 = .ok (.lcmp, 1) := by decide +kernel
theorem V.dX17_enters_372 : decode cX17_enters 372 = .ok (.ifCond .le 33, 3) := by decide +kernel
theorem V.dX17_enters_375 : decode cX17_enters 375 = .ok (.aload_n 0, 1) := by decide +kernel
theorem V.dX17_enters_376 : decode cX17_enters 376 = .ok (.getfield 191, 3) := by decide +kernel
theorem V.dX17_enters_379 : decode cX17_enters 379 = .ok (.aload_n 0, 1) := by decide +kernel
theorem V.dX17_enters_380 : decode cX17_enters 380 = .ok (.getfield 1104, 3) := by decide +kernel
theorem V.dX17_enters_383 : decode cX17_enters 383 = .ok (.lload 11, 2) := by decide +kernel
theorem V.dX17_enters_385 : decode cX17_enters 385 = .ok (.lastore, 1) := by decide +kernel
theorem V.dX17_enters_386 : decode cX17_enters 386 = .ok (.aload_n 0, 1) := by decide +kernel
theorem V.dX17_enters_387 : decode cX17_enters 387 = .ok (.dup, 1) := by decide +kernel
theorem V.dX17_enters_388 : decode cX17_enters 388 = .ok (.getfield 1104, 3) := by decide +kernel
theorem V.dX17_enters_391 : decode cX17_enters 391 = .ok (.iconst 1, 1) := by decide +kernel
theorem V.dX17_enters_392 : decode cX17_enters 392 = .ok (.iadd, 1) := by decide +kernel
theorem V.dX17_enters_393 : decode cX17_enters 393 = .ok (.putfield 1104, 3) := by decide +kernel
theorem V.dX17_enters_396 : decode cX17_enters 396 = .ok (.lload 9, 2) := by decide +kernel
theorem V.dX17_enters_398 : decode cX17_enters 398 = .ok (.lconst 1, 1) := by decide +kernel
theorem V.dX17_enters_399 : decode cX17_enters 399 = .ok (.lsub, 1) := by decide +kernel
theorem V.dX17_enters_400 : decode cX17_enters 400 = .ok (.lstore 9, 2) := by decide +kernel
theorem V.dX17_enters_402 : decode cX17_enters 402 = .ok (.goto (-34), 3) := by decide +kernel
theorem V.dX17_enters_405 : decode cX17_enters 405 = .ok (.lload 7, 2) := by decide +kernel
theorem V.dX17_enters_407 : decode cX17_enters 407 = .ok (.lconst 1, 1) := by decide +kernel
theorem V.dX17_enters_408 : decode cX17_enters 408 = .ok (.lsub, 1) := by decide +kernel
theorem V.dX17_enters_409 : decode cX17_enters 409 = .ok (.lstore 7, 2) := by decide +kernel
theorem V.dX17_enters_411 : decode cX17_enters 411 = .ok (.goto (-89), 3) := by decide +kernel
theorem V.dX17_enters_414 : decode cX17_enters 414 = .ok (.aload_n 0, 1) := by decide +kernel
theorem V.dX17_enters_415 : decode cX17_enters 415 = .ok (.aload_n 2, 1) := by decide +kernel
theorem V.dX17_enters_416 : decode cX17_enters 416 = .ok (.getfield 523, 3) := by decide +kernel
theorem V.dX17_enters_419 : decode cX17_enters 419 = .ok (.iload_n 3, 1) := by decide +kernel
theorem V.dX17_enters_420 : decode cX17_enters 420 = .ok (.iaload, 1) := by decide +kernel
theorem V.dX17_enters_421 : decode cX17_enters 421 = .ok (.putfield 1107, 3) := by decide +kernel
theorem V.dX17_enters_424 : decode cX17_enters 424 = .ok (.aload_n 0, 1) := by decide +kernel
theorem V.dX17_enters_425 : decode cX17_enters 425 = .ok (.aload_n 2, 1) := by decide +kernel
theorem V.dX17_enters_426 : decode cX17_enters 426 = .ok (.getfield 526, 3) := by decide +kernel
theorem V.dX17_enters_429 : decode cX17_enters 429 = .ok (.iload_n 3, 1) := by decide +kernel
theorem V.dX17_enters_430 : decode cX17_enters 430 = .ok (.iaload, 1) := by decide +kernel
theorem V.dX17_enters_431 : decode cX17_enters 431 = .ok (.aload_n 2, 1) := by decide +kernel
theorem V.dX17_enters_432 : decode cX17_enters 432 = .ok (.getfield 390, 3) := by decide +kernel
theorem V.dX17_enters_435 : decode cX17_enters 435 = .ok (.aload_n 0, 1) := by decide +kernel
theorem V.dX17_enters_436 : decode cX17_enters 436 = .ok (.getfield 71, 3) := by decide +kernel
theorem V.dX17_enters_439 : decode cX17_enters 439 = .ok (.iload_n 1, 1) := by decide +kernel
theorem V.dX17_enters_440 : decode cX17_enters 440 = .ok (.iaload, 1) := by decide +kernel
theorem V.dX17_enters_441 : decode cX17_enters 441 = .ok (.iaload, 1) := by decide +kernel
theorem V.dX17_enters_442 : decode cX17_enters 442 = .ok (.iconst 0, 1) := by decide +kernel
theorem V.dX17_enters_443 : decode cX17_enters 443 = .ok (.iconst 1, 1) := by decide +kernel
theorem V.dX17_enters_444 : decode cX17_enters 444 = .ok (.invokevirtual 1113, 3) := by decide +kernel
theorem V.dX17_enters_447 : decode cX17_enters 447 = .ok (.return_, 1) := by decide +kernel
theorem V.fdX17_1052 : FD RX17 1052 17 85 0 := ⟨(RX17, TX17, 101), tyX17, rfl, rfl, in_X17, by decide, Or.inl q3121, rfl⟩
theorem V.fdX17_179 : FD RX17 179 17 88 2 := ⟨(RX17, TX17, 101), tyX17, rfl, rfl, in_X17, by decide, Or.inl q3124, rfl⟩
theorem V.fdX17_182 : FD RX17 182 17 89 2 := ⟨(RX17, TX17, 101), tyX17, rfl, rfl, in_X17, by decide, Or.inl q3125, rfl⟩
theorem V.fpX17_1095 {nm : String} : FP RX17 nm 1095 17 80 (.int) := ⟨(RX17, TX17, 101), tyX17, rfl, rfl, in_X17, by decide, tyX17_ok, nmX17, rfl, Or.inl ⟨rfl, Or.inl q3116⟩⟩
theorem V.mdX17_1077 : MD RX17 1077 yX17_parametersIn cX17_parametersIn 2 (some .int) 1 := ⟨Or.inl q4115, q377, q4118, by decide, by decide, by decide +kernel⟩
theorem V.fpX17_1098 {nm : String} : FP RX17 nm 1098 17 83 (.int) := ⟨(RX17, TX17, 101), tyX17, rfl, rfl, in_X17, by decide, tyX17_ok, nmX17, rfl, Or.inl ⟨rfl, Or.inl q3119⟩⟩
theorem V.mdX17_1101 : MD RX17 1101 yX17_counts cX17_counts 2 none 1 := ⟨Or.inl q4123, q377, q4126, by decide, by decide, by decide +kernel⟩
theorem V.fdX17_185 : FD RX17 185 17 90 2 := ⟨(RX17, TX17, 101), tyX17, rfl, rfl, in_X17, by decide, Or.inl q3126, rfl⟩
theorem V.fdX17_173 : FD RX17 173 17 86 2 := ⟨(RX17, TX17, 101), tyX17, rfl, rfl, in_X17, by decide, Or.inl q3122, rfl⟩
theorem V.fdX17_176 : FD RX17 176 17 87 2 := ⟨(RX17, TX17, 101), tyX17, rfl, rfl, in_X17, by decide, Or.inl q3123, rfl⟩
theorem V.fdX17_1107 : FD RX17 1107 17 94 0 := ⟨(RX17, TX17, 101), tyX17, rfl, rfl, in_X17, by decide, Or.inl q3130, rfl⟩
theorem V.fdX17_188 : FD RX17 188 17 91 2 := ⟨(RX17, TX17, 101), tyX17, rfl, rfl, in_X17, by decide, Or.inl q3127, rfl⟩
theorem V.fpX17_1110 {nm : String} : FP RX17 nm 1110 17 95 (.int) := ⟨(RX17, TX17, 101), tyX17, rfl, rfl, in_X17, by decide, tyX17_ok, nmX17, rfl, Or.inl ⟨rfl, Or.inl q3131⟩⟩
theorem V.fpX17_1104 {nm : String} : FP RX17 nm 1104 17 93 (.int) := ⟨(RX17, TX17, 101), tyX17, rfl, rfl, in_X17, by decide, tyX17_ok, nmX17, rfl, Or.inl ⟨rfl, Or.inl q3129⟩⟩
theorem V.fdX17_191 : FD RX17 191 17 92 2 := ⟨(RX17, TX17, 101), tyX17, rfl, rfl, in_X17, by decide, Or.inl q3128, rfl⟩
theorem V.fdX17_170 : FD RX17 170 17 84 2 := ⟨(RX17, TX17, 101), tyX17, rfl, rfl, in_X17, by decide, Or.inl q3120, rfl⟩
theorem V.fpX17_1107 {nm : String} : FP RX17 nm 1107 17 94 (.int) := ⟨(RX17, TX17, 101), tyX17, rfl, rfl, in_X17, by decide, tyX17_ok, nmX17, rfl, Or.inl ⟨rfl, Or.inl q3130⟩⟩
theorem V.mdX17_1113 : MD RX17 1113 yX17_opens cX17_opens 5 none 4 := ⟨Or.inl q4127, q377, q4130, by decide, by decide, by decide +kernel⟩
/-! ModuleEngineModel.enters(I)V -/
def V.Mdl_enters_p141  (σ : HS) (x0 : Nat) : Option (Unit × HS) :=
  ck (tg σ x0 = 18) <| bn (sI σ x0 76 (4 : Int32)) fun σ1 =>
  some ((), σ1)
theorem V.gX17_enters_p141 {X : CX}  (σ : HS) (x0 : Nat) : G X RX17 "enters" cX17_enters 13 none 2 45 enV 141 [(0, av x0)] [] σ (Mdl_enters_p141 σ x0) := by
  unfold Mdl_enters_p141
  refine g_aload_n 0 0 dX17_enters_141 rfl rfl ?_
  refine g_iconst (v := 4) dX17_enters_142 (by decide) ?_
  refine g_putI fpX17_970 dX17_enters_143 (fun σ1 => ?_)
  exact g_return rfl dX17_enters_146
def V.Mdl_enters_p368 (rec322 : HS → Nat → Int32 → Nat → Int32 → Int64 → Option (Unit × HS)) : Nat → HS → Nat → Int32 → Nat → Int32 → Int64 → Int64 → Int64 → Option (Unit × HS)
  | 0, _, _, _, _, _, _, _, _ => none
  | n + 1, σ, x0, x1, x2, x3, x7, x9, x11 =>
    if x9 ≤ (0 : Int64) then (
      bn (x7 - (1 : Int64)) fun y1 =>
      rec322 σ x0 x1 x2 x3 y1)
    else (
      ck (tg σ x0 = 18) <|
      ck (tg σ x0 = 18) <|
      ck (tg σ (gR σ x0 92) = 101 ∧ inb (gI σ x0 93) (ln σ (gR σ x0 92))) <| bn (sJ σ (gR σ x0 92) (ix (gI σ x0 93)) x11) fun σ2 =>
      ck (tg σ2 x0 = 18) <|
      ck (tg σ2 x0 = 18) <| bn (sI σ2 x0 93 ((gI σ2 x0 93) + (1 : Int32))) fun σ3 =>
      bn (x9 - (1 : Int64)) fun y4 =>
      Mdl_enters_p368 rec322 n σ3 x0 x1 x2 x3 x7 y4 x11)
theorem V.gX17_enters_p368 {X : CX} (rec322 : HS → Nat → Int32 → Nat → Int32 → Int64 → Option (Unit × HS)) (hrec322 : ∀ (σ : HS) (x0 : Nat) (x1 : Int32) (x2 : Nat) (x3 : Int32) (x7 : Int64), G X RX17 "enters" cX17_enters 13 none 2 45 enV 322 [(0, av x0), (1, iv x1), (2, av x2), (3, iv x3), (7, jv x7)] [] σ (rec322 σ x0 x1 x2 x3 x7)) : ∀ (n : Nat) (σ : HS) (x0 : Nat) (x1 : Int32) (x2 : Nat) (x3 : Int32) (x7 : Int64) (x9 : Int64) (x11 : Int64), G X RX17 "enters" cX17_enters 13 none 2 45 enV 368 [(0, av x0), (1, iv x1), (2, av x2), (3, iv x3), (7, jv x7), (9, jv x9), (11, jv x11)] [] σ (Mdl_enters_p368 rec322 n σ x0 x1 x2 x3 x7 x9 x11)
  | 0, σ, x0, x1, x2, x3, x7, x9, x11 => by rw [Mdl_enters_p368]; exact G.nul
  | n + 1, σ, x0, x1, x2, x3, x7, x9, x11 => by
    rw [Mdl_enters_p368]
    refine g_lload 5 dX17_enters_368 rfl ?_
    refine g_lconst (v := 0) dX17_enters_370 (by decide) ?_
    refine g_lcmp_le 405 dX17_enters_371 dX17_enters_372 (by decide) ?_ ?_
    · refine g_lload 4 dX17_enters_405 rfl ?_
      refine g_lconst (v := 1) dX17_enters_407 (by decide) ?_
      refine g_lsub dX17_enters_408 ?_
      refine g_nmJ (fun y1 => ?_)
      refine g_lstore dX17_enters_409 (by decide) rfl ?_
      refine g_goto 322 dX17_enters_411 (by decide) ?_
      refine G.sub [1, 2, 3, 4, 0] rfl ?_
      exact hrec322 _ _ _ _ _ _
    · refine g_aload_n 0 0 dX17_enters_375 rfl rfl ?_
      refine g_getR fdX17_191 dX17_enters_376 ?_
      refine g_aload_n 0 0 dX17_enters_379 rfl rfl ?_
      refine g_getI fdX17_1104 dX17_enters_380 ?_
      refine g_lload 6 dX17_enters_383 rfl ?_
      refine g_lastore dX17_enters_385 (fun σ2 => ?_)
      refine g_aload_n 0 0 dX17_enters_386 rfl rfl ?_
      refine g_dup dX17_enters_387 rfl ?_
      refine g_getI fdX17_1104 dX17_enters_388 ?_
      refine g_iconst (v := 1) dX17_enters_391 (by decide) ?_
      refine g_iadd dX17_enters_392 ?_
      refine g_putI fpX17_1104 dX17_enters_393 (fun σ3 => ?_)
      refine g_lload 5 dX17_enters_396 rfl ?_
      refine g_lconst (v := 1) dX17_enters_398 (by decide) ?_
      refine g_lsub dX17_enters_399 ?_
      refine g_nmJ (fun y4 => ?_)
      refine g_lstore dX17_enters_400 (by decide) rfl ?_
      refine g_goto 368 dX17_enters_402 (by decide) ?_
      refine G.sub [1, 2, 3, 4, 5, 0, 6] rfl ?_
      exact gX17_enters_p368 rec322 hrec322 n _ _ _ _ _ _ _ _
def V.Mdl_enters_p356 (rec322 : HS → Nat → Int32 → Nat → Int32 → Int64 → Option (Unit × HS)) (σ : HS) (x0 : Nat) (x1 : Int32) (x2 : Nat) (x3 : Int32) (x7 : Int64) (x9 : Int64) (s0 : Int64) : Option (Unit × HS) :=
  ck (tg σ x0 = 18) <|
  ck (tg σ x0 = 18) <| bn (sI σ x0 19 ((gI σ x0 19) + (1 : Int32))) fun σ1 =>
  Mdl_enters_p368 rec322 FU σ1 x0 x1 x2 x3 x7 x9 s0
theorem V.gX17_enters_p356 {X : CX} (rec322 : HS → Nat → Int32 → Nat → Int32 → Int64 → Option (Unit × HS)) (hrec322 : ∀ (σ : HS) (x0 : Nat) (x1 : Int32) (x2 : Nat) (x3 : Int32) (x7 : Int64), G X RX17 "enters" cX17_enters 13 none 2 45 enV 322 [(0, av x0), (1, iv x1), (2, av x2), (3, iv x3), (7, jv x7)] [] σ (rec322 σ x0 x1 x2 x3 x7)) (σ : HS) (x0 : Nat) (x1 : Int32) (x2 : Nat) (x3 : Int32) (x7 : Int64) (x9 : Int64) (s0 : Int64) : G X RX17 "enters" cX17_enters 13 none 2 45 enV 356 [(0, av x0), (1, iv x1), (2, av x2), (3, iv x3), (7, jv x7), (9, jv x9)] [jv s0] σ (Mdl_enters_p356 rec322 σ x0 x1 x2 x3 x7 x9 s0) := by
  unfold Mdl_enters_p356
  refine g_lstore dX17_enters_356 (by decide) rfl ?_
  refine g_aload_n 0 1 dX17_enters_358 rfl rfl ?_
  refine g_dup dX17_enters_359 rfl ?_
  refine g_getI fdX17_594 dX17_enters_360 ?_
  refine g_iconst (v := 1) dX17_enters_363 (by decide) ?_
  refine g_iadd dX17_enters_364 ?_
  refine g_putI fpX17_594 dX17_enters_365 (fun σ1 => ?_)
  refine G.sub [1, 2, 3, 4, 5, 6, 0] rfl ?_
  exact gX17_enters_p368 rec322 hrec322 FU _ _ _ _ _ _ _ _
def V.Mdl_enters_p322  : Nat → HS → Nat → Int32 → Nat → Int32 → Int64 → Option (Unit × HS)
  | 0, _, _, _, _, _, _ => none
  | n + 1, σ, x0, x1, x2, x3, x7 =>
    if x7 ≤ (0 : Int64) then (
      ck (tg σ x2 = 21) <|
      ck (tg σ (gR σ x2 53) = 100 ∧ inb x3 (ln σ (gR σ x2 53))) <|
      ck (tg σ x0 = 18) <| bn (sI σ x0 94 (gI σ (gR σ x2 53) (ix x3))) fun σ1 =>
      ck (tg σ1 x2 = 21) <|
      ck (tg σ1 (gR σ1 x2 54) = 100 ∧ inb x3 (ln σ1 (gR σ1 x2 54))) <|
      ck (tg σ1 x2 = 21) <|
      ck (tg σ1 x0 = 18) <|
      ck (tg σ1 (gR σ1 x0 38) = 100 ∧ inb x1 (ln σ1 (gR σ1 x0 38))) <|
      ck (tg σ1 (gR σ1 x2 6) = 100 ∧ inb (gI σ1 (gR σ1 x0 38) (ix x1)) (ln σ1 (gR σ1 x2 6))) <|
      ck (tg σ1 x0 = 18) <| cl (Mdl_opens σ1 x0 (gI σ1 (gR σ1 x2 54) (ix x3)) (gI σ1 (gR σ1 x2 6) (ix (gI σ1 (gR σ1 x0 38) (ix x1)))) (0 : Int32) (1 : Int32)) fun _ σ2 =>
      some ((), σ2))
    else (
      ck (tg σ x0 = 18) <| cl (Mdl_word σ x0 ) fun r4 σ3 =>
      ck (tg σ3 x0 = 18) <|
      ck (tg σ3 x2 = 21) <| cl (Pln_at σ3 x2 (gI σ3 x0 19)) fun r6 σ5 =>
      cl (Mdl_isReference σ5 r6) fun r8 σ7 =>
      if r8 = 0 then (
        Mdl_enters_p356 (Mdl_enters_p322 n) σ7 x0 x1 x2 x3 x7 r4 (0 : Int64))
      else (
        Mdl_enters_p356 (Mdl_enters_p322 n) σ7 x0 x1 x2 x3 x7 r4 (-1 : Int64)))
theorem V.gX17_enters_p322 {X : CX}  : ∀ (n : Nat) (σ : HS) (x0 : Nat) (x1 : Int32) (x2 : Nat) (x3 : Int32) (x7 : Int64), G X RX17 "enters" cX17_enters 13 none 2 45 enV 322 [(0, av x0), (1, iv x1), (2, av x2), (3, iv x3), (7, jv x7)] [] σ (Mdl_enters_p322 n σ x0 x1 x2 x3 x7)
  | 0, σ, x0, x1, x2, x3, x7 => by rw [Mdl_enters_p322]; exact G.nul
  | n + 1, σ, x0, x1, x2, x3, x7 => by
    rw [Mdl_enters_p322]
    refine g_lload 4 dX17_enters_322 rfl ?_
    refine g_lconst (v := 0) dX17_enters_324 (by decide) ?_
    refine g_lcmp_le 414 dX17_enters_325 dX17_enters_326 (by decide) ?_ ?_
    · refine g_aload_n 0 0 dX17_enters_414 rfl rfl ?_
      refine g_aload_n 2 2 dX17_enters_415 rfl rfl ?_
      refine g_getR fdX17_523 dX17_enters_416 ?_
      refine g_iload_n 3 3 dX17_enters_419 rfl rfl ?_
      refine g_iaload dX17_enters_420 ?_
      refine g_putI fpX17_1107 dX17_enters_421 (fun σ1 => ?_)
      refine g_aload_n 0 0 dX17_enters_424 rfl rfl ?_
      refine g_aload_n 2 2 dX17_enters_425 rfl rfl ?_
      refine g_getR fdX17_526 dX17_enters_426 ?_
      refine g_iload_n 3 3 dX17_enters_429 rfl rfl ?_
      refine g_iaload dX17_enters_430 ?_
      refine g_aload_n 2 2 dX17_enters_431 rfl rfl ?_
      refine g_getR fdX17_390 dX17_enters_432 ?_
      refine g_aload_n 0 0 dX17_enters_435 rfl rfl ?_
      refine g_getR fdX17_71 dX17_enters_436 ?_
      refine g_iload_n 1 1 dX17_enters_439 rfl rfl ?_
      refine g_iaload dX17_enters_440 ?_
      refine g_iaload dX17_enters_441 ?_
      refine g_iconst (v := 0) dX17_enters_442 (by decide) ?_
      refine g_iconst (v := 1) dX17_enters_443 (by decide) ?_
      refine g_callV (fc := fun sς => Mdl_opens sς x0 (gI σ1 (gR σ1 x2 54) (ix x3)) (gI σ1 (gR σ1 x2 6) (ix (gI σ1 (gR σ1 x0 38) (ix x1)))) (0 : Int32) (1 : Int32)) (ci := 17) (as := [iv (gI σ1 (gR σ1 x2 54) (ix x3)), iv (gI σ1 (gR σ1 x2 6) (ix (gI σ1 (gR σ1 x0 38) (ix x1)))), iv (0 : Int32), iv (1 : Int32)]) rfl rfl rfl q4129 qs318 mdX17_1113 (ctX17_opens x0 (gI σ1 (gR σ1 x2 54) (ix x3)) (gI σ1 (gR σ1 x2 6) (ix (gI σ1 (gR σ1 x0 38) (ix x1)))) (0 : Int32) (1 : Int32)) rfl (Nat.le_of_ble_eq_true rfl) (Nat.le_of_ble_eq_true rfl) (Nat.le_of_ble_eq_true rfl) pu_V dX17_enters_444 (fun _ σ2 => ?_)
      exact g_return rfl dX17_enters_447
    · refine g_aload_n 0 0 dX17_enters_329 rfl rfl ?_
      refine g_callV (fc := fun sς => Mdl_word sς x0 ) (ci := 17) (as := []) rfl rfl rfl q3813 qs250 mdX17_603 (ctX17_word x0 ) rfl (Nat.le_of_ble_eq_true rfl) (Nat.le_of_ble_eq_true rfl) (Nat.le_of_ble_eq_true rfl) pu_J dX17_enters_330 (fun r4 σ3 => ?_)
      refine g_lstore dX17_enters_333 (by decide) rfl ?_
      refine g_aload_n 2 3 dX17_enters_335 rfl rfl ?_
      refine g_aload_n 0 1 dX17_enters_336 rfl rfl ?_
      refine g_getI fdX17_594 dX17_enters_337 ?_
      refine g_callV (fc := fun sς => Pln_at sς x2 (gI σ3 x0 19)) (ci := 20) (as := [iv (gI σ3 x0 19)]) rfl rfl rfl q3609 q3610 mdX17_261 (ctX20_at x2 (gI σ3 x0 19)) rfl (Nat.le_of_ble_eq_true rfl) (Nat.le_of_ble_eq_true rfl) (Nat.le_of_ble_eq_true rfl) pu_I dX17_enters_340 (fun r6 σ5 => ?_)
      refine g_callS (fc := fun sς => Mdl_isReference sς r6) (as := [iv r6]) q3663 mdX17_270 (ctX17_isReference r6) rfl (Nat.le_of_ble_eq_true rfl) (Nat.le_of_ble_eq_true rfl) (Nat.le_of_ble_eq_true rfl) pu_I dX17_enters_343 (fun r8 σ7 => ?_)
      refine g_if_eq 355 dX17_enters_346 (by decide) ?_ ?_
      · refine g_lconst (v := 0) dX17_enters_355 (by decide) ?_
        refine G.sub [1, 2, 3, 4, 5, 0] rfl ?_
        exact gX17_enters_p356 (Mdl_enters_p322 n) (gX17_enters_p322 n) _ _ _ _ _ _ _ _
      · refine g_ldc2 q3673 dX17_enters_349 ?_
        refine g_goto 356 dX17_enters_352 (by decide) ?_
        refine G.sub [1, 2, 3, 4, 5, 0] rfl ?_
        exact gX17_enters_p356 (Mdl_enters_p322 n) (gX17_enters_p322 n) _ _ _ _ _ _ _ _
def V.Mdl_enters_p267  : Nat → HS → Nat → Int32 → Nat → Int32 → Int32 → Int32 → Int32 → Option (Unit × HS)
  | 0, _, _, _, _, _, _, _, _ => none
  | n + 1, σ, x0, x1, x2, x3, x4, x6, x7 =>
    if x4 ≤ x7 then (
      ck (tg σ x0 = 18) <| bn (sI σ x0 93 (x6 + x4)) fun σ1 =>
      ck (tg σ1 x2 = 21) <|
      ck (tg σ1 (gR σ1 x2 51) = 100 ∧ inb x3 (ln σ1 (gR σ1 x2 51))) <|
      ck (tg σ1 x0 = 18) <| bn (sI σ1 x0 19 (gI σ1 (gR σ1 x2 51) (ix x3))) fun σ2 =>
      ck (tg σ2 x0 = 18) <| cl (Mdl_word σ2 x0 ) fun r4 σ3 =>
      Mdl_enters_p322 FU σ3 x0 x1 x2 x3 r4)
    else (
      ck (tg σ x0 = 18) <|
      ck (tg σ x0 = 18) <|
      ck (tg σ (gR σ x0 84) = 101 ∧ inb x7 (ln σ (gR σ x0 84))) <|
      ck (tg σ (gR σ x0 92) = 101 ∧ inb (x6 + x7) (ln σ (gR σ x0 92))) <| bn (sJ σ (gR σ x0 92) (ix (x6 + x7)) (gJ σ (gR σ x0 84) (ix x7))) fun σ5 =>
      bn (x7 + (1 : Int32)) fun y6 =>
      Mdl_enters_p267 n σ5 x0 x1 x2 x3 x4 x6 y6)
theorem V.gX17_enters_p267 {X : CX}  : ∀ (n : Nat) (σ : HS) (x0 : Nat) (x1 : Int32) (x2 : Nat) (x3 : Int32) (x4 : Int32) (x6 : Int32) (x7 : Int32), G X RX17 "enters" cX17_enters 13 none 2 45 enV 267 [(0, av x0), (1, iv x1), (2, av x2), (3, iv x3), (4, iv x4), (6, iv x6), (7, iv x7)] [] σ (Mdl_enters_p267 n σ x0 x1 x2 x3 x4 x6 x7)
  | 0, σ, x0, x1, x2, x3, x4, x6, x7 => by rw [Mdl_enters_p267]; exact G.nul
  | n + 1, σ, x0, x1, x2, x3, x4, x6, x7 => by
    rw [Mdl_enters_p267]
    refine g_iload 6 dX17_enters_267 rfl ?_
    refine g_iload 4 dX17_enters_269 rfl ?_
    refine g_icmp_ge 297 dX17_enters_271 (by decide) ?_ ?_
    · refine g_aload_n 0 0 dX17_enters_297 rfl rfl ?_
      refine g_iload 5 dX17_enters_298 rfl ?_
      refine g_iload 4 dX17_enters_300 rfl ?_
      refine g_iadd dX17_enters_302 ?_
      refine g_putI fpX17_1104 dX17_enters_303 (fun σ1 => ?_)
      refine g_aload_n 0 0 dX17_enters_306 rfl rfl ?_
      refine g_aload_n 2 2 dX17_enters_307 rfl rfl ?_
      refine g_getR fdX17_517 dX17_enters_308 ?_
      refine g_iload_n 3 3 dX17_enters_311 rfl rfl ?_
      refine g_iaload dX17_enters_312 ?_
      refine g_putI fpX17_594 dX17_enters_313 (fun σ2 => ?_)
      refine g_aload_n 0 0 dX17_enters_316 rfl rfl ?_
      refine g_callV (fc := fun sς => Mdl_word sς x0 ) (ci := 17) (as := []) rfl rfl rfl q3813 qs250 mdX17_603 (ctX17_word x0 ) rfl (Nat.le_of_ble_eq_true rfl) (Nat.le_of_ble_eq_true rfl) (Nat.le_of_ble_eq_true rfl) pu_J dX17_enters_317 (fun r4 σ3 => ?_)
      refine g_lstore dX17_enters_320 (by decide) rfl ?_
      refine G.sub [1, 2, 3, 4, 0] rfl ?_
      exact gX17_enters_p322 FU _ _ _ _ _ _
    · refine g_aload_n 0 0 dX17_enters_274 rfl rfl ?_
      refine g_getR fdX17_191 dX17_enters_275 ?_
      refine g_iload 5 dX17_enters_278 rfl ?_
      refine g_iload 6 dX17_enters_280 rfl ?_
      refine g_iadd dX17_enters_282 ?_
      refine g_aload_n 0 0 dX17_enters_283 rfl rfl ?_
      refine g_getR fdX17_170 dX17_enters_284 ?_
      refine g_iload 6 dX17_enters_287 rfl ?_
      refine g_laload dX17_enters_289 ?_
      refine g_lastore dX17_enters_290 (fun σ5 => ?_)
      refine g_iincB (w := 1) 6 dX17_enters_291 rfl (by decide) (by decide) (fun _ => rfl) (fun y6 => ?_)
      refine g_goto 267 dX17_enters_294 (by decide) ?_
      refine G.sub [1, 2, 3, 4, 5, 6, 0] rfl ?_
      exact gX17_enters_p267 n _ _ _ _ _ _ _ _
def V.Mdl_enters_p174  (σ : HS) (x0 : Nat) (x1 : Int32) (x2 : Nat) (x3 : Int32) (x4 : Int32) (x5 : Int32) (x6 : Int32) : Option (Unit × HS) :=
  ck (tg σ x0 = 18) <|
  ck (tg σ x0 = 18) <|
  ck (tg σ (gR σ x0 86) = 100 ∧ inb (gI σ x0 85) (ln σ (gR σ x0 86))) <| bn (sI σ (gR σ x0 86) (ix (gI σ x0 85)) x1) fun σ1 =>
  ck (tg σ1 x0 = 18) <|
  ck (tg σ1 x0 = 18) <|
  ck (tg σ1 x0 = 18) <|
  ck (tg σ1 (gR σ1 x0 87) = 100 ∧ inb (gI σ1 x0 85) (ln σ1 (gR σ1 x0 87))) <| bn (sI σ1 (gR σ1 x0 87) (ix (gI σ1 x0 85)) (gI σ1 x0 94)) fun σ2 =>
  ck (tg σ2 x0 = 18) <|
  ck (tg σ2 x0 = 18) <|
  ck (tg σ2 (gR σ2 x0 88) = 100 ∧ inb (gI σ2 x0 85) (ln σ2 (gR σ2 x0 88))) <| bn (sI σ2 (gR σ2 x0 88) (ix (gI σ2 x0 85)) x6) fun σ3 =>
  ck (tg σ3 x0 = 18) <|
  ck (tg σ3 x0 = 18) <|
  ck (tg σ3 x2 = 21) <|
  ck (tg σ3 (gR σ3 x2 55) = 100 ∧ inb x3 (ln σ3 (gR σ3 x2 55))) <|
  ck (tg σ3 (gR σ3 x0 89) = 100 ∧ inb (gI σ3 x0 85) (ln σ3 (gR σ3 x0 89))) <| bn (sI σ3 (gR σ3 x0 89) (ix (gI σ3 x0 85)) (x5 + (gI σ3 (gR σ3 x2 55) (ix x3)))) fun σ4 =>
  ck (tg σ4 x0 = 18) <|
  ck (tg σ4 x0 = 18) <|
  ck (tg σ4 x0 = 18) <|
  ck (tg σ4 (gR σ4 x0 91) = 100 ∧ inb (gI σ4 x0 85) (ln σ4 (gR σ4 x0 91))) <| bn (sI σ4 (gR σ4 x0 91) (ix (gI σ4 x0 85)) (gI σ4 x0 96)) fun σ5 =>
  ck (tg σ5 x0 = 18) <|
  ck (tg σ5 x0 = 18) <| bn (sI σ5 x0 85 ((gI σ5 x0 85) + (1 : Int32))) fun σ6 =>
  ck (tg σ6 x0 = 18) <| bn (sR σ6 x0 10 x2) fun σ7 =>
  ck (tg σ7 x0 = 18) <|
  ck (tg σ7 (gR σ7 x0 39) = 100 ∧ inb x1 (ln σ7 (gR σ7 x0 39))) <|
  ck (tg σ7 x0 = 18) <| bn (sI σ7 x0 95 (gI σ7 (gR σ7 x0 39) (ix x1))) fun σ8 =>
  Mdl_enters_p267 FU σ8 x0 x1 x2 x3 x4 x6 (0 : Int32)
theorem V.gX17_enters_p174 {X : CX}  (σ : HS) (x0 : Nat) (x1 : Int32) (x2 : Nat) (x3 : Int32) (x4 : Int32) (x5 : Int32) (x6 : Int32) : G X RX17 "enters" cX17_enters 13 none 2 45 enV 174 [(0, av x0), (1, iv x1), (2, av x2), (3, iv x3), (4, iv x4), (5, iv x5), (6, iv x6)] [] σ (Mdl_enters_p174 σ x0 x1 x2 x3 x4 x5 x6) := by
  unfold Mdl_enters_p174
  refine g_aload_n 0 0 dX17_enters_174 rfl rfl ?_
  refine g_getR fdX17_173 dX17_enters_175 ?_
  refine g_aload_n 0 0 dX17_enters_178 rfl rfl ?_
  refine g_getI fdX17_1052 dX17_enters_179 ?_
  refine g_iload_n 1 1 dX17_enters_182 rfl rfl ?_
  refine g_iastore dX17_enters_183 (fun σ1 => ?_)
  refine g_aload_n 0 0 dX17_enters_184 rfl rfl ?_
  refine g_getR fdX17_176 dX17_enters_185 ?_
  refine g_aload_n 0 0 dX17_enters_188 rfl rfl ?_
  refine g_getI fdX17_1052 dX17_enters_189 ?_
  refine g_aload_n 0 0 dX17_enters_192 rfl rfl ?_
  refine g_getI fdX17_1107 dX17_enters_193 ?_
  refine g_iastore dX17_enters_196 (fun σ2 => ?_)
  refine g_aload_n 0 0 dX17_enters_197 rfl rfl ?_
  refine g_getR fdX17_179 dX17_enters_198 ?_
  refine g_aload_n 0 0 dX17_enters_201 rfl rfl ?_
  refine g_getI fdX17_1052 dX17_enters_202 ?_
  refine g_iload 6 dX17_enters_205 rfl ?_
  refine g_iastore dX17_enters_207 (fun σ3 => ?_)
  refine g_aload_n 0 0 dX17_enters_208 rfl rfl ?_
  refine g_getR fdX17_182 dX17_enters_209 ?_
  refine g_aload_n 0 0 dX17_enters_212 rfl rfl ?_
  refine g_getI fdX17_1052 dX17_enters_213 ?_
  refine g_iload 5 dX17_enters_216 rfl ?_
  refine g_aload_n 2 2 dX17_enters_218 rfl rfl ?_
  refine g_getR fdX17_726 dX17_enters_219 ?_
  refine g_iload_n 3 3 dX17_enters_222 rfl rfl ?_
  refine g_iaload dX17_enters_223 ?_
  refine g_iadd dX17_enters_224 ?_
  refine g_iastore dX17_enters_225 (fun σ4 => ?_)
  refine g_aload_n 0 0 dX17_enters_226 rfl rfl ?_
  refine g_getR fdX17_188 dX17_enters_227 ?_
  refine g_aload_n 0 0 dX17_enters_230 rfl rfl ?_
  refine g_getI fdX17_1052 dX17_enters_231 ?_
  refine g_aload_n 0 0 dX17_enters_234 rfl rfl ?_
  refine g_getI fdX17_1086 dX17_enters_235 ?_
  refine g_iastore dX17_enters_238 (fun σ5 => ?_)
  refine g_aload_n 0 0 dX17_enters_239 rfl rfl ?_
  refine g_dup dX17_enters_240 rfl ?_
  refine g_getI fdX17_1052 dX17_enters_241 ?_
  refine g_iconst (v := 1) dX17_enters_244 (by decide) ?_
  refine g_iadd dX17_enters_245 ?_
  refine g_putI fpX17_1052 dX17_enters_246 (fun σ6 => ?_)
  refine g_aload_n 0 0 dX17_enters_249 rfl rfl ?_
  refine g_aload_n 2 2 dX17_enters_250 rfl rfl ?_
  refine g_putR fpX17_221 rfl dX17_enters_251 (fun σ7 => ?_)
  refine g_aload_n 0 0 dX17_enters_254 rfl rfl ?_
  refine g_aload_n 0 0 dX17_enters_255 rfl rfl ?_
  refine g_getR fdX17_74 dX17_enters_256 ?_
  refine g_iload_n 1 1 dX17_enters_259 rfl rfl ?_
  refine g_iaload dX17_enters_260 ?_
  refine g_putI fpX17_1110 dX17_enters_261 (fun σ8 => ?_)
  refine g_iconst (v := 0) dX17_enters_264 (by decide) ?_
  refine g_istore dX17_enters_265 (by decide) rfl ?_
  refine G.sub [1, 2, 3, 4, 5, 7, 0] rfl ?_
  exact gX17_enters_p267 FU _ _ _ _ _ _ _ _
def V.Mdl_enters_p111  (σ : HS) (x0 : Nat) (x1 : Int32) (x2 : Nat) (x3 : Int32) (x4 : Int32) (x5 : Int32) (s0 : Int32) : Option (Unit × HS) :=
  ck (tg σ x0 = 18) <|
  if (gI σ x0 85) = (200 : Int32) then (
    Mdl_enters_p141 σ x0)
  else (
    ck (tg σ x2 = 21) <|
    ck (tg σ (gR σ x2 55) = 100 ∧ inb x3 (ln σ (gR σ x2 55))) <|
    if ((s0 + x5) + (gI σ (gR σ x2 55) (ix x3))) ≤ (4096 : Int32) then (
      ck (tg σ x0 = 18) <| cl (Mdl_counts σ x0 x1) fun _ σ1 =>
      ck (tg σ1 x0 = 18) <|
      if (gI σ1 x0 85) ≤ 0 then (
        Mdl_enters_p174 σ1 x0 x1 x2 x3 x4 x5 s0)
      else (
        ck (tg σ1 x0 = 18) <|
        ck (tg σ1 x0 = 18) <|
        ck (tg σ1 x0 = 18) <|
        ck (tg σ1 (gR σ1 x0 90) = 100 ∧ inb ((gI σ1 x0 85) - (1 : Int32)) (ln σ1 (gR σ1 x0 90))) <| bn (sI σ1 (gR σ1 x0 90) (ix ((gI σ1 x0 85) - (1 : Int32))) (gI σ1 x0 93)) fun σ2 =>
        Mdl_enters_p174 σ2 x0 x1 x2 x3 x4 x5 s0))
    else (
      Mdl_enters_p141 σ x0))
theorem V.gX17_enters_p111 {X : CX}  (σ : HS) (x0 : Nat) (x1 : Int32) (x2 : Nat) (x3 : Int32) (x4 : Int32) (x5 : Int32) (s0 : Int32) : G X RX17 "enters" cX17_enters 13 none 2 45 enV 111 [(0, av x0), (1, iv x1), (2, av x2), (3, iv x3), (4, iv x4), (5, iv x5)] [iv s0] σ (Mdl_enters_p111 σ x0 x1 x2 x3 x4 x5 s0) := by
  unfold Mdl_enters_p111
  refine g_istore dX17_enters_111 (by decide) rfl ?_
  refine g_aload_n 0 1 dX17_enters_113 rfl rfl ?_
  refine g_getI fdX17_1052 dX17_enters_114 ?_
  refine g_sipush (v := 200) dX17_enters_117 (by decide) ?_
  refine g_icmp_eq 141 dX17_enters_120 (by decide) ?_ ?_
  · refine G.sub [1] rfl ?_
    exact gX17_enters_p141 _ _
  · refine g_iload 0 dX17_enters_123 rfl ?_
    refine g_iload 6 dX17_enters_125 rfl ?_
    refine g_iadd dX17_enters_127 ?_
    refine g_aload_n 2 3 dX17_enters_128 rfl rfl ?_
    refine g_getR fdX17_726 dX17_enters_129 ?_
    refine g_iload_n 3 4 dX17_enters_132 rfl rfl ?_
    refine g_iaload dX17_enters_133 ?_
    refine g_iadd dX17_enters_134 ?_
    refine g_sipush (v := 4096) dX17_enters_135 (by decide) ?_
    refine g_icmp_le 147 dX17_enters_138 (by decide) ?_ ?_
    · refine g_aload_n 0 1 dX17_enters_147 rfl rfl ?_
      refine g_iload_n 1 2 dX17_enters_148 rfl rfl ?_
      refine g_callV (fc := fun sς => Mdl_counts sς x0 x1) (ci := 17) (as := [iv x1]) rfl rfl rfl q4125 qs317 mdX17_1101 (ctX17_counts x0 x1) rfl (Nat.le_of_ble_eq_true rfl) (Nat.le_of_ble_eq_true rfl) (Nat.le_of_ble_eq_true rfl) pu_V dX17_enters_149 (fun _ σ1 => ?_)
      refine g_aload_n 0 1 dX17_enters_152 rfl rfl ?_
      refine g_getI fdX17_1052 dX17_enters_153 ?_
      refine g_if_le 174 dX17_enters_156 (by decide) ?_ ?_
      · refine G.sub [1, 2, 3, 4, 5, 6, 0] rfl ?_
        exact gX17_enters_p174 _ _ _ _ _ _ _ _
      · refine g_aload_n 0 1 dX17_enters_159 rfl rfl ?_
        refine g_getR fdX17_185 dX17_enters_160 ?_
        refine g_aload_n 0 1 dX17_enters_163 rfl rfl ?_
        refine g_getI fdX17_1052 dX17_enters_164 ?_
        refine g_iconst (v := 1) dX17_enters_167 (by decide) ?_
        refine g_isub dX17_enters_168 ?_
        refine g_aload_n 0 1 dX17_enters_169 rfl rfl ?_
        refine g_getI fdX17_1104 dX17_enters_170 ?_
        refine g_iastore dX17_enters_173 (fun σ2 => ?_)
        refine G.sub [1, 2, 3, 4, 5, 6, 0] rfl ?_
        exact gX17_enters_p174 _ _ _ _ _ _ _ _
    · refine G.sub [1] rfl ?_
      exact gX17_enters_p141 _ _
def V.Mdl_enters (σ : HS) (x0 : Nat) (x1 : Int32) : Option (Unit × HS) :=
  ck (tg σ x0 = 18) <|
  ck (tg σ (gR σ x0 41) = 100 ∧ inb x1 (ln σ (gR σ x0 41))) <|
  if (gI σ (gR σ x0 41) (ix x1)) < 0 then (
    ck (tg σ x0 = 18) <| cl (Mdl_planOf σ x0 x1) fun r2 σ1 =>
    ck (tg σ1 x0 = 18) <|
    ck (tg σ1 (gR σ1 x0 40) = 100 ∧ inb x1 (ln σ1 (gR σ1 x0 40))) <|
    bn (gI σ1 (gR σ1 x0 40) (ix x1)) fun y3 =>
    ck (tg σ1 r2 = 21) <|
    ck (tg σ1 x0 = 18) <|
    ck (tg σ1 (gR σ1 x0 38) = 100 ∧ inb x1 (ln σ1 (gR σ1 x0 38))) <|
    ck (tg σ1 (gR σ1 r2 5) = 100 ∧ inb (gI σ1 (gR σ1 x0 38) (ix x1)) (ln σ1 (gR σ1 r2 5))) <|
    bn (gI σ1 (gR σ1 r2 5) (ix (gI σ1 (gR σ1 x0 38) (ix x1)))) fun y4 =>
    ck (tg σ1 r2 = 21) <|
    ck (tg σ1 (gR σ1 r2 52) = 101 ∧ inb y3 (ln σ1 (gR σ1 r2 52))) <|
    bn (y4 + ((gJ σ1 (gR σ1 r2 52) (ix y3)).toInt32)) fun y5 =>
    ck (tg σ1 x0 = 18) <|
    if (gI σ1 x0 85) = 0 then (
      Mdl_enters_p111 σ1 x0 x1 r2 y3 y4 y5 (0 : Int32))
    else (
      ck (tg σ1 x0 = 18) <|
      ck (tg σ1 x0 = 18) <|
      ck (tg σ1 (gR σ1 x0 88) = 100 ∧ inb ((gI σ1 x0 85) - (1 : Int32)) (ln σ1 (gR σ1 x0 88))) <|
      ck (tg σ1 x0 = 18) <|
      ck (tg σ1 x0 = 18) <|
      ck (tg σ1 (gR σ1 x0 89) = 100 ∧ inb ((gI σ1 x0 85) - (1 : Int32)) (ln σ1 (gR σ1 x0 89))) <|
      Mdl_enters_p111 σ1 x0 x1 r2 y3 y4 y5 ((gI σ1 (gR σ1 x0 88) (ix ((gI σ1 x0 85) - (1 : Int32)))) + (gI σ1 (gR σ1 x0 89) (ix ((gI σ1 x0 85) - (1 : Int32)))))))
  else (
    ck (tg σ x0 = 18) <| bn (sI σ x0 76 (5 : Int32)) fun σ6 =>
    ck (tg σ6 x0 = 18) <|
    ck (tg σ6 (gR σ6 x0 41) = 100 ∧ inb x1 (ln σ6 (gR σ6 x0 41))) <|
    ck (tg σ6 x0 = 18) <| bn (sI σ6 x0 79 (gI σ6 (gR σ6 x0 41) (ix x1))) fun σ7 =>
    ck (tg σ7 x0 = 18) <| bn (sI σ7 x0 80 x1) fun σ8 =>
    ck (tg σ8 x0 = 18) <| cl (Mdl_parametersIn σ8 x0 x1) fun r10 σ9 =>
    ck (tg σ9 x0 = 18) <| bn (sI σ9 x0 83 r10) fun σ11 =>
    some ((), σ11))
theorem V.ctX17_enters (x0 : Nat) (x1 : Int32) : Ct yX17_enters  cX17_enters 13 none 2 45 eV [av x0, iv x1] (fun σ => Mdl_enters σ x0 x1) := by
  refine Ct.of (own := RX17) (nm := "enters") (desc := "(I)V") rfl (by decide) (Nat.le_of_ble_eq_true rfl) (by decide) (fun X σ => ?_)
  show G X RX17 "enters" cX17_enters 13 none 2 45 enV 0 [(0, av x0), (1, iv x1)] [] σ (Mdl_enters σ x0 x1)
  unfold Mdl_enters
  refine g_aload_n 0 0 dX17_enters_0 rfl rfl ?_
  refine g_getR fdX17_80 dX17_enters_1 ?_
  refine g_iload_n 1 1 dX17_enters_4 rfl rfl ?_
  refine g_iaload dX17_enters_5 ?_
  refine g_if_lt 39 dX17_enters_6 (by decide) ?_ ?_
  · refine g_aload_n 0 0 dX17_enters_39 rfl rfl ?_
    refine g_iload_n 1 1 dX17_enters_40 rfl rfl ?_
    refine g_callV (fc := fun sς => Mdl_planOf sς x0 x1) (ci := 17) (as := [iv x1]) rfl rfl rfl q4121 qs316 mdX17_1065 (ctX17_planOf x0 x1) rfl (Nat.le_of_ble_eq_true rfl) (Nat.le_of_ble_eq_true rfl) (Nat.le_of_ble_eq_true rfl) pu_R dX17_enters_41 (fun r2 σ1 => ?_)
    refine g_astore_n 2 dX17_enters_44 rfl (by decide) rfl ?_
    refine g_aload_n 0 1 dX17_enters_45 rfl rfl ?_
    refine g_getR fdX17_77 dX17_enters_46 ?_
    refine g_iload_n 1 2 dX17_enters_49 rfl rfl ?_
    refine g_iaload dX17_enters_50 ?_
    refine g_nmI (fun y3 => ?_)
    refine g_istore_n 3 dX17_enters_51 rfl (by decide) rfl ?_
    refine g_aload_n 2 1 dX17_enters_52 rfl rfl ?_
    refine g_getR fdX17_387 dX17_enters_53 ?_
    refine g_aload_n 0 2 dX17_enters_56 rfl rfl ?_
    refine g_getR fdX17_71 dX17_enters_57 ?_
    refine g_iload_n 1 3 dX17_enters_60 rfl rfl ?_
    refine g_iaload dX17_enters_61 ?_
    refine g_iaload dX17_enters_62 ?_
    refine g_nmI (fun y4 => ?_)
    refine g_istore dX17_enters_63 (by decide) rfl ?_
    refine g_iload 0 dX17_enters_65 rfl ?_
    refine g_aload_n 2 2 dX17_enters_67 rfl rfl ?_
    refine g_getR fdX17_520 dX17_enters_68 ?_
    refine g_iload_n 3 1 dX17_enters_71 rfl rfl ?_
    refine g_laload dX17_enters_72 ?_
    refine g_l2i dX17_enters_73 ?_
    refine g_iadd dX17_enters_74 ?_
    refine g_nmI (fun y5 => ?_)
    refine g_istore dX17_enters_75 (by decide) rfl ?_
    refine g_aload_n 0 4 dX17_enters_77 rfl rfl ?_
    refine g_getI fdX17_1052 dX17_enters_78 ?_
    refine g_if_ne 88 dX17_enters_81 (by decide) ?_ ?_
    · refine g_aload_n 0 4 dX17_enters_88 rfl rfl ?_
      refine g_getR fdX17_179 dX17_enters_89 ?_
      refine g_aload_n 0 4 dX17_enters_92 rfl rfl ?_
      refine g_getI fdX17_1052 dX17_enters_93 ?_
      refine g_iconst (v := 1) dX17_enters_96 (by decide) ?_
      refine g_isub dX17_enters_97 ?_
      refine g_iaload dX17_enters_98 ?_
      refine g_aload_n 0 4 dX17_enters_99 rfl rfl ?_
      refine g_getR fdX17_182 dX17_enters_100 ?_
      refine g_aload_n 0 4 dX17_enters_103 rfl rfl ?_
      refine g_getI fdX17_1052 dX17_enters_104 ?_
      refine g_iconst (v := 1) dX17_enters_107 (by decide) ?_
      refine g_isub dX17_enters_108 ?_
      refine g_iaload dX17_enters_109 ?_
      refine g_iadd dX17_enters_110 ?_
      refine G.sub [4, 5, 3, 2, 1, 0] rfl ?_
      exact gX17_enters_p111 _ _ _ _ _ _ _ _
    · refine g_iconst (v := 0) dX17_enters_84 (by decide) ?_
      refine g_goto 111 dX17_enters_85 (by decide) ?_
      refine G.sub [4, 5, 3, 2, 1, 0] rfl ?_
      exact gX17_enters_p111 _ _ _ _ _ _ _ _
  · refine g_aload_n 0 0 dX17_enters_9 rfl rfl ?_
    refine g_iconst (v := 5) dX17_enters_10 (by decide) ?_
    refine g_putI fpX17_970 dX17_enters_11 (fun σ6 => ?_)
    refine g_aload_n 0 0 dX17_enters_14 rfl rfl ?_
    refine g_aload_n 0 0 dX17_enters_15 rfl rfl ?_
    refine g_getR fdX17_80 dX17_enters_16 ?_
    refine g_iload_n 1 1 dX17_enters_19 rfl rfl ?_
    refine g_iaload dX17_enters_20 ?_
    refine g_putI fpX17_164 dX17_enters_21 (fun σ7 => ?_)
    refine g_aload_n 0 0 dX17_enters_24 rfl rfl ?_
    refine g_iload_n 1 1 dX17_enters_25 rfl rfl ?_
    refine g_putI fpX17_1095 dX17_enters_26 (fun σ8 => ?_)
    refine g_aload_n 0 0 dX17_enters_29 rfl rfl ?_
    refine g_aload_n 0 0 dX17_enters_30 rfl rfl ?_
    refine g_iload_n 1 1 dX17_enters_31 rfl rfl ?_
    refine g_callV (fc := fun sς => Mdl_parametersIn sς x0 x1) (ci := 17) (as := [iv x1]) rfl rfl rfl q4117 qs315 mdX17_1077 (ctX17_parametersIn x0 x1) rfl (Nat.le_of_ble_eq_true rfl) (Nat.le_of_ble_eq_true rfl) (Nat.le_of_ble_eq_true rfl) pu_I dX17_enters_32 (fun r10 σ9 => ?_)
    refine g_putI fpX17_1098 dX17_enters_35 (fun σ11 => ?_)
    exact g_return rfl dX17_enters_38
