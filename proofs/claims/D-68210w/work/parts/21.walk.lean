set_option maxRecDepth 100000
theorem V.dX4_init_0 : decode cX4_init 0 = .ok (.aload_n 0, 1) := by decide +kernel
theorem V.dX4_init_1 : decode cX4_init 1 = .ok (.invokespecial 1, 3) := by decide +kernel
theorem V.dX4_init_4 : decode cX4_init 4 = .ok (.aload_n 0, 1) := by decide +kernel
theorem V.dX4_init_5 : decode cX4_init 5 = .ok (.new 7, 3) := by decide +kernel
theorem V.dX4_init_8 : decode cX4_init 8 = .ok (.dup, 1) := by decide +kernel
theorem V.dX4_init_9 : decode cX4_init 9 = .ok (.bipush 32, 2) := by decide +kernel
theorem V.dX4_init_11 : decode cX4_init 11 = .ok (.bipush 24, 2) := by decide +kernel
theorem V.dX4_init_13 : decode cX4_init 13 = .ok (.bipush 127, 2) := by decide +kernel
theorem V.dX4_init_15 : decode cX4_init 15 = .ok (.invokespecial 9, 3) := by decide +kernel
theorem V.dX4_init_18 : decode cX4_init 18 = .ok (.putfield 12, 3) := by decide +kernel
theorem V.dX4_init_21 : decode cX4_init 21 = .ok (.aload_n 0, 1) := by decide +kernel
theorem V.dX4_init_22 : decode cX4_init 22 = .ok (.new 7, 3) := by decide +kernel
theorem V.dX4_init_25 : decode cX4_init 25 = .ok (.dup, 1) := by decide +kernel
theorem V.dX4_init_26 : decode cX4_init 26 = .ok (.bipush 64, 2) := by decide +kernel
theorem V.dX4_init_28 : decode cX4_init 28 = .ok (.bipush 53, 2) := by decide +kernel
theorem V.dX4_init_30 : decode cX4_init 30 = .ok (.sipush 1023, 3) := by decide +kernel
theorem V.dX4_init_33 : decode cX4_init 33 = .ok (.invokespecial 9, 3) := by decide +kernel
theorem V.dX4_init_36 : decode cX4_init 36 = .ok (.putfield 18, 3) := by decide +kernel
theorem V.dX4_init_39 : decode cX4_init 39 = .ok (.return_, 1) := by decide +kernel
theorem V.ndX4_7 : ND RX4 7 5 6 := ⟨(RX5, TX5, 6), tyX5, rfl, rfl, in_X5, tyX5_ok, by decide, q577, q578, q365⟩
theorem V.mdX4_9 : MD RX4 9 yX5_init cX5_init 4 none 3 := ⟨Or.inl q579, q365, q581, by decide, by decide, by decide +kernel⟩
theorem V.fpX4_12 : FP RX4 "<init>" 12 4 0 (.object "ModuleEngine$Numbers$Format") := ⟨(RX4, TX4, 4), tyX4, rfl, rfl, in_X4, by decide, tyX4_ok, nmX4, rfl, Or.inr ⟨rfl, rfl, rfl, q606⟩⟩
theorem V.fpX4_18 : FP RX4 "<init>" 18 4 1 (.object "ModuleEngine$Numbers$Format") := ⟨(RX4, TX4, 4), tyX4, rfl, rfl, in_X4, by decide, tyX4_ok, nmX4, rfl, Or.inr ⟨rfl, rfl, rfl, q607⟩⟩
/-! ModuleEngine$Numbers.<init>()V -/
def V.Num_init (σ : HS) (x0 : Nat) : Option (Unit × HS) :=
  ck (¬ x0 = 0) <|
  newo σ 6 6 fun a1 σ2 =>
  ck (¬ a1 = 0) <| cl (Fmt_init σ2 a1 (32 : Int32) (24 : Int32) (127 : Int32)) fun _ σ3 =>
  ck (tg σ3 x0 = 5) <| bn (sR σ3 x0 0 a1) fun σ4 =>
  newo σ4 6 6 fun a5 σ6 =>
  ck (¬ a5 = 0) <| cl (Fmt_init σ6 a5 (64 : Int32) (53 : Int32) (1023 : Int32)) fun _ σ7 =>
  ck (tg σ7 x0 = 5) <| bn (sR σ7 x0 1 a5) fun σ8 =>
  some ((), σ8)
theorem V.ctX4_init (x0 : Nat) : Ct yX4_init  cX4_init 1 none 2 47 eV [av x0] (fun σ => Num_init σ x0) := by
  refine Ct.of (own := RX4) (nm := "<init>") (desc := "()V") rfl (by decide) (Nat.le_of_ble_eq_true rfl) (by decide) (fun X σ => ?_)
  show G X RX4 "<init>" cX4_init 1 none 2 47 enV 0 [(0, av x0)] [] σ (Num_init σ x0)
  unfold Num_init
  refine g_aload_n 0 0 dX4_init_0 rfl rfl ?_
  refine g_objInit q576 (Nat.le_of_ble_eq_true rfl) (Nat.le_of_ble_eq_true rfl) dX4_init_1 ?_
  refine g_aload_n 0 0 dX4_init_4 rfl rfl ?_
  refine g_newo ndX4_7 dX4_init_5 (fun a1 σ2 => ?_)
  refine g_dup dX4_init_8 rfl ?_
  refine g_bipush (v := 32) dX4_init_9 (by decide) ?_
  refine g_bipush (v := 24) dX4_init_11 (by decide) ?_
  refine g_bipush (v := 127) dX4_init_13 (by decide) ?_
  refine g_callI (fc := fun sς => Fmt_init sς a1 (32 : Int32) (24 : Int32) (127 : Int32)) (as := [iv (32 : Int32), iv (24 : Int32), iv (127 : Int32)]) rfl q580 mdX4_9 (ctX5_init a1 (32 : Int32) (24 : Int32) (127 : Int32)) rfl (Nat.le_of_ble_eq_true rfl) (Nat.le_of_ble_eq_true rfl) (Nat.le_of_ble_eq_true rfl) pu_V dX4_init_15 (fun _ σ3 => ?_)
  refine g_putR fpX4_12 rfl dX4_init_18 (fun σ4 => ?_)
  refine g_aload_n 0 0 dX4_init_21 rfl rfl ?_
  refine g_newo ndX4_7 dX4_init_22 (fun a5 σ6 => ?_)
  refine g_dup dX4_init_25 rfl ?_
  refine g_bipush (v := 64) dX4_init_26 (by decide) ?_
  refine g_bipush (v := 53) dX4_init_28 (by decide) ?_
  refine g_sipush (v := 1023) dX4_init_30 (by decide) ?_
  refine g_callI (fc := fun sς => Fmt_init sς a5 (64 : Int32) (53 : Int32) (1023 : Int32)) (as := [iv (64 : Int32), iv (53 : Int32), iv (1023 : Int32)]) rfl q580 mdX4_9 (ctX5_init a5 (64 : Int32) (53 : Int32) (1023 : Int32)) rfl (Nat.le_of_ble_eq_true rfl) (Nat.le_of_ble_eq_true rfl) (Nat.le_of_ble_eq_true rfl) pu_V dX4_init_33 (fun _ σ7 => ?_)
  refine g_putR fpX4_18 rfl dX4_init_36 (fun σ8 => ?_)
  exact g_return rfl dX4_init_39
theorem V.dX4_operands_0 : decode cX4_operands 0 = .ok (.iload_n 1, 1) := by decide +kernel
theorem V.dX4_operands_1 : decode cX4_operands 1 = .ok (.bipush 69, 2) := by decide +kernel
theorem V.dX4_operands_3 : decode cX4_operands 3 = .ok (.if_icmp .eq 16, 3) := by decide +kernel
theorem V.dX4_operands_6 : decode cX4_operands 6 = .ok (.iload_n 1, 1) := by decide +kernel
theorem V.dX4_operands_7 : decode cX4_operands 7 = .ok (.bipush 80, 2) := by decide +kernel
theorem V.dX4_operands_9 : decode cX4_operands 9 = .ok (.if_icmp .eq 10, 3) := by decide +kernel
theorem V.dX4_operands_12 : decode cX4_operands 12 = .ok (.iload_n 1, 1) := by decide +kernel
theorem V.dX4_operands_13 : decode cX4_operands 13 = .ok (.sipush 167, 3) := by decide +kernel
theorem V.dX4_operands_16 : decode cX4_operands 16 = .ok (.if_icmp .lt 5, 3) := by decide +kernel
theorem V.dX4_operands_19 : decode cX4_operands 19 = .ok (.iconst 1, 1) := by decide +kernel
theorem V.dX4_operands_20 : decode cX4_operands 20 = .ok (.ireturn, 1) := by decide +kernel
theorem V.dX4_operands_21 : decode cX4_operands 21 = .ok (.iload_n 1, 1) := by decide +kernel
theorem V.dX4_operands_22 : decode cX4_operands 22 = .ok (.bipush 103, 2) := by decide +kernel
theorem V.dX4_operands_24 : decode cX4_operands 24 = .ok (.if_icmp .ge 5, 3) := by decide +kernel
theorem V.dX4_operands_27 : decode cX4_operands 27 = .ok (.iconst 2, 1) := by decide +kernel
theorem V.dX4_operands_28 : decode cX4_operands 28 = .ok (.ireturn, 1) := by decide +kernel
theorem V.dX4_operands_29 : decode cX4_operands 29 = .ok (.iload_n 1, 1) := by decide +kernel
theorem V.dX4_operands_30 : decode cX4_operands 30 = .ok (.sipush 139, 3) := by decide +kernel
theorem V.dX4_operands_33 : decode cX4_operands 33 = .ok (.if_icmp .ge 20, 3) := by decide +kernel
theorem V.dX4_operands_36 : decode cX4_operands 36 = .ok (.iload_n 1, 1) := by decide +kernel
theorem V.dX4_operands_37 : decode cX4_operands 37 = .ok (.bipush 103, 2) := by decide +kernel
theorem V.dX4_operands_39 : decode cX4_operands 39 = .ok (.isub, 1) := by decide +kernel
theorem V.dX4_operands_40 : decode cX4_operands 40 = .ok (.bipush 18, 2) := by decide +kernel
theorem V.dX4_operands_42 : decode cX4_operands 42 = .ok (.irem, 1) := by decide +kernel
theorem V.dX4_operands_43 : decode cX4_operands 43 = .ok (.iconst 3, 1) := by decide +kernel
theorem V.dX4_operands_44 : decode cX4_operands 44 = .ok (.if_icmp .ge 7, 3) := by decide +kernel
theorem V.dX4_operands_47 : decode cX4_operands 47 = .ok (.iconst 1, 1) := by decide +kernel
theorem V.dX4_operands_48 : decode cX4_operands 48 = .ok (.goto 4, 3) := by decide +kernel
theorem V.dX4_operands_51 : decode cX4_operands 51 = .ok (.iconst 2, 1) := by decide +kernel
theorem V.dX4_operands_52 : decode cX4_operands 52 = .ok (.ireturn, 1) := by decide +kernel
theorem V.dX4_operands_53 : decode cX4_operands 53 = .ok (.iload_n 1, 1) := by decide +kernel
theorem V.dX4_operands_54 : decode cX4_operands 54 = .ok (.sipush 139, 3) := by decide +kernel
theorem V.dX4_operands_57 : decode cX4_operands 57 = .ok (.isub, 1) := by decide +kernel
theorem V.dX4_operands_58 : decode cX4_operands 58 = .ok (.bipush 14, 2) := by decide +kernel
theorem V.dX4_operands_60 : decode cX4_operands 60 = .ok (.irem, 1) := by decide +kernel
theorem V.dX4_operands_61 : decode cX4_operands 61 = .ok (.bipush 7, 2) := by decide +kernel
theorem V.dX4_operands_63 : decode cX4_operands 63 = .ok (.if_icmp .ge 7, 3) := by decide +kernel
theorem V.dX4_operands_66 : decode cX4_operands 66 = .ok (.iconst 1, 1) := by decide +kernel
theorem V.dX4_operands_67 : decode cX4_operands 67 = .ok (.goto 4, 3) := by decide +kernel
theorem V.dX4_operands_70 : decode cX4_operands 70 = .ok (.iconst 2, 1) := by decide +kernel
theorem V.dX4_operands_71 : decode cX4_operands 71 = .ok (.ireturn, 1) := by decide +kernel
/-! ModuleEngine$Numbers.operands(I)I -/
def V.Num_operands (σ : HS) (x0 : Nat) (x1 : Int32) : Option (Int32 × HS) :=
  if x1 = (69 : Int32) then (
    some ((1 : Int32), σ))
  else (
    if x1 = (80 : Int32) then (
      some ((1 : Int32), σ))
    else (
      if x1 < (167 : Int32) then (
        if (103 : Int32) ≤ x1 then (
          if (139 : Int32) ≤ x1 then (
            ck (¬ (14 : Int32) = 0) <|
            if (7 : Int32) ≤ ((x1 - (139 : Int32)) - (x1 - (139 : Int32)) / (14 : Int32) * (14 : Int32)) then (
              some ((2 : Int32), σ))
            else (
              some ((1 : Int32), σ)))
          else (
            ck (¬ (18 : Int32) = 0) <|
            if (3 : Int32) ≤ ((x1 - (103 : Int32)) - (x1 - (103 : Int32)) / (18 : Int32) * (18 : Int32)) then (
              some ((2 : Int32), σ))
            else (
              some ((1 : Int32), σ))))
        else (
          some ((2 : Int32), σ)))
      else (
        some ((1 : Int32), σ))))
theorem V.ctX4_operands (x0 : Nat) (x1 : Int32) : Ct yX4_operands  cX4_operands 2 (some .int) 0 0 eI [av x0, iv x1] (fun σ => Num_operands σ x0 x1) := by
  refine Ct.of (own := RX4) (nm := "operands") (desc := "(I)I") rfl (by decide) (Nat.le_of_ble_eq_true rfl) (by decide) (fun X σ => ?_)
  show G X RX4 "operands" cX4_operands 2 (some .int) 0 0 enI 0 [(0, av x0), (1, iv x1)] [] σ (Num_operands σ x0 x1)
  unfold Num_operands
  refine g_iload_n 1 1 dX4_operands_0 rfl rfl ?_
  refine g_bipush (v := 69) dX4_operands_1 (by decide) ?_
  refine g_icmp_eq 19 dX4_operands_3 (by decide) ?_ ?_
  · refine g_iconst (v := 1) dX4_operands_19 (by decide) ?_
    exact g_ireturn rfl dX4_operands_20
  · refine g_iload_n 1 1 dX4_operands_6 rfl rfl ?_
    refine g_bipush (v := 80) dX4_operands_7 (by decide) ?_
    refine g_icmp_eq 19 dX4_operands_9 (by decide) ?_ ?_
    · refine g_iconst (v := 1) dX4_operands_19 (by decide) ?_
      exact g_ireturn rfl dX4_operands_20
    · refine g_iload_n 1 1 dX4_operands_12 rfl rfl ?_
      refine g_sipush (v := 167) dX4_operands_13 (by decide) ?_
      refine g_icmp_lt 21 dX4_operands_16 (by decide) ?_ ?_
      · refine g_iload_n 1 1 dX4_operands_21 rfl rfl ?_
        refine g_bipush (v := 103) dX4_operands_22 (by decide) ?_
        refine g_icmp_ge 29 dX4_operands_24 (by decide) ?_ ?_
        · refine g_iload_n 1 1 dX4_operands_29 rfl rfl ?_
          refine g_sipush (v := 139) dX4_operands_30 (by decide) ?_
          refine g_icmp_ge 53 dX4_operands_33 (by decide) ?_ ?_
          · refine g_iload_n 1 1 dX4_operands_53 rfl rfl ?_
            refine g_sipush (v := 139) dX4_operands_54 (by decide) ?_
            refine g_isub dX4_operands_57 ?_
            refine g_bipush (v := 14) dX4_operands_58 (by decide) ?_
            refine g_irem dX4_operands_60 ?_
            refine g_bipush (v := 7) dX4_operands_61 (by decide) ?_
            refine g_icmp_ge 70 dX4_operands_63 (by decide) ?_ ?_
            · refine g_iconst (v := 2) dX4_operands_70 (by decide) ?_
              exact g_ireturn rfl dX4_operands_71
            · refine g_iconst (v := 1) dX4_operands_66 (by decide) ?_
              refine g_goto 71 dX4_operands_67 (by decide) ?_
              exact g_ireturn rfl dX4_operands_71
          · refine g_iload_n 1 1 dX4_operands_36 rfl rfl ?_
            refine g_bipush (v := 103) dX4_operands_37 (by decide) ?_
            refine g_isub dX4_operands_39 ?_
            refine g_bipush (v := 18) dX4_operands_40 (by decide) ?_
            refine g_irem dX4_operands_42 ?_
            refine g_iconst (v := 3) dX4_operands_43 (by decide) ?_
            refine g_icmp_ge 51 dX4_operands_44 (by decide) ?_ ?_
            · refine g_iconst (v := 2) dX4_operands_51 (by decide) ?_
              exact g_ireturn rfl dX4_operands_52
            · refine g_iconst (v := 1) dX4_operands_47 (by decide) ?_
              refine g_goto 52 dX4_operands_48 (by decide) ?_
              exact g_ireturn rfl dX4_operands_52
        · refine g_iconst (v := 2) dX4_operands_27 (by decide) ?_
          exact g_ireturn rfl dX4_operands_28
      · refine g_iconst (v := 1) dX4_operands_19 (by decide) ?_
        exact g_ireturn rfl dX4_operands_20
theorem V.dX4_isBelow_0 : decode cX4_isBelow 0 = .ok (.lload_n 0, 1) := by decide +kernel
theorem V.dX4_isBelow_1 : decode cX4_isBelow 1 = .ok (.ldc2_w 65, 3) := by decide +kernel
theorem V.dX4_isBelow_4 : decode cX4_isBelow 4 = .ok (.lxor, 1) := by decide +kernel
theorem V.dX4_isBelow_5 : decode cX4_isBelow 5 = .ok (.lload_n 2, 1) := by decide +kernel
theorem V.dX4_isBelow_6 : decode cX4_isBelow 6 = .ok (.ldc2_w 65, 3) := by decide +kernel
theorem V.dX4_isBelow_9 : decode cX4_isBelow 9 = .ok (.lxor, 1) := by decide +kernel
theorem V.dX4_isBelow_10 : decode cX4_isBelow 10 = .ok (.lcmp, 1) := by decide +kernel
theorem V.dX4_isBelow_11 : decode cX4_isBelow 11 = .ok (.ifCond .ge 7, 3) := by decide +kernel
theorem V.dX4_isBelow_14 : decode cX4_isBelow 14 = .ok (.iconst 1, 1) := by decide +kernel
theorem V.dX4_isBelow_15 : decode cX4_isBelow 15 = .ok (.goto 4, 3) := by decide +kernel
theorem V.dX4_isBelow_18 : decode cX4_isBelow 18 = .ok (.iconst 0, 1) := by decide +kernel
theorem V.dX4_isBelow_19 : decode cX4_isBelow 19 = .ok (.ireturn, 1) := by decide +kernel
/-! ModuleEngine$Numbers.isBelow(JJ)Z -/
def V.Num_isBelow (σ : HS) (x0 : Int64) (x2 : Int64) : Option (Int32 × HS) :=
  if (x2 ^^^ (-9223372036854775808 : Int64)) ≤ (x0 ^^^ (-9223372036854775808 : Int64)) then (
    some ((0 : Int32), σ))
  else (
    some ((1 : Int32), σ))
theorem V.ctX4_isBelow (x0 : Int64) (x2 : Int64) : Ct yX4_isBelow  cX4_isBelow 4 (some .boolean) 0 0 eI [jv x0, jv x2] (fun σ => Num_isBelow σ x0 x2) := by
  refine Ct.of (own := RX4) (nm := "isBelow") (desc := "(JJ)Z") rfl (by decide) (Nat.le_of_ble_eq_true rfl) (by decide) (fun X σ => ?_)
  show G X RX4 "isBelow" cX4_isBelow 4 (some .boolean) 0 0 enI 0 [(0, jv x0), (2, jv x2)] [] σ (Num_isBelow σ x0 x2)
  unfold Num_isBelow
  refine g_lload_n 0 0 dX4_isBelow_0 rfl rfl ?_
  refine g_ldc2 q2523 dX4_isBelow_1 ?_
  refine g_lxor dX4_isBelow_4 ?_
  refine g_lload_n 2 1 dX4_isBelow_5 rfl rfl ?_
  refine g_ldc2 q2523 dX4_isBelow_6 ?_
  refine g_lxor dX4_isBelow_9 ?_
  refine g_lcmp_ge 18 dX4_isBelow_10 dX4_isBelow_11 (by decide) ?_ ?_
  · refine g_iconst (v := 0) dX4_isBelow_18 (by decide) ?_
    exact g_zreturn rfl (by decide +kernel) dX4_isBelow_19
  · refine g_iconst (v := 1) dX4_isBelow_14 (by decide) ?_
    refine g_goto 19 dX4_isBelow_15 (by decide) ?_
    exact g_zreturn rfl (by decide +kernel) dX4_isBelow_19
theorem V.dX4_compare_0 : decode cX4_compare 0 = .ok (.iload_n 1, 1) := by decide +kernel
theorem V.dX4_compare_1 : decode cX4_compare 1 = .ok (.ifCond .eq 9, 3) := by decide +kernel
theorem V.dX4_compare_4 : decode cX4_compare 4 = .ok (.lload_n 2, 1) := by decide +kernel
theorem V.dX4_compare_5 : decode cX4_compare 5 = .ok (.l2i, 1) := by decide +kernel
theorem V.dX4_compare_6 : decode cX4_compare 6 = .ok (.i2l, 1) := by decide +kernel
theorem V.dX4_compare_7 : decode cX4_compare 7 = .ok (.goto 4, 3) := by decide +kernel
theorem V.dX4_compare_10 : decode cX4_compare 10 = .ok (.lload_n 2, 1) := by decide +kernel
theorem V.dX4_compare_11 : decode cX4_compare 11 = .ok (.lstore 6, 2) := by decide +kernel
theorem V.dX4_compare_13 : decode cX4_compare 13 = .ok (.iload_n 1, 1) := by decide +kernel
theorem V.dX4_compare_14 : decode cX4_compare 14 = .ok (.ifCond .eq 10, 3) := by decide +kernel
theorem V.dX4_compare_17 : decode cX4_compare 17 = .ok (.lload 4, 2) := by decide +kernel
theorem V.dX4_compare_19 : decode cX4_compare 19 = .ok (.l2i, 1) := by decide +kernel
theorem V.dX4_compare_20 : decode cX4_compare 20 = .ok (.i2l, 1) := by decide +kernel
theorem V.dX4_compare_21 : decode cX4_compare 21 = .ok (.goto 5, 3) := by decide +kernel
theorem V.dX4_compare_24 : decode cX4_compare 24 = .ok (.lload 4, 2) := by decide +kernel
theorem V.dX4_compare_26 : decode cX4_compare 26 = .ok (.lstore 8, 2) := by decide +kernel
theorem V.dX4_compare_28 : decode cX4_compare 28 = .ok (.iload_n 0, 1) := by decide +kernel
theorem V.dX4_compare_29 : decode cX4_compare 29 = .ok (.iconst 1, 1) := by decide +kernel
theorem V.dX4_compare_30 : decode cX4_compare 30 = .ok (.iand, 1) := by decide +kernel
theorem V.dX4_compare_31 : decode cX4_compare 31 = .ok (.iconst 1, 1) := by decide +kernel
theorem V.dX4_compare_32 : decode cX4_compare 32 = .ok (.if_icmp .ne 19, 3) := by decide +kernel
theorem V.dX4_compare_35 : decode cX4_compare 35 = .ok (.lload 6, 2) := by decide +kernel
theorem V.dX4_compare_37 : decode cX4_compare 37 = .ok (.lload 8, 2) := by decide +kernel
theorem V.dX4_compare_39 : decode cX4_compare 39 = .ok (.lcmp, 1) := by decide +kernel
theorem V.dX4_compare_40 : decode cX4_compare 40 = .ok (.ifCond .ge 7, 3) := by decide +kernel
theorem V.dX4_compare_43 : decode cX4_compare 43 = .ok (.iconst 1, 1) := by decide +kernel
theorem V.dX4_compare_44 : decode cX4_compare 44 = .ok (.goto 14, 3) := by decide +kernel
theorem V.dX4_compare_47 : decode cX4_compare 47 = .ok (.iconst 0, 1) := by decide +kernel
theorem V.dX4_compare_48 : decode cX4_compare 48 = .ok (.goto 10, 3) := by decide +kernel
theorem V.dX4_compare_51 : decode cX4_compare 51 = .ok (.lload 6, 2) := by decide +kernel
theorem V.dX4_compare_53 : decode cX4_compare 53 = .ok (.lload 8, 2) := by decide +kernel
theorem V.dX4_compare_55 : decode cX4_compare 55 = .ok (.invokestatic 67, 3) := by decide +kernel
theorem V.dX4_compare_58 : decode cX4_compare 58 = .ok (.istore 10, 2) := by decide +kernel
theorem V.dX4_compare_60 : decode cX4_compare 60 = .ok (.iload_n 0, 1) := by decide +kernel
theorem V.dX4_compare_61 : decode cX4_compare 61 = .ok (.iconst 1, 1) := by decide +kernel
theorem V.dX4_compare_62 : decode cX4_compare 62 = .ok (.iand, 1) := by decide +kernel
theorem V.dX4_compare_63 : decode cX4_compare 63 = .ok (.iconst 1, 1) := by decide +kernel
theorem V.dX4_compare_64 : decode cX4_compare 64 = .ok (.if_icmp .ne 19, 3) := by decide +kernel
theorem V.dX4_compare_67 : decode cX4_compare 67 = .ok (.lload 8, 2) := by decide +kernel
theorem V.dX4_compare_69 : decode cX4_compare 69 = .ok (.lload 6, 2) := by decide +kernel
theorem V.dX4_compare_71 : decode cX4_compare 71 = .ok (.lcmp, 1) := by decide +kernel
theorem V.dX4_compare_72 : decode cX4_compare 72 = .ok (.ifCond .ge 7, 3) := by decide +kernel
theorem V.dX4_compare_75 : decode cX4_compare 75 = .ok (.iconst 1, 1) := by decide +kernel
theorem V.dX4_compare_76 : decode cX4_compare 76 = .ok (.goto 14, 3) := by decide +kernel
theorem V.dX4_compare_79 : decode cX4_compare 79 = .ok (.iconst 0, 1) := by decide +kernel
theorem V.dX4_compare_80 : decode cX4_compare 80 = .ok (.goto 10, 3) := by decide +kernel
theorem V.dX4_compare_83 : decode cX4_compare 83 = .ok (.lload 8, 2) := by decide +kernel
theorem V.dX4_compare_85 : decode cX4_compare 85 = .ok (.lload 6, 2) := by decide +kernel
theorem V.dX4_compare_87 : decode cX4_compare 87 = .ok (.invokestatic 67, 3) := by decide +kernel
theorem V.dX4_compare_90 : decode cX4_compare 90 = .ok (.istore 11, 2) := by decide +kernel
theorem V.dX4_compare_92 : decode cX4_compare 92 = .ok (.iload_n 0, 1) := by decide +kernel
theorem V.dX4_compare_93 : decode cX4_compare 93 = .ok (.tableswitch 125 0 8 #[51, 64, 78, 92, 92, 103, 103, 114, 114], 51) := by decide +kernel
theorem V.dX4_compare_144 : decode cX4_compare 144 = .ok (.lload 6, 2) := by decide +kernel
theorem V.dX4_compare_146 : decode cX4_compare 146 = .ok (.lconst 0, 1) := by decide +kernel
theorem V.dX4_compare_147 : decode cX4_compare 147 = .ok (.lcmp, 1) := by decide +kernel
theorem V.dX4_compare_148 : decode cX4_compare 148 = .ok (.ifCond .ne 7, 3) := by decide +kernel
theorem V.dX4_compare_151 : decode cX4_compare 151 = .ok (.lconst 1, 1) := by decide +kernel
theorem V.dX4_compare_152 : decode cX4_compare 152 = .ok (.goto 4, 3) := by decide +kernel
theorem V.dX4_compare_155 : decode cX4_compare 155 = .ok (.lconst 0, 1) := by decide +kernel
theorem V.dX4_compare_156 : decode cX4_compare 156 = .ok (.lreturn, 1) := by decide +kernel
theorem V.dX4_compare_157 : decode cX4_compare 157 = .ok (.lload 6, 2) := by decide +kernel
theorem V.dX4_compare_159 : decode cX4_compare 159 = .ok (.lload 8, 2) := by decide +kernel
theorem V.dX4_compare_161 : decode cX4_compare 161 = .ok (.lcmp, 1) := by decide +kernel
theorem V.dX4_compare_162 : decode cX4_compare 162 = .ok (.ifCond .ne 7, 3) := by decide +kernel
theorem V.dX4_compare_165 : decode cX4_compare 165 = .ok (.lconst 1, 1) := by decide +kernel
theorem V.dX4_compare_166 : decode cX4_compare 166 = .ok (.goto 4, 3) := by decide +kernel
theorem V.dX4_compare_169 : decode cX4_compare 169 = .ok (.lconst 0, 1) := by decide +kernel
theorem V.dX4_compare_170 : decode cX4_compare 170 = .ok (.lreturn, 1) := by decide +kernel
theorem V.dX4_compare_171 : decode cX4_compare 171 = .ok (.lload 6, 2) := by decide +kernel
theorem V.dX4_compare_173 : decode cX4_compare 173 = .ok (.lload 8, 2) := by decide +kernel
theorem V.dX4_compare_175 : decode cX4_compare 175 = .ok (.lcmp, 1) := by decide +kernel
theorem V.dX4_compare_176 : decode cX4_compare 176 = .ok (.ifCond .ne 7, 3) := by decide +kernel
theorem V.dX4_compare_179 : decode cX4_compare 179 = .ok (.lconst 0, 1) := by decide +kernel
theorem V.dX4_compare_180 : decode cX4_compare 180 = .ok (.goto 4, 3) := by decide +kernel
theorem V.dX4_compare_183 : decode cX4_compare 183 = .ok (.lconst 1, 1) := by decide +kernel
theorem V.dX4_compare_184 : decode cX4_compare 184 = .ok (.lreturn, 1) := by decide +kernel
theorem V.dX4_compare_185 : decode cX4_compare 185 = .ok (.iload 10, 2) := by decide +kernel
theorem V.dX4_compare_187 : decode cX4_compare 187 = .ok (.ifCond .eq 7, 3) := by decide +kernel
theorem V.dX4_compare_190 : decode cX4_compare 190 = .ok (.lconst 1, 1) := by decide +kernel
theorem V.dX4_compare_191 : decode cX4_compare 191 = .ok (.goto 4, 3) := by decide +kernel
theorem V.dX4_compare_194 : decode cX4_compare 194 = .ok (.lconst 0, 1) := by decide +kernel
theorem V.dX4_compare_195 : decode cX4_compare 195 = .ok (.lreturn, 1) := by decide +kernel
theorem V.dX4_compare_196 : decode cX4_compare 196 = .ok (.iload 11, 2) := by decide +kernel
theorem V.dX4_compare_198 : decode cX4_compare 198 = .ok (.ifCond .eq 7, 3) := by decide +kernel
theorem V.dX4_compare_201 : decode cX4_compare 201 = .ok (.lconst 1, 1) := by decide +kernel
theorem V.dX4_compare_202 : decode cX4_compare 202 = .ok (.goto 4, 3) := by decide +kernel
theorem V.dX4_compare_205 : decode cX4_compare 205 = .ok (.lconst 0, 1) := by decide +kernel
theorem V.dX4_compare_206 : decode cX4_compare 206 = .ok (.lreturn, 1) := by decide +kernel
theorem V.dX4_compare_207 : decode cX4_compare 207 = .ok (.iload 11, 2) := by decide +kernel
theorem V.dX4_compare_209 : decode cX4_compare 209 = .ok (.ifCond .eq 7, 3) := by decide +kernel
theorem V.dX4_compare_212 : decode cX4_compare 212 = .ok (.lconst 0, 1) := by decide +kernel
theorem V.dX4_compare_213 : decode cX4_compare 213 = .ok (.goto 4, 3) := by decide +kernel
theorem V.dX4_compare_216 : decode cX4_compare 216 = .ok (.lconst 1, 1) := by decide +kernel
theorem V.dX4_compare_217 : decode cX4_compare 217 = .ok (.lreturn, 1) := by decide +kernel
theorem V.dX4_compare_218 : decode cX4_compare 218 = .ok (.iload 10, 2) := by decide +kernel
theorem V.dX4_compare_220 : decode cX4_compare 220 = .ok (.ifCond .eq 7, 3) := by decide +kernel
theorem V.dX4_compare_223 : decode cX4_compare 223 = .ok (.lconst 0, 1) := by decide +kernel
theorem V.dX4_compare_224 : decode cX4_compare 224 = .ok (.goto 4, 3) := by decide +kernel
theorem V.dX4_compare_227 : decode cX4_compare 227 = .ok (.lconst 1, 1) := by decide +kernel
theorem V.dX4_compare_228 : decode cX4_compare 228 = .ok (.lreturn, 1) := by decide +kernel
theorem V.mdX4_67 : MD RX4 67 yX4_isBelow cX4_isBelow 4 (some .boolean) 2 := ⟨Or.inl q2520, q364, q2522, by decide, by decide, by decide +kernel⟩
/-! ModuleEngine$Numbers.compare(IZJJ)J -/
def V.Num_compare_p185  (σ : HS) (x10 : Int32) : Option (Int64 × HS) :=
  if x10 = 0 then (
    some ((0 : Int64), σ))
  else (
    some ((1 : Int64), σ))
theorem V.gX4_compare_p185 {X : CX}  (σ : HS) (x10 : Int32) : G X RX4 "compare" cX4_compare 12 (some .long) 1 23 enJ 185 [(10, iv x10)] [] σ (Num_compare_p185 σ x10) := by
  unfold Num_compare_p185
  refine g_iload 0 dX4_compare_185 rfl ?_
  refine g_if_eq 194 dX4_compare_187 (by decide) ?_ ?_
  · refine g_lconst (v := 0) dX4_compare_194 (by decide) ?_
    exact g_lreturn rfl dX4_compare_195
  · refine g_lconst (v := 1) dX4_compare_190 (by decide) ?_
    refine g_goto 195 dX4_compare_191 (by decide) ?_
    exact g_lreturn rfl dX4_compare_195
def V.Num_compare_p196  (σ : HS) (x11 : Int32) : Option (Int64 × HS) :=
  if x11 = 0 then (
    some ((0 : Int64), σ))
  else (
    some ((1 : Int64), σ))
theorem V.gX4_compare_p196 {X : CX}  (σ : HS) (x11 : Int32) : G X RX4 "compare" cX4_compare 12 (some .long) 1 23 enJ 196 [(11, iv x11)] [] σ (Num_compare_p196 σ x11) := by
  unfold Num_compare_p196
  refine g_iload 0 dX4_compare_196 rfl ?_
  refine g_if_eq 205 dX4_compare_198 (by decide) ?_ ?_
  · refine g_lconst (v := 0) dX4_compare_205 (by decide) ?_
    exact g_lreturn rfl dX4_compare_206
  · refine g_lconst (v := 1) dX4_compare_201 (by decide) ?_
    refine g_goto 206 dX4_compare_202 (by decide) ?_
    exact g_lreturn rfl dX4_compare_206
def V.Num_compare_p207  (σ : HS) (x11 : Int32) : Option (Int64 × HS) :=
  if x11 = 0 then (
    some ((1 : Int64), σ))
  else (
    some ((0 : Int64), σ))
theorem V.gX4_compare_p207 {X : CX}  (σ : HS) (x11 : Int32) : G X RX4 "compare" cX4_compare 12 (some .long) 1 23 enJ 207 [(11, iv x11)] [] σ (Num_compare_p207 σ x11) := by
  unfold Num_compare_p207
  refine g_iload 0 dX4_compare_207 rfl ?_
  refine g_if_eq 216 dX4_compare_209 (by decide) ?_ ?_
  · refine g_lconst (v := 1) dX4_compare_216 (by decide) ?_
    exact g_lreturn rfl dX4_compare_217
  · refine g_lconst (v := 0) dX4_compare_212 (by decide) ?_
    refine g_goto 217 dX4_compare_213 (by decide) ?_
    exact g_lreturn rfl dX4_compare_217
def V.Num_compare_p90  (σ : HS) (x0 : Int32) (x6 : Int64) (x8 : Int64) (x10 : Int32) (s0 : Int32) : Option (Int64 × HS) :=
  swx x0 [
    (0, (
      if x6 = (0 : Int64) then (
        some ((1 : Int64), σ))
      else (
        some ((0 : Int64), σ)))),
    (1, (
      if x6 = x8 then (
        some ((1 : Int64), σ))
      else (
        some ((0 : Int64), σ)))),
    (2, (
      if x6 = x8 then (
        some ((0 : Int64), σ))
      else (
        some ((1 : Int64), σ)))),
    (3, (
      Num_compare_p185 σ x10)),
    (4, (
      Num_compare_p185 σ x10)),
    (5, (
      Num_compare_p196 σ s0)),
    (6, (
      Num_compare_p196 σ s0)),
    (7, (
      Num_compare_p207 σ s0)),
    (8, (
      Num_compare_p207 σ s0))
    ] (
    if x10 = 0 then (
      some ((1 : Int64), σ))
    else (
      some ((0 : Int64), σ)))
theorem V.gX4_compare_p90 {X : CX}  (σ : HS) (x0 : Int32) (x6 : Int64) (x8 : Int64) (x10 : Int32) (s0 : Int32) : G X RX4 "compare" cX4_compare 12 (some .long) 1 23 enJ 90 [(0, iv x0), (6, jv x6), (8, jv x8), (10, iv x10)] [iv s0] σ (Num_compare_p90 σ x0 x6 x8 x10 s0) := by
  unfold Num_compare_p90
  refine g_istore dX4_compare_90 (by decide) rfl ?_
  refine g_iload_n 0 1 dX4_compare_92 rfl rfl ?_
  refine g_tsw dX4_compare_93 (by decide +kernel) ?_
  refine g_case ex0 (t := 144) (by decide +kernel) ?_ (fun hx => ?_)
  · refine g_lload 2 dX4_compare_144 rfl ?_
    refine g_lconst (v := 0) dX4_compare_146 (by decide) ?_
    refine g_lcmp_ne 155 dX4_compare_147 dX4_compare_148 (by decide) ?_ ?_
    · refine g_lconst (v := 0) dX4_compare_155 (by decide) ?_
      exact g_lreturn rfl dX4_compare_156
    · refine g_lconst (v := 1) dX4_compare_151 (by decide) ?_
      refine g_goto 156 dX4_compare_152 (by decide) ?_
      exact g_lreturn rfl dX4_compare_156
  refine g_case hx (t := 157) (by decide +kernel) ?_ (fun hx => ?_)
  · refine g_lload 2 dX4_compare_157 rfl ?_
    refine g_lload 3 dX4_compare_159 rfl ?_
    refine g_lcmp_ne 169 dX4_compare_161 dX4_compare_162 (by decide) ?_ ?_
    · refine g_lconst (v := 0) dX4_compare_169 (by decide) ?_
      exact g_lreturn rfl dX4_compare_170
    · refine g_lconst (v := 1) dX4_compare_165 (by decide) ?_
      refine g_goto 170 dX4_compare_166 (by decide) ?_
      exact g_lreturn rfl dX4_compare_170
  refine g_case hx (t := 171) (by decide +kernel) ?_ (fun hx => ?_)
  · refine g_lload 2 dX4_compare_171 rfl ?_
    refine g_lload 3 dX4_compare_173 rfl ?_
    refine g_lcmp_ne 183 dX4_compare_175 dX4_compare_176 (by decide) ?_ ?_
    · refine g_lconst (v := 1) dX4_compare_183 (by decide) ?_
      exact g_lreturn rfl dX4_compare_184
    · refine g_lconst (v := 0) dX4_compare_179 (by decide) ?_
      refine g_goto 184 dX4_compare_180 (by decide) ?_
      exact g_lreturn rfl dX4_compare_184
  refine g_case hx (t := 185) (by decide +kernel) ?_ (fun hx => ?_)
  · refine G.sub [4] rfl ?_
    exact gX4_compare_p185 _ _
  refine g_case hx (t := 185) (by decide +kernel) ?_ (fun hx => ?_)
  · refine G.sub [4] rfl ?_
    exact gX4_compare_p185 _ _
  refine g_case hx (t := 196) (by decide +kernel) ?_ (fun hx => ?_)
  · refine G.sub [0] rfl ?_
    exact gX4_compare_p196 _ _
  refine g_case hx (t := 196) (by decide +kernel) ?_ (fun hx => ?_)
  · refine G.sub [0] rfl ?_
    exact gX4_compare_p196 _ _
  refine g_case hx (t := 207) (by decide +kernel) ?_ (fun hx => ?_)
  · refine G.sub [0] rfl ?_
    exact gX4_compare_p207 _ _
  refine g_case hx (t := 207) (by decide +kernel) ?_ (fun hx => ?_)
  · refine G.sub [0] rfl ?_
    exact gX4_compare_p207 _ _
  refine g_dflt (t := 218) (tswT_d (by decide +kernel) (by decide +kernel) hx) ?_
  refine g_iload 4 dX4_compare_218 rfl ?_
  refine g_if_eq 227 dX4_compare_220 (by decide) ?_ ?_
  · refine g_lconst (v := 1) dX4_compare_227 (by decide) ?_
    exact g_lreturn rfl dX4_compare_228
  · refine g_lconst (v := 0) dX4_compare_223 (by decide) ?_
    refine g_goto 228 dX4_compare_224 (by decide) ?_
    exact g_lreturn rfl dX4_compare_228
def V.Num_compare_p58  (σ : HS) (x0 : Int32) (x6 : Int64) (x8 : Int64) (s0 : Int32) : Option (Int64 × HS) :=
  if (x0 &&& (1 : Int32)) = (1 : Int32) then (
    if x6 ≤ x8 then (
      Num_compare_p90 σ x0 x6 x8 s0 (0 : Int32))
    else (
      Num_compare_p90 σ x0 x6 x8 s0 (1 : Int32)))
  else (
    cl (Num_isBelow σ x8 x6) fun r2 σ1 =>
    Num_compare_p90 σ1 x0 x6 x8 s0 r2)
theorem V.gX4_compare_p58 {X : CX}  (σ : HS) (x0 : Int32) (x6 : Int64) (x8 : Int64) (s0 : Int32) : G X RX4 "compare" cX4_compare 12 (some .long) 1 23 enJ 58 [(0, iv x0), (6, jv x6), (8, jv x8)] [iv s0] σ (Num_compare_p58 σ x0 x6 x8 s0) := by
  unfold Num_compare_p58
  refine g_istore dX4_compare_58 (by decide) rfl ?_
  refine g_iload_n 0 1 dX4_compare_60 rfl rfl ?_
  refine g_iconst (v := 1) dX4_compare_61 (by decide) ?_
  refine g_iand dX4_compare_62 ?_
  refine g_iconst (v := 1) dX4_compare_63 (by decide) ?_
  refine g_icmp_ne 83 dX4_compare_64 (by decide) ?_ ?_
  · refine g_lload 3 dX4_compare_83 rfl ?_
    refine g_lload 2 dX4_compare_85 rfl ?_
    refine g_callS (fc := fun sς => Num_isBelow sς x8 x6) (as := [jv x8, jv x6]) q2521 mdX4_67 (ctX4_isBelow x8 x6) rfl (Nat.le_of_ble_eq_true rfl) (Nat.le_of_ble_eq_true rfl) (Nat.le_of_ble_eq_true rfl) pu_I dX4_compare_87 (fun r2 σ1 => ?_)
    refine G.sub [1, 2, 3, 0] rfl ?_
    exact gX4_compare_p90 _ _ _ _ _ _
  · refine g_lload 3 dX4_compare_67 rfl ?_
    refine g_lload 2 dX4_compare_69 rfl ?_
    refine g_lcmp_ge 79 dX4_compare_71 dX4_compare_72 (by decide) ?_ ?_
    · refine g_iconst (v := 0) dX4_compare_79 (by decide) ?_
      refine g_goto 90 dX4_compare_80 (by decide) ?_
      refine G.sub [1, 2, 3, 0] rfl ?_
      exact gX4_compare_p90 _ _ _ _ _ _
    · refine g_iconst (v := 1) dX4_compare_75 (by decide) ?_
      refine g_goto 90 dX4_compare_76 (by decide) ?_
      refine G.sub [1, 2, 3, 0] rfl ?_
      exact gX4_compare_p90 _ _ _ _ _ _
def V.Num_compare_p26  (σ : HS) (x0 : Int32) (x6 : Int64) (s0 : Int64) : Option (Int64 × HS) :=
  if (x0 &&& (1 : Int32)) = (1 : Int32) then (
    if s0 ≤ x6 then (
      Num_compare_p58 σ x0 x6 s0 (0 : Int32))
    else (
      Num_compare_p58 σ x0 x6 s0 (1 : Int32)))
  else (
    cl (Num_isBelow σ x6 s0) fun r2 σ1 =>
    Num_compare_p58 σ1 x0 x6 s0 r2)
theorem V.gX4_compare_p26 {X : CX}  (σ : HS) (x0 : Int32) (x6 : Int64) (s0 : Int64) : G X RX4 "compare" cX4_compare 12 (some .long) 1 23 enJ 26 [(0, iv x0), (6, jv x6)] [jv s0] σ (Num_compare_p26 σ x0 x6 s0) := by
  unfold Num_compare_p26
  refine g_lstore dX4_compare_26 (by decide) rfl ?_
  refine g_iload_n 0 1 dX4_compare_28 rfl rfl ?_
  refine g_iconst (v := 1) dX4_compare_29 (by decide) ?_
  refine g_iand dX4_compare_30 ?_
  refine g_iconst (v := 1) dX4_compare_31 (by decide) ?_
  refine g_icmp_ne 51 dX4_compare_32 (by decide) ?_ ?_
  · refine g_lload 2 dX4_compare_51 rfl ?_
    refine g_lload 0 dX4_compare_53 rfl ?_
    refine g_callS (fc := fun sς => Num_isBelow sς x6 s0) (as := [jv x6, jv s0]) q2521 mdX4_67 (ctX4_isBelow x6 s0) rfl (Nat.le_of_ble_eq_true rfl) (Nat.le_of_ble_eq_true rfl) (Nat.le_of_ble_eq_true rfl) pu_I dX4_compare_55 (fun r2 σ1 => ?_)
    refine G.sub [1, 2, 0] rfl ?_
    exact gX4_compare_p58 _ _ _ _ _
  · refine g_lload 2 dX4_compare_35 rfl ?_
    refine g_lload 0 dX4_compare_37 rfl ?_
    refine g_lcmp_ge 47 dX4_compare_39 dX4_compare_40 (by decide) ?_ ?_
    · refine g_iconst (v := 0) dX4_compare_47 (by decide) ?_
      refine g_goto 58 dX4_compare_48 (by decide) ?_
      refine G.sub [1, 2, 0] rfl ?_
      exact gX4_compare_p58 _ _ _ _ _
    · refine g_iconst (v := 1) dX4_compare_43 (by decide) ?_
      refine g_goto 58 dX4_compare_44 (by decide) ?_
      refine G.sub [1, 2, 0] rfl ?_
      exact gX4_compare_p58 _ _ _ _ _
def V.Num_compare_p11  (σ : HS) (x0 : Int32) (x1 : Int32) (x4 : Int64) (s0 : Int64) : Option (Int64 × HS) :=
  if x1 = 0 then (
    Num_compare_p26 σ x0 s0 x4)
  else (
    Num_compare_p26 σ x0 s0 x4.toInt32.toInt64)
theorem V.gX4_compare_p11 {X : CX}  (σ : HS) (x0 : Int32) (x1 : Int32) (x4 : Int64) (s0 : Int64) : G X RX4 "compare" cX4_compare 12 (some .long) 1 23 enJ 11 [(0, iv x0), (1, iv x1), (4, jv x4)] [jv s0] σ (Num_compare_p11 σ x0 x1 x4 s0) := by
  unfold Num_compare_p11
  refine g_lstore dX4_compare_11 (by decide) rfl ?_
  refine g_iload_n 1 2 dX4_compare_13 rfl rfl ?_
  refine g_if_eq 24 dX4_compare_14 (by decide) ?_ ?_
  · refine g_lload 3 dX4_compare_24 rfl ?_
    refine G.sub [1, 0] rfl ?_
    exact gX4_compare_p26 _ _ _ _
  · refine g_lload 3 dX4_compare_17 rfl ?_
    refine g_l2i dX4_compare_19 ?_
    refine g_i2l dX4_compare_20 ?_
    refine g_goto 26 dX4_compare_21 (by decide) ?_
    refine G.sub [1, 0] rfl ?_
    exact gX4_compare_p26 _ _ _ _
def V.Num_compare (σ : HS) (x0 : Int32) (x1 : Int32) (x2 : Int64) (x4 : Int64) : Option (Int64 × HS) :=
  if x1 = 0 then (
    Num_compare_p11 σ x0 x1 x4 x2)
  else (
    Num_compare_p11 σ x0 x1 x4 x2.toInt32.toInt64)
theorem V.ctX4_compare (x0 : Int32) (x1 : Int32) (x2 : Int64) (x4 : Int64) : Ct yX4_compare  cX4_compare 12 (some .long) 1 23 eJ [iv x0, iv x1, jv x2, jv x4] (fun σ => Num_compare σ x0 x1 x2 x4) := by
  refine Ct.of (own := RX4) (nm := "compare") (desc := "(IZJJ)J") rfl (by decide) (Nat.le_of_ble_eq_true rfl) (by decide) (fun X σ => ?_)
  show G X RX4 "compare" cX4_compare 12 (some .long) 1 23 enJ 0 [(0, iv x0), (1, iv x1), (2, jv x2), (4, jv x4)] [] σ (Num_compare σ x0 x1 x2 x4)
  unfold Num_compare
  refine g_iload_n 1 1 dX4_compare_0 rfl rfl ?_
  refine g_if_eq 10 dX4_compare_1 (by decide) ?_ ?_
  · refine g_lload_n 2 2 dX4_compare_10 rfl rfl ?_
    refine G.sub [0, 1, 3] rfl ?_
    exact gX4_compare_p11 _ _ _ _ _
  · refine g_lload_n 2 2 dX4_compare_4 rfl rfl ?_
    refine g_l2i dX4_compare_5 ?_
    refine g_i2l dX4_compare_6 ?_
    refine g_goto 11 dX4_compare_7 (by decide) ?_
    refine G.sub [0, 1, 3] rfl ?_
    exact gX4_compare_p11 _ _ _ _ _
theorem V.dX4_operandType_0 : decode cX4_operandType 0 = .ok (.iload_n 1, 1) := by decide +kernel
theorem V.dX4_operandType_1 : decode cX4_operandType 1 = .ok (.bipush 91, 2) := by decide +kernel
theorem V.dX4_operandType_3 : decode cX4_operandType 3 = .ok (.if_icmp .ge 15, 3) := by decide +kernel
theorem V.dX4_operandType_6 : decode cX4_operandType 6 = .ok (.iload_n 1, 1) := by decide +kernel
theorem V.dX4_operandType_7 : decode cX4_operandType 7 = .ok (.bipush 80, 2) := by decide +kernel
theorem V.dX4_operandType_9 : decode cX4_operandType 9 = .ok (.if_icmp .ge 7, 3) := by decide +kernel
theorem V.dX4_operandType_12 : decode cX4_operandType 12 = .ok (.iconst 0, 1) := by decide +kernel
theorem V.dX4_operandType_13 : decode cX4_operandType 13 = .ok (.goto 4, 3) := by decide +kernel
theorem V.dX4_operandType_16 : decode cX4_operandType 16 = .ok (.iconst 1, 1) := by decide +kernel
theorem V.dX4_operandType_17 : decode cX4_operandType 17 = .ok (.ireturn, 1) := by decide +kernel
theorem V.dX4_operandType_18 : decode cX4_operandType 18 = .ok (.iload_n 1, 1) := by decide +kernel
theorem V.dX4_operandType_19 : decode cX4_operandType 19 = .ok (.bipush 103, 2) := by decide +kernel
theorem V.dX4_operandType_21 : decode cX4_operandType 21 = .ok (.if_icmp .ge 15, 3) := by decide +kernel
theorem V.dX4_operandType_24 : decode cX4_operandType 24 = .ok (.iload_n 1, 1) := by decide +kernel
theorem V.dX4_operandType_25 : decode cX4_operandType 25 = .ok (.bipush 97, 2) := by decide +kernel
theorem V.dX4_operandType_27 : decode cX4_operandType 27 = .ok (.if_icmp .ge 7, 3) := by decide +kernel
theorem V.dX4_operandType_30 : decode cX4_operandType 30 = .ok (.iconst 2, 1) := by decide +kernel
theorem V.dX4_operandType_31 : decode cX4_operandType 31 = .ok (.goto 4, 3) := by decide +kernel
theorem V.dX4_operandType_34 : decode cX4_operandType 34 = .ok (.iconst 3, 1) := by decide +kernel
theorem V.dX4_operandType_35 : decode cX4_operandType 35 = .ok (.ireturn, 1) := by decide +kernel
theorem V.dX4_operandType_36 : decode cX4_operandType 36 = .ok (.iload_n 1, 1) := by decide +kernel
theorem V.dX4_operandType_37 : decode cX4_operandType 37 = .ok (.sipush 139, 3) := by decide +kernel
theorem V.dX4_operandType_40 : decode cX4_operandType 40 = .ok (.if_icmp .ge 15, 3) := by decide +kernel
theorem V.dX4_operandType_43 : decode cX4_operandType 43 = .ok (.iload_n 1, 1) := by decide +kernel
theorem V.dX4_operandType_44 : decode cX4_operandType 44 = .ok (.bipush 121, 2) := by decide +kernel
theorem V.dX4_operandType_46 : decode cX4_operandType 46 = .ok (.if_icmp .ge 7, 3) := by decide +kernel
theorem V.dX4_operandType_49 : decode cX4_operandType 49 = .ok (.iconst 0, 1) := by decide +kernel
theorem V.dX4_operandType_50 : decode cX4_operandType 50 = .ok (.goto 4, 3) := by decide +kernel
theorem V.dX4_operandType_53 : decode cX4_operandType 53 = .ok (.iconst 1, 1) := by decide +kernel
theorem V.dX4_operandType_54 : decode cX4_operandType 54 = .ok (.ireturn, 1) := by decide +kernel
theorem V.dX4_operandType_55 : decode cX4_operandType 55 = .ok (.iload_n 1, 1) := by decide +kernel
theorem V.dX4_operandType_56 : decode cX4_operandType 56 = .ok (.sipush 167, 3) := by decide +kernel
theorem V.dX4_operandType_59 : decode cX4_operandType 59 = .ok (.if_icmp .ge 16, 3) := by decide +kernel
theorem V.dX4_operandType_62 : decode cX4_operandType 62 = .ok (.iload_n 1, 1) := by decide +kernel
theorem V.dX4_operandType_63 : decode cX4_operandType 63 = .ok (.sipush 153, 3) := by decide +kernel
theorem V.dX4_operandType_66 : decode cX4_operandType 66 = .ok (.if_icmp .ge 7, 3) := by decide +kernel
theorem V.dX4_operandType_69 : decode cX4_operandType 69 = .ok (.iconst 2, 1) := by decide +kernel
theorem V.dX4_operandType_70 : decode cX4_operandType 70 = .ok (.goto 4, 3) := by decide +kernel
theorem V.dX4_operandType_73 : decode cX4_operandType 73 = .ok (.iconst 3, 1) := by decide +kernel
theorem V.dX4_operandType_74 : decode cX4_operandType 74 = .ok (.ireturn, 1) := by decide +kernel
theorem V.dX4_operandType_75 : decode cX4_operandType 75 = .ok (.iload_n 1, 1) := by decide +kernel
theorem V.dX4_operandType_76 : decode cX4_operandType 76 = .ok (.sipush 200, 3) := by decide +kernel
theorem V.dX4_operandType_79 : decode cX4_operandType 79 = .ok (.if_icmp .lt 20, 3) := by decide +kernel
theorem V.dX4_operandType_82 : decode cX4_operandType 82 = .ok (.iload_n 1, 1) := by decide +kernel
theorem V.dX4_operandType_83 : decode cX4_operandType 83 = .ok (.sipush 200, 3) := by decide +kernel
theorem V.dX4_operandType_86 : decode cX4_operandType 86 = .ok (.isub, 1) := by decide +kernel
theorem V.dX4_operandType_87 : decode cX4_operandType 87 = .ok (.iconst 4, 1) := by decide +kernel
theorem V.dX4_operandType_88 : decode cX4_operandType 88 = .ok (.irem, 1) := by decide +kernel
theorem V.dX4_operandType_89 : decode cX4_operandType 89 = .ok (.iconst 2, 1) := by decide +kernel
theorem V.dX4_operandType_90 : decode cX4_operandType 90 = .ok (.if_icmp .ge 7, 3) := by decide +kernel
theorem V.dX4_operandType_93 : decode cX4_operandType 93 = .ok (.iconst 2, 1) := by decide +kernel
theorem V.dX4_operandType_94 : decode cX4_operandType 94 = .ok (.goto 4, 3) := by decide +kernel
theorem V.dX4_operandType_97 : decode cX4_operandType 97 = .ok (.iconst 3, 1) := by decide +kernel
theorem V.dX4_operandType_98 : decode cX4_operandType 98 = .ok (.ireturn, 1) := by decide +kernel
theorem V.dX4_operandType_99 : decode cX4_operandType 99 = .ok (.iload_n 1, 1) := by decide +kernel
theorem V.dX4_operandType_100 : decode cX4_operandType 100 = .ok (.sipush 192, 3) := by decide +kernel
theorem V.dX4_operandType_103 : decode cX4_operandType 103 = .ok (.if_icmp .lt 16, 3) := by decide +kernel
theorem V.dX4_operandType_106 : decode cX4_operandType 106 = .ok (.iload_n 1, 1) := by decide +kernel
theorem V.dX4_operandType_107 : decode cX4_operandType 107 = .ok (.sipush 194, 3) := by decide +kernel
theorem V.dX4_operandType_110 : decode cX4_operandType 110 = .ok (.if_icmp .ge 7, 3) := by decide +kernel
theorem V.dX4_operandType_113 : decode cX4_operandType 113 = .ok (.iconst 0, 1) := by decide +kernel
theorem V.dX4_operandType_114 : decode cX4_operandType 114 = .ok (.goto 4, 3) := by decide +kernel
theorem V.dX4_operandType_117 : decode cX4_operandType 117 = .ok (.iconst 1, 1) := by decide +kernel
theorem V.dX4_operandType_118 : decode cX4_operandType 118 = .ok (.ireturn, 1) := by decide +kernel
theorem V.dX4_operandType_119 : decode cX4_operandType 119 = .ok (.iload_n 1, 1) := by decide +kernel
theorem V.dX4_operandType_120 : decode cX4_operandType 120 = .ok (.tableswitch 120 167 190 #[112, 114, 114, 116, 116, 118, 118, 114, 114, 116, 116, 118, 118, 120, 120, 116, 118, 118, 120, 120, 114, 114, 116, 118], 112) := by decide +kernel
theorem V.dX4_operandType_232 : decode cX4_operandType 232 = .ok (.iconst 1, 1) := by decide +kernel
theorem V.dX4_operandType_233 : decode cX4_operandType 233 = .ok (.ireturn, 1) := by decide +kernel
theorem V.dX4_operandType_234 : decode cX4_operandType 234 = .ok (.iconst 2, 1) := by decide +kernel
theorem V.dX4_operandType_235 : decode cX4_operandType 235 = .ok (.ireturn, 1) := by decide +kernel
theorem V.dX4_operandType_236 : decode cX4_operandType 236 = .ok (.iconst 3, 1) := by decide +kernel
theorem V.dX4_operandType_237 : decode cX4_operandType 237 = .ok (.ireturn, 1) := by decide +kernel
theorem V.dX4_operandType_238 : decode cX4_operandType 238 = .ok (.iconst 0, 1) := by decide +kernel
theorem V.dX4_operandType_239 : decode cX4_operandType 239 = .ok (.ireturn, 1) := by decide +kernel
theorem V.dX4_operandType_240 : decode cX4_operandType 240 = .ok (.iconst 1, 1) := by decide +kernel
theorem V.dX4_operandType_241 : decode cX4_operandType 241 = .ok (.ireturn, 1) := by decide +kernel
/-! ModuleEngine$Numbers.operandType(I)I -/
def V.Num_operandType (σ : HS) (x0 : Nat) (x1 : Int32) : Option (Int32 × HS) :=
  if (91 : Int32) ≤ x1 then (
    if (103 : Int32) ≤ x1 then (
      if (139 : Int32) ≤ x1 then (
        if (167 : Int32) ≤ x1 then (
          if x1 < (200 : Int32) then (
            if x1 < (192 : Int32) then (
              swx x1 [
                (167, (
                  some ((1 : Int32), σ))),
                (168, (
                  some ((2 : Int32), σ))),
                (169, (
                  some ((2 : Int32), σ))),
                (170, (
                  some ((3 : Int32), σ))),
                (171, (
                  some ((3 : Int32), σ))),
                (172, (
                  some ((0 : Int32), σ))),
                (173, (
                  some ((0 : Int32), σ))),
                (174, (
                  some ((2 : Int32), σ))),
                (175, (
                  some ((2 : Int32), σ))),
                (176, (
                  some ((3 : Int32), σ))),
                (177, (
                  some ((3 : Int32), σ))),
                (178, (
                  some ((0 : Int32), σ))),
                (179, (
                  some ((0 : Int32), σ))),
                (182, (
                  some ((3 : Int32), σ))),
                (183, (
                  some ((0 : Int32), σ))),
                (184, (
                  some ((0 : Int32), σ))),
                (187, (
                  some ((2 : Int32), σ))),
                (188, (
                  some ((2 : Int32), σ))),
                (189, (
                  some ((3 : Int32), σ))),
                (190, (
                  some ((0 : Int32), σ)))
                ] (
                some ((1 : Int32), σ)))
            else (
              if (194 : Int32) ≤ x1 then (
                some ((1 : Int32), σ))
              else (
                some ((0 : Int32), σ))))
          else (
            ck (¬ (4 : Int32) = 0) <|
            if (2 : Int32) ≤ ((x1 - (200 : Int32)) - (x1 - (200 : Int32)) / (4 : Int32) * (4 : Int32)) then (
              some ((3 : Int32), σ))
            else (
              some ((2 : Int32), σ))))
        else (
          if (153 : Int32) ≤ x1 then (
            some ((3 : Int32), σ))
          else (
            some ((2 : Int32), σ))))
      else (
        if (121 : Int32) ≤ x1 then (
          some ((1 : Int32), σ))
        else (
          some ((0 : Int32), σ))))
    else (
      if (97 : Int32) ≤ x1 then (
        some ((3 : Int32), σ))
      else (
        some ((2 : Int32), σ))))
  else (
    if (80 : Int32) ≤ x1 then (
      some ((1 : Int32), σ))
    else (
      some ((0 : Int32), σ)))
theorem V.ctX4_operandType (x0 : Nat) (x1 : Int32) : Ct yX4_operandType  cX4_operandType 2 (some .int) 0 0 eI [av x0, iv x1] (fun σ => Num_operandType σ x0 x1) := by
  refine Ct.of (own := RX4) (nm := "operandType") (desc := "(I)I") rfl (by decide) (Nat.le_of_ble_eq_true rfl) (by decide) (fun X σ => ?_)
  show G X RX4 "operandType" cX4_operandType 2 (some .int) 0 0 enI 0 [(0, av x0), (1, iv x1)] [] σ (Num_operandType σ x0 x1)
  unfold Num_operandType
  refine g_iload_n 1 1 dX4_operandType_0 rfl rfl ?_
  refine g_bipush (v := 91) dX4_operandType_1 (by decide) ?_
  refine g_icmp_ge 18 dX4_operandType_3 (by decide) ?_ ?_
  · refine g_iload_n 1 1 dX4_operandType_18 rfl rfl ?_
    refine g_bipush (v := 103) dX4_operandType_19 (by decide) ?_
    refine g_icmp_ge 36 dX4_operandType_21 (by decide) ?_ ?_
    · refine g_iload_n 1 1 dX4_operandType_36 rfl rfl ?_
      refine g_sipush (v := 139) dX4_operandType_37 (by decide) ?_
      refine g_icmp_ge 55 dX4_operandType_40 (by decide) ?_ ?_
      · refine g_iload_n 1 1 dX4_operandType_55 rfl rfl ?_
        refine g_sipush (v := 167) dX4_operandType_56 (by decide) ?_
        refine g_icmp_ge 75 dX4_operandType_59 (by decide) ?_ ?_
        · refine g_iload_n 1 1 dX4_operandType_75 rfl rfl ?_
          refine g_sipush (v := 200) dX4_operandType_76 (by decide) ?_
          refine g_icmp_lt 99 dX4_operandType_79 (by decide) ?_ ?_
          · refine g_iload_n 1 1 dX4_operandType_99 rfl rfl ?_
            refine g_sipush (v := 192) dX4_operandType_100 (by decide) ?_
            refine g_icmp_lt 119 dX4_operandType_103 (by decide) ?_ ?_
            · refine g_iload_n 1 1 dX4_operandType_119 rfl rfl ?_
              refine g_tsw dX4_operandType_120 (by decide +kernel) ?_
              refine g_case ex0 (t := 232) (by decide +kernel) ?_ (fun hx => ?_)
              · refine g_iconst (v := 1) dX4_operandType_232 (by decide) ?_
                exact g_ireturn rfl dX4_operandType_233
              refine g_case hx (t := 234) (by decide +kernel) ?_ (fun hx => ?_)
              · refine g_iconst (v := 2) dX4_operandType_234 (by decide) ?_
                exact g_ireturn rfl dX4_operandType_235
              refine g_case hx (t := 234) (by decide +kernel) ?_ (fun hx => ?_)
              · refine g_iconst (v := 2) dX4_operandType_234 (by decide) ?_
                exact g_ireturn rfl dX4_operandType_235
              refine g_case hx (t := 236) (by decide +kernel) ?_ (fun hx => ?_)
              · refine g_iconst (v := 3) dX4_operandType_236 (by decide) ?_
                exact g_ireturn rfl dX4_operandType_237
              refine g_case hx (t := 236) (by decide +kernel) ?_ (fun hx => ?_)
              · refine g_iconst (v := 3) dX4_operandType_236 (by decide) ?_
                exact g_ireturn rfl dX4_operandType_237
              refine g_case hx (t := 238) (by decide +kernel) ?_ (fun hx => ?_)
              · refine g_iconst (v := 0) dX4_operandType_238 (by decide) ?_
                exact g_ireturn rfl dX4_operandType_239
              refine g_case hx (t := 238) (by decide +kernel) ?_ (fun hx => ?_)
              · refine g_iconst (v := 0) dX4_operandType_238 (by decide) ?_
                exact g_ireturn rfl dX4_operandType_239
              refine g_case hx (t := 234) (by decide +kernel) ?_ (fun hx => ?_)
              · refine g_iconst (v := 2) dX4_operandType_234 (by decide) ?_
                exact g_ireturn rfl dX4_operandType_235
              refine g_case hx (t := 234) (by decide +kernel) ?_ (fun hx => ?_)
              · refine g_iconst (v := 2) dX4_operandType_234 (by decide) ?_
                exact g_ireturn rfl dX4_operandType_235
              refine g_case hx (t := 236) (by decide +kernel) ?_ (fun hx => ?_)
              · refine g_iconst (v := 3) dX4_operandType_236 (by decide) ?_
                exact g_ireturn rfl dX4_operandType_237
              refine g_case hx (t := 236) (by decide +kernel) ?_ (fun hx => ?_)
              · refine g_iconst (v := 3) dX4_operandType_236 (by decide) ?_
                exact g_ireturn rfl dX4_operandType_237
              refine g_case hx (t := 238) (by decide +kernel) ?_ (fun hx => ?_)
              · refine g_iconst (v := 0) dX4_operandType_238 (by decide) ?_
                exact g_ireturn rfl dX4_operandType_239
              refine g_case hx (t := 238) (by decide +kernel) ?_ (fun hx => ?_)
              · refine g_iconst (v := 0) dX4_operandType_238 (by decide) ?_
                exact g_ireturn rfl dX4_operandType_239
              refine g_case hx (t := 236) (by decide +kernel) ?_ (fun hx => ?_)
              · refine g_iconst (v := 3) dX4_operandType_236 (by decide) ?_
                exact g_ireturn rfl dX4_operandType_237
              refine g_case hx (t := 238) (by decide +kernel) ?_ (fun hx => ?_)
              · refine g_iconst (v := 0) dX4_operandType_238 (by decide) ?_
                exact g_ireturn rfl dX4_operandType_239
              refine g_case hx (t := 238) (by decide +kernel) ?_ (fun hx => ?_)
              · refine g_iconst (v := 0) dX4_operandType_238 (by decide) ?_
                exact g_ireturn rfl dX4_operandType_239
              refine g_case hx (t := 234) (by decide +kernel) ?_ (fun hx => ?_)
              · refine g_iconst (v := 2) dX4_operandType_234 (by decide) ?_
                exact g_ireturn rfl dX4_operandType_235
              refine g_case hx (t := 234) (by decide +kernel) ?_ (fun hx => ?_)
              · refine g_iconst (v := 2) dX4_operandType_234 (by decide) ?_
                exact g_ireturn rfl dX4_operandType_235
              refine g_case hx (t := 236) (by decide +kernel) ?_ (fun hx => ?_)
              · refine g_iconst (v := 3) dX4_operandType_236 (by decide) ?_
                exact g_ireturn rfl dX4_operandType_237
              refine g_case hx (t := 238) (by decide +kernel) ?_ (fun hx => ?_)
              · refine g_iconst (v := 0) dX4_operandType_238 (by decide) ?_
                exact g_ireturn rfl dX4_operandType_239
              refine g_dflt (t := 240) (tswT_d (by decide +kernel) (by decide +kernel) hx) ?_
              refine g_iconst (v := 1) dX4_operandType_240 (by decide) ?_
              exact g_ireturn rfl dX4_operandType_241
            · refine g_iload_n 1 1 dX4_operandType_106 rfl rfl ?_
              refine g_sipush (v := 194) dX4_operandType_107 (by decide) ?_
              refine g_icmp_ge 117 dX4_operandType_110 (by decide) ?_ ?_
              · refine g_iconst (v := 1) dX4_operandType_117 (by decide) ?_
                exact g_ireturn rfl dX4_operandType_118
              · refine g_iconst (v := 0) dX4_operandType_113 (by decide) ?_
                refine g_goto 118 dX4_operandType_114 (by decide) ?_
                exact g_ireturn rfl dX4_operandType_118
          · refine g_iload_n 1 1 dX4_operandType_82 rfl rfl ?_
            refine g_sipush (v := 200) dX4_operandType_83 (by decide) ?_
            refine g_isub dX4_operandType_86 ?_
            refine g_iconst (v := 4) dX4_operandType_87 (by decide) ?_
            refine g_irem dX4_operandType_88 ?_
            refine g_iconst (v := 2) dX4_operandType_89 (by decide) ?_
            refine g_icmp_ge 97 dX4_operandType_90 (by decide) ?_ ?_
            · refine g_iconst (v := 3) dX4_operandType_97 (by decide) ?_
              exact g_ireturn rfl dX4_operandType_98
            · refine g_iconst (v := 2) dX4_operandType_93 (by decide) ?_
              refine g_goto 98 dX4_operandType_94 (by decide) ?_
              exact g_ireturn rfl dX4_operandType_98
        · refine g_iload_n 1 1 dX4_operandType_62 rfl rfl ?_
          refine g_sipush (v := 153) dX4_operandType_63 (by decide) ?_
          refine g_icmp_ge 73 dX4_operandType_66 (by decide) ?_ ?_
          · refine g_iconst (v := 3) dX4_operandType_73 (by decide) ?_
            exact g_ireturn rfl dX4_operandType_74
          · refine g_iconst (v := 2) dX4_operandType_69 (by decide) ?_
            refine g_goto 74 dX4_operandType_70 (by decide) ?_
            exact g_ireturn rfl dX4_operandType_74
      · refine g_iload_n 1 1 dX4_operandType_43 rfl rfl ?_
        refine g_bipush (v := 121) dX4_operandType_44 (by decide) ?_
        refine g_icmp_ge 53 dX4_operandType_46 (by decide) ?_ ?_
        · refine g_iconst (v := 1) dX4_operandType_53 (by decide) ?_
          exact g_ireturn rfl dX4_operandType_54
        · refine g_iconst (v := 0) dX4_operandType_49 (by decide) ?_
          refine g_goto 54 dX4_operandType_50 (by decide) ?_
          exact g_ireturn rfl dX4_operandType_54
    · refine g_iload_n 1 1 dX4_operandType_24 rfl rfl ?_
      refine g_bipush (v := 97) dX4_operandType_25 (by decide) ?_
      refine g_icmp_ge 34 dX4_operandType_27 (by decide) ?_ ?_
      · refine g_iconst (v := 3) dX4_operandType_34 (by decide) ?_
        exact g_ireturn rfl dX4_operandType_35
      · refine g_iconst (v := 2) dX4_operandType_30 (by decide) ?_
        refine g_goto 35 dX4_operandType_31 (by decide) ?_
        exact g_ireturn rfl dX4_operandType_35
  · refine g_iload_n 1 1 dX4_operandType_6 rfl rfl ?_
    refine g_bipush (v := 80) dX4_operandType_7 (by decide) ?_
    refine g_icmp_ge 16 dX4_operandType_9 (by decide) ?_ ?_
    · refine g_iconst (v := 1) dX4_operandType_16 (by decide) ?_
      exact g_ireturn rfl dX4_operandType_17
    · refine g_iconst (v := 0) dX4_operandType_12 (by decide) ?_
      refine g_goto 17 dX4_operandType_13 (by decide) ?_
      exact g_ireturn rfl dX4_operandType_17
theorem V.dX4_format_0 : decode cX4_format 0 = .ok (.iload_n 1, 1) := by decide +kernel
theorem V.dX4_format_1 : decode cX4_format 1 = .ok (.iconst 2, 1) := by decide +kernel
theorem V.dX4_format_2 : decode cX4_format 2 = .ok (.if_icmp .ne 10, 3) := by decide +kernel
theorem V.dX4_format_5 : decode cX4_format 5 = .ok (.aload_n 0, 1) := by decide +kernel
theorem V.dX4_format_6 : decode cX4_format 6 = .ok (.getfield 12, 3) := by decide +kernel
theorem V.dX4_format_9 : decode cX4_format 9 = .ok (.goto 7, 3) := by decide +kernel
theorem V.dX4_format_12 : decode cX4_format 12 = .ok (.aload_n 0, 1) := by decide +kernel
theorem V.dX4_format_13 : decode cX4_format 13 = .ok (.getfield 18, 3) := by decide +kernel
theorem V.dX4_format_16 : decode cX4_format 16 = .ok (.areturn, 1) := by decide +kernel
theorem V.fdX4_18 : FD RX4 18 4 1 2 := ⟨(RX4, TX4, 4), tyX4, rfl, rfl, in_X4, by decide, Or.inl q607, rfl⟩
theorem V.fdX4_12 : FD RX4 12 4 0 2 := ⟨(RX4, TX4, 4), tyX4, rfl, rfl, in_X4, by decide, Or.inl q606, rfl⟩
/-! ModuleEngine$Numbers.format(I)LModuleEngine$Numbers$Format; -/
def V.Num_format (σ : HS) (x0 : Nat) (x1 : Int32) : Option (Nat × HS) :=
  if x1 = (2 : Int32) then (
    ck (tg σ x0 = 5) <|
    some (gR σ x0 0, σ))
  else (
    ck (tg σ x0 = 5) <|
    some (gR σ x0 1, σ))
theorem V.ctX4_format (x0 : Nat) (x1 : Int32) : Ct yX4_format  cX4_format 2 (some (.object "ModuleEngine$Numbers$Format")) 0 0 enR [av x0, iv x1] (fun σ => Num_format σ x0 x1) := by
  refine Ct.of (own := RX4) (nm := "format") (desc := "(I)LModuleEngine$Numbers$Format;") rfl (by decide) (Nat.le_of_ble_eq_true rfl) (by decide) (fun X σ => ?_)
  show G X RX4 "format" cX4_format 2 (some (.object "ModuleEngine$Numbers$Format")) 0 0 (enR (cxz X)) 0 [(0, av x0), (1, iv x1)] [] σ (Num_format σ x0 x1)
  unfold Num_format
  refine g_iload_n 1 1 dX4_format_0 rfl rfl ?_
  refine g_iconst (v := 2) dX4_format_1 (by decide) ?_
  refine g_icmp_ne 12 dX4_format_2 (by decide) ?_ ?_
  · refine g_aload_n 0 0 dX4_format_12 rfl rfl ?_
    refine g_getR fdX4_18 dX4_format_13 ?_
    exact g_areturn rfl dX4_format_16
  · refine g_aload_n 0 0 dX4_format_5 rfl rfl ?_
    refine g_getR fdX4_12 dX4_format_6 ?_
    refine g_goto 16 dX4_format_9 (by decide) ?_
    exact g_areturn rfl dX4_format_16
theorem V.dX4_compareFloating_0 : decode cX4_compareFloating 0 = .ok (.aload_n 0, 1) := by decide +kernel
theorem V.dX4_compareFloating_1 : decode cX4_compareFloating 1 = .ok (.lload_n 2, 1) := by decide +kernel
theorem V.dX4_compareFloating_2 : decode cX4_compareFloating 2 = .ok (.invokevirtual 95, 3) := by decide +kernel
theorem V.dX4_compareFloating_5 : decode cX4_compareFloating 5 = .ok (.ifCond .ne 12, 3) := by decide +kernel
theorem V.dX4_compareFloating_8 : decode cX4_compareFloating 8 = .ok (.aload_n 0, 1) := by decide +kernel
theorem V.dX4_compareFloating_9 : decode cX4_compareFloating 9 = .ok (.lload 4, 2) := by decide +kernel
theorem V.dX4_compareFloating_11 : decode cX4_compareFloating 11 = .ok (.invokevirtual 95, 3) := by decide +kernel
theorem V.dX4_compareFloating_14 : decode cX4_compareFloating 14 = .ok (.ifCond .eq 14, 3) := by decide +kernel
theorem V.dX4_compareFloating_17 : decode cX4_compareFloating 17 = .ok (.iload_n 1, 1) := by decide +kernel
theorem V.dX4_compareFloating_18 : decode cX4_compareFloating 18 = .ok (.iconst 1, 1) := by decide +kernel
theorem V.dX4_compareFloating_19 : decode cX4_compareFloating 19 = .ok (.if_icmp .ne 7, 3) := by decide +kernel
theorem V.dX4_compareFloating_22 : decode cX4_compareFloating 22 = .ok (.iconst 1, 1) := by decide +kernel
theorem V.dX4_compareFloating_23 : decode cX4_compareFloating 23 = .ok (.goto 4, 3) := by decide +kernel
theorem V.dX4_compareFloating_26 : decode cX4_compareFloating 26 = .ok (.iconst 0, 1) := by decide +kernel
theorem V.dX4_compareFloating_27 : decode cX4_compareFloating 27 = .ok (.ireturn, 1) := by decide +kernel
theorem V.dX4_compareFloating_28 : decode cX4_compareFloating 28 = .ok (.aload_n 0, 1) := by decide +kernel
theorem V.dX4_compareFloating_29 : decode cX4_compareFloating 29 = .ok (.lload_n 2, 1) := by decide +kernel
theorem V.dX4_compareFloating_30 : decode cX4_compareFloating 30 = .ok (.invokevirtual 99, 3) := by decide +kernel
theorem V.dX4_compareFloating_33 : decode cX4_compareFloating 33 = .ok (.ifCond .eq 12, 3) := by decide +kernel
theorem V.dX4_compareFloating_36 : decode cX4_compareFloating 36 = .ok (.aload_n 0, 1) := by decide +kernel
theorem V.dX4_compareFloating_37 : decode cX4_compareFloating 37 = .ok (.lload_n 2, 1) := by decide +kernel
theorem V.dX4_compareFloating_38 : decode cX4_compareFloating 38 = .ok (.invokevirtual 102, 3) := by decide +kernel
theorem V.dX4_compareFloating_41 : decode cX4_compareFloating 41 = .ok (.lneg, 1) := by decide +kernel
theorem V.dX4_compareFloating_42 : decode cX4_compareFloating 42 = .ok (.goto 8, 3) := by decide +kernel
theorem V.dX4_compareFloating_45 : decode cX4_compareFloating 45 = .ok (.aload_n 0, 1) := by decide +kernel
theorem V.dX4_compareFloating_46 : decode cX4_compareFloating 46 = .ok (.lload_n 2, 1) := by decide +kernel
theorem V.dX4_compareFloating_47 : decode cX4_compareFloating 47 = .ok (.invokevirtual 102, 3) := by decide +kernel
theorem V.dX4_compareFloating_50 : decode cX4_compareFloating 50 = .ok (.lstore 6, 2) := by decide +kernel
theorem V.dX4_compareFloating_52 : decode cX4_compareFloating 52 = .ok (.aload_n 0, 1) := by decide +kernel
theorem V.dX4_compareFloating_53 : decode cX4_compareFloating 53 = .ok (.lload 4, 2) := by decide +kernel
theorem V.dX4_compareFloating_55 : decode cX4_compareFloating 55 = .ok (.invokevirtual 99, 3) := by decide +kernel
theorem V.dX4_compareFloating_58 : decode cX4_compareFloating 58 = .ok (.ifCond .eq 13, 3) := by decide +kernel
theorem V.dX4_compareFloating_61 : decode cX4_compareFloating 61 = .ok (.aload_n 0, 1) := by decide +kernel
theorem V.dX4_compareFloating_62 : decode cX4_compareFloating 62 = .ok (.lload 4, 2) := by decide +kernel
theorem V.dX4_compareFloating_64 : decode cX4_compareFloating 64 = .ok (.invokevirtual 102, 3) := by decide +kernel
theorem V.dX4_compareFloating_67 : decode cX4_compareFloating 67 = .ok (.lneg, 1) := by decide +kernel
theorem V.dX4_compareFloating_68 : decode cX4_compareFloating 68 = .ok (.goto 9, 3) := by decide +kernel
theorem V.dX4_compareFloating_71 : decode cX4_compareFloating 71 = .ok (.aload_n 0, 1) := by decide +kernel
theorem V.dX4_compareFloating_72 : decode cX4_compareFloating 72 = .ok (.lload 4, 2) := by decide +kernel
theorem V.dX4_compareFloating_74 : decode cX4_compareFloating 74 = .ok (.invokevirtual 102, 3) := by decide +kernel
theorem V.dX4_compareFloating_77 : decode cX4_compareFloating 77 = .ok (.lstore 8, 2) := by decide +kernel
theorem V.dX4_compareFloating_79 : decode cX4_compareFloating 79 = .ok (.iload_n 1, 1) := by decide +kernel
theorem V.dX4_compareFloating_80 : decode cX4_compareFloating 80 = .ok (.tableswitch 106 0 4 #[36, 50, 64, 78, 92], 36) := by decide +kernel
theorem V.dX4_compareFloating_116 : decode cX4_compareFloating 116 = .ok (.lload 6, 2) := by decide +kernel
theorem V.dX4_compareFloating_118 : decode cX4_compareFloating 118 = .ok (.lload 8, 2) := by decide +kernel
theorem V.dX4_compareFloating_120 : decode cX4_compareFloating 120 = .ok (.lcmp, 1) := by decide +kernel
theorem V.dX4_compareFloating_121 : decode cX4_compareFloating 121 = .ok (.ifCond .ne 7, 3) := by decide +kernel
theorem V.dX4_compareFloating_124 : decode cX4_compareFloating 124 = .ok (.iconst 1, 1) := by decide +kernel
theorem V.dX4_compareFloating_125 : decode cX4_compareFloating 125 = .ok (.goto 4, 3) := by decide +kernel
theorem V.dX4_compareFloating_128 : decode cX4_compareFloating 128 = .ok (.iconst 0, 1) := by decide +kernel
theorem V.dX4_compareFloating_129 : decode cX4_compareFloating 129 = .ok (.ireturn, 1) := by decide +kernel
theorem V.dX4_compareFloating_130 : decode cX4_compareFloating 130 = .ok (.lload 6, 2) := by decide +kernel
theorem V.dX4_compareFloating_132 : decode cX4_compareFloating 132 = .ok (.lload 8, 2) := by decide +kernel
theorem V.dX4_compareFloating_134 : decode cX4_compareFloating 134 = .ok (.lcmp, 1) := by decide +kernel
theorem V.dX4_compareFloating_135 : decode cX4_compareFloating 135 = .ok (.ifCond .eq 7, 3) := by decide +kernel
theorem V.dX4_compareFloating_138 : decode cX4_compareFloating 138 = .ok (.iconst 1, 1) := by decide +kernel
theorem V.dX4_compareFloating_139 : decode cX4_compareFloating 139 = .ok (.goto 4, 3) := by decide +kernel
theorem V.dX4_compareFloating_142 : decode cX4_compareFloating 142 = .ok (.iconst 0, 1) := by decide +kernel
theorem V.dX4_compareFloating_143 : decode cX4_compareFloating 143 = .ok (.ireturn, 1) := by decide +kernel
theorem V.dX4_compareFloating_144 : decode cX4_compareFloating 144 = .ok (.lload 6, 2) := by decide +kernel
theorem V.dX4_compareFloating_146 : decode cX4_compareFloating 146 = .ok (.lload 8, 2) := by decide +kernel
theorem V.dX4_compareFloating_148 : decode cX4_compareFloating 148 = .ok (.lcmp, 1) := by decide +kernel
theorem V.dX4_compareFloating_149 : decode cX4_compareFloating 149 = .ok (.ifCond .ge 7, 3) := by decide +kernel
theorem V.dX4_compareFloating_152 : decode cX4_compareFloating 152 = .ok (.iconst 1, 1) := by decide +kernel
theorem V.dX4_compareFloating_153 : decode cX4_compareFloating 153 = .ok (.goto 4, 3) := by decide +kernel
theorem V.dX4_compareFloating_156 : decode cX4_compareFloating 156 = .ok (.iconst 0, 1) := by decide +kernel
theorem V.dX4_compareFloating_157 : decode cX4_compareFloating 157 = .ok (.ireturn, 1) := by decide +kernel
theorem V.dX4_compareFloating_158 : decode cX4_compareFloating 158 = .ok (.lload 6, 2) := by decide +kernel
theorem V.dX4_compareFloating_160 : decode cX4_compareFloating 160 = .ok (.lload 8, 2) := by decide +kernel
theorem V.dX4_compareFloating_162 : decode cX4_compareFloating 162 = .ok (.lcmp, 1) := by decide +kernel
theorem V.dX4_compareFloating_163 : decode cX4_compareFloating 163 = .ok (.ifCond .le 7, 3) := by decide +kernel
theorem V.dX4_compareFloating_166 : decode cX4_compareFloating 166 = .ok (.iconst 1, 1) := by decide +kernel
theorem V.dX4_compareFloating_167 : decode cX4_compareFloating 167 = .ok (.goto 4, 3) := by decide +kernel
theorem V.dX4_compareFloating_170 : decode cX4_compareFloating 170 = .ok (.iconst 0, 1) := by decide +kernel
theorem V.dX4_compareFloating_171 : decode cX4_compareFloating 171 = .ok (.ireturn, 1) := by decide +kernel
theorem V.dX4_compareFloating_172 : decode cX4_compareFloating 172 = .ok (.lload 6, 2) := by decide +kernel
theorem V.dX4_compareFloating_174 : decode cX4_compareFloating 174 = .ok (.lload 8, 2) := by decide +kernel
theorem V.dX4_compareFloating_176 : decode cX4_compareFloating 176 = .ok (.lcmp, 1) := by decide +kernel
theorem V.dX4_compareFloating_177 : decode cX4_compareFloating 177 = .ok (.ifCond .gt 7, 3) := by decide +kernel
theorem V.dX4_compareFloating_180 : decode cX4_compareFloating 180 = .ok (.iconst 1, 1) := by decide +kernel
theorem V.dX4_compareFloating_181 : decode cX4_compareFloating 181 = .ok (.goto 4, 3) := by decide +kernel
theorem V.dX4_compareFloating_184 : decode cX4_compareFloating 184 = .ok (.iconst 0, 1) := by decide +kernel
theorem V.dX4_compareFloating_185 : decode cX4_compareFloating 185 = .ok (.ireturn, 1) := by decide +kernel
theorem V.dX4_compareFloating_186 : decode cX4_compareFloating 186 = .ok (.lload 6, 2) := by decide +kernel
theorem V.dX4_compareFloating_188 : decode cX4_compareFloating 188 = .ok (.lload 8, 2) := by decide +kernel
theorem V.dX4_compareFloating_190 : decode cX4_compareFloating 190 = .ok (.lcmp, 1) := by decide +kernel
theorem V.dX4_compareFloating_191 : decode cX4_compareFloating 191 = .ok (.ifCond .lt 7, 3) := by decide +kernel
theorem V.dX4_compareFloating_194 : decode cX4_compareFloating 194 = .ok (.iconst 1, 1) := by decide +kernel
theorem V.dX4_compareFloating_195 : decode cX4_compareFloating 195 = .ok (.goto 4, 3) := by decide +kernel
theorem V.dX4_compareFloating_198 : decode cX4_compareFloating 198 = .ok (.iconst 0, 1) := by decide +kernel
theorem V.dX4_compareFloating_199 : decode cX4_compareFloating 199 = .ok (.ireturn, 1) := by decide +kernel
theorem V.mdX4_95 : MD RX4 95 yX5_isNone cX5_isNone 3 (some .boolean) 1 := ⟨Or.inl q2535, q365, q2538, by decide, by decide, by decide +kernel⟩
theorem V.mdX4_99 : MD RX4 99 yX5_sign cX5_sign 3 (some .boolean) 1 := ⟨Or.inl q2547, q365, q2550, by decide, by decide, by decide +kernel⟩
theorem V.mdX4_102 : MD RX4 102 yX5_rest cX5_rest 3 (some .long) 1 := ⟨Or.inl q2551, q365, q2542, by decide, by decide, by decide +kernel⟩
/-! ModuleEngine$Numbers.compareFloating(LModuleEngine$Numbers$Format;IJJ)Z -/
def V.Num_compareFloating_p17  (σ : HS) (x1 : Int32) : Option (Int32 × HS) :=
  if x1 = (1 : Int32) then (
    some ((1 : Int32), σ))
  else (
    some ((0 : Int32), σ))
theorem V.gX4_compareFloating_p17 {X : CX}  (σ : HS) (x1 : Int32) : G X RX4 "compareFloating" cX4_compareFloating 10 (some .boolean) 3 64 enI 17 [(1, iv x1)] [] σ (Num_compareFloating_p17 σ x1) := by
  unfold Num_compareFloating_p17
  refine g_iload_n 1 0 dX4_compareFloating_17 rfl rfl ?_
  refine g_iconst (v := 1) dX4_compareFloating_18 (by decide) ?_
  refine g_icmp_ne 26 dX4_compareFloating_19 (by decide) ?_ ?_
  · refine g_iconst (v := 0) dX4_compareFloating_26 (by decide) ?_
    exact g_zreturn rfl (by decide +kernel) dX4_compareFloating_27
  · refine g_iconst (v := 1) dX4_compareFloating_22 (by decide) ?_
    refine g_goto 27 dX4_compareFloating_23 (by decide) ?_
    exact g_zreturn rfl (by decide +kernel) dX4_compareFloating_27
def V.Num_compareFloating_p77  (σ : HS) (x1 : Int32) (x6 : Int64) (s0 : Int64) : Option (Int32 × HS) :=
  swx x1 [
    (0, (
      if x6 = s0 then (
        some ((1 : Int32), σ))
      else (
        some ((0 : Int32), σ)))),
    (1, (
      if x6 = s0 then (
        some ((0 : Int32), σ))
      else (
        some ((1 : Int32), σ)))),
    (2, (
      if s0 ≤ x6 then (
        some ((0 : Int32), σ))
      else (
        some ((1 : Int32), σ)))),
    (3, (
      if x6 ≤ s0 then (
        some ((0 : Int32), σ))
      else (
        some ((1 : Int32), σ)))),
    (4, (
      if s0 < x6 then (
        some ((0 : Int32), σ))
      else (
        some ((1 : Int32), σ))))
    ] (
    if x6 < s0 then (
      some ((0 : Int32), σ))
    else (
      some ((1 : Int32), σ)))
theorem V.gX4_compareFloating_p77 {X : CX}  (σ : HS) (x1 : Int32) (x6 : Int64) (s0 : Int64) : G X RX4 "compareFloating" cX4_compareFloating 10 (some .boolean) 3 64 enI 77 [(1, iv x1), (6, jv x6)] [jv s0] σ (Num_compareFloating_p77 σ x1 x6 s0) := by
  unfold Num_compareFloating_p77
  refine g_lstore dX4_compareFloating_77 (by decide) rfl ?_
  refine g_iload_n 1 1 dX4_compareFloating_79 rfl rfl ?_
  refine g_tsw dX4_compareFloating_80 (by decide +kernel) ?_
  refine g_case ex0 (t := 116) (by decide +kernel) ?_ (fun hx => ?_)
  · refine g_lload 2 dX4_compareFloating_116 rfl ?_
    refine g_lload 0 dX4_compareFloating_118 rfl ?_
    refine g_lcmp_ne 128 dX4_compareFloating_120 dX4_compareFloating_121 (by decide) ?_ ?_
    · refine g_iconst (v := 0) dX4_compareFloating_128 (by decide) ?_
      exact g_zreturn rfl (by decide +kernel) dX4_compareFloating_129
    · refine g_iconst (v := 1) dX4_compareFloating_124 (by decide) ?_
      refine g_goto 129 dX4_compareFloating_125 (by decide) ?_
      exact g_zreturn rfl (by decide +kernel) dX4_compareFloating_129
  refine g_case hx (t := 130) (by decide +kernel) ?_ (fun hx => ?_)
  · refine g_lload 2 dX4_compareFloating_130 rfl ?_
    refine g_lload 0 dX4_compareFloating_132 rfl ?_
    refine g_lcmp_eq 142 dX4_compareFloating_134 dX4_compareFloating_135 (by decide) ?_ ?_
    · refine g_iconst (v := 0) dX4_compareFloating_142 (by decide) ?_
      exact g_zreturn rfl (by decide +kernel) dX4_compareFloating_143
    · refine g_iconst (v := 1) dX4_compareFloating_138 (by decide) ?_
      refine g_goto 143 dX4_compareFloating_139 (by decide) ?_
      exact g_zreturn rfl (by decide +kernel) dX4_compareFloating_143
  refine g_case hx (t := 144) (by decide +kernel) ?_ (fun hx => ?_)
  · refine g_lload 2 dX4_compareFloating_144 rfl ?_
    refine g_lload 0 dX4_compareFloating_146 rfl ?_
    refine g_lcmp_ge 156 dX4_compareFloating_148 dX4_compareFloating_149 (by decide) ?_ ?_
    · refine g_iconst (v := 0) dX4_compareFloating_156 (by decide) ?_
      exact g_zreturn rfl (by decide +kernel) dX4_compareFloating_157
    · refine g_iconst (v := 1) dX4_compareFloating_152 (by decide) ?_
      refine g_goto 157 dX4_compareFloating_153 (by decide) ?_
      exact g_zreturn rfl (by decide +kernel) dX4_compareFloating_157
  refine g_case hx (t := 158) (by decide +kernel) ?_ (fun hx => ?_)
  · refine g_lload 2 dX4_compareFloating_158 rfl ?_
    refine g_lload 0 dX4_compareFloating_160 rfl ?_
    refine g_lcmp_le 170 dX4_compareFloating_162 dX4_compareFloating_163 (by decide) ?_ ?_
    · refine g_iconst (v := 0) dX4_compareFloating_170 (by decide) ?_
      exact g_zreturn rfl (by decide +kernel) dX4_compareFloating_171
    · refine g_iconst (v := 1) dX4_compareFloating_166 (by decide) ?_
      refine g_goto 171 dX4_compareFloating_167 (by decide) ?_
      exact g_zreturn rfl (by decide +kernel) dX4_compareFloating_171
  refine g_case hx (t := 172) (by decide +kernel) ?_ (fun hx => ?_)
  · refine g_lload 2 dX4_compareFloating_172 rfl ?_
    refine g_lload 0 dX4_compareFloating_174 rfl ?_
    refine g_lcmp_gt 184 dX4_compareFloating_176 dX4_compareFloating_177 (by decide) ?_ ?_
    · refine g_iconst (v := 0) dX4_compareFloating_184 (by decide) ?_
      exact g_zreturn rfl (by decide +kernel) dX4_compareFloating_185
    · refine g_iconst (v := 1) dX4_compareFloating_180 (by decide) ?_
      refine g_goto 185 dX4_compareFloating_181 (by decide) ?_
      exact g_zreturn rfl (by decide +kernel) dX4_compareFloating_185
  refine g_dflt (t := 186) (tswT_d (by decide +kernel) (by decide +kernel) hx) ?_
  refine g_lload 2 dX4_compareFloating_186 rfl ?_
  refine g_lload 0 dX4_compareFloating_188 rfl ?_
  refine g_lcmp_lt 198 dX4_compareFloating_190 dX4_compareFloating_191 (by decide) ?_ ?_
  · refine g_iconst (v := 0) dX4_compareFloating_198 (by decide) ?_
    exact g_zreturn rfl (by decide +kernel) dX4_compareFloating_199
  · refine g_iconst (v := 1) dX4_compareFloating_194 (by decide) ?_
    refine g_goto 199 dX4_compareFloating_195 (by decide) ?_
    exact g_zreturn rfl (by decide +kernel) dX4_compareFloating_199
def V.Num_compareFloating_p50  (σ : HS) (x0 : Nat) (x1 : Int32) (x4 : Int64) (s0 : Int64) : Option (Int32 × HS) :=
  ck (tg σ x0 = 6) <| cl (Fmt_sign σ x0 x4) fun r2 σ1 =>
  if r2 = 0 then (
    ck (tg σ1 x0 = 6) <| cl (Fmt_rest σ1 x0 x4) fun r4 σ3 =>
    Num_compareFloating_p77 σ3 x1 s0 r4)
  else (
    ck (tg σ1 x0 = 6) <| cl (Fmt_rest σ1 x0 x4) fun r6 σ5 =>
    Num_compareFloating_p77 σ5 x1 s0 (-r6))
theorem V.gX4_compareFloating_p50 {X : CX}  (σ : HS) (x0 : Nat) (x1 : Int32) (x4 : Int64) (s0 : Int64) : G X RX4 "compareFloating" cX4_compareFloating 10 (some .boolean) 3 64 enI 50 [(0, av x0), (1, iv x1), (4, jv x4)] [jv s0] σ (Num_compareFloating_p50 σ x0 x1 x4 s0) := by
  unfold Num_compareFloating_p50
  refine g_lstore dX4_compareFloating_50 (by decide) rfl ?_
  refine g_aload_n 0 1 dX4_compareFloating_52 rfl rfl ?_
  refine g_lload 3 dX4_compareFloating_53 rfl ?_
  refine g_callV (fc := fun sς => Fmt_sign sς x0 x4) (ci := 5) (as := [jv x4]) rfl rfl rfl q2548 q2549 mdX4_99 (ctX5_sign x0 x4) rfl (Nat.le_of_ble_eq_true rfl) (Nat.le_of_ble_eq_true rfl) (Nat.le_of_ble_eq_true rfl) pu_I dX4_compareFloating_55 (fun r2 σ1 => ?_)
  refine g_if_eq 71 dX4_compareFloating_58 (by decide) ?_ ?_
  · refine g_aload_n 0 1 dX4_compareFloating_71 rfl rfl ?_
    refine g_lload 3 dX4_compareFloating_72 rfl ?_
    refine g_callV (fc := fun sς => Fmt_rest sς x0 x4) (ci := 5) (as := [jv x4]) rfl rfl rfl q2540 q2541 mdX4_102 (ctX5_rest x0 x4) rfl (Nat.le_of_ble_eq_true rfl) (Nat.le_of_ble_eq_true rfl) (Nat.le_of_ble_eq_true rfl) pu_J dX4_compareFloating_74 (fun r4 σ3 => ?_)
    refine G.sub [2, 0] rfl ?_
    exact gX4_compareFloating_p77 _ _ _ _
  · refine g_aload_n 0 1 dX4_compareFloating_61 rfl rfl ?_
    refine g_lload 3 dX4_compareFloating_62 rfl ?_
    refine g_callV (fc := fun sς => Fmt_rest sς x0 x4) (ci := 5) (as := [jv x4]) rfl rfl rfl q2540 q2541 mdX4_102 (ctX5_rest x0 x4) rfl (Nat.le_of_ble_eq_true rfl) (Nat.le_of_ble_eq_true rfl) (Nat.le_of_ble_eq_true rfl) pu_J dX4_compareFloating_64 (fun r6 σ5 => ?_)
    refine g_lneg dX4_compareFloating_67 ?_
    refine g_goto 77 dX4_compareFloating_68 (by decide) ?_
    refine G.sub [2, 0] rfl ?_
    exact gX4_compareFloating_p77 _ _ _ _
def V.Num_compareFloating (σ : HS) (x0 : Nat) (x1 : Int32) (x2 : Int64) (x4 : Int64) : Option (Int32 × HS) :=
  ck (tg σ x0 = 6) <| cl (Fmt_isNone σ x0 x2) fun r2 σ1 =>
  if r2 = 0 then (
    ck (tg σ1 x0 = 6) <| cl (Fmt_isNone σ1 x0 x4) fun r4 σ3 =>
    if r4 = 0 then (
      ck (tg σ3 x0 = 6) <| cl (Fmt_sign σ3 x0 x2) fun r6 σ5 =>
      if r6 = 0 then (
        ck (tg σ5 x0 = 6) <| cl (Fmt_rest σ5 x0 x2) fun r8 σ7 =>
        Num_compareFloating_p50 σ7 x0 x1 x4 r8)
      else (
        ck (tg σ5 x0 = 6) <| cl (Fmt_rest σ5 x0 x2) fun r10 σ9 =>
        Num_compareFloating_p50 σ9 x0 x1 x4 (-r10)))
    else (
      Num_compareFloating_p17 σ3 x1))
  else (
    Num_compareFloating_p17 σ1 x1)
theorem V.ctX4_compareFloating (x0 : Nat) (x1 : Int32) (x2 : Int64) (x4 : Int64) : Ct yX4_compareFloating  cX4_compareFloating 10 (some .boolean) 3 64 eI [av x0, iv x1, jv x2, jv x4] (fun σ => Num_compareFloating σ x0 x1 x2 x4) := by
  refine Ct.of (own := RX4) (nm := "compareFloating") (desc := "(LModuleEngine$Numbers$Format;IJJ)Z") rfl (by decide) (Nat.le_of_ble_eq_true rfl) (by decide) (fun X σ => ?_)
  show G X RX4 "compareFloating" cX4_compareFloating 10 (some .boolean) 3 64 enI 0 [(0, av x0), (1, iv x1), (2, jv x2), (4, jv x4)] [] σ (Num_compareFloating σ x0 x1 x2 x4)
  unfold Num_compareFloating
  refine g_aload_n 0 0 dX4_compareFloating_0 rfl rfl ?_
  refine g_lload_n 2 2 dX4_compareFloating_1 rfl rfl ?_
  refine g_callV (fc := fun sς => Fmt_isNone sς x0 x2) (ci := 5) (as := [jv x2]) rfl rfl rfl q2536 q2537 mdX4_95 (ctX5_isNone x0 x2) rfl (Nat.le_of_ble_eq_true rfl) (Nat.le_of_ble_eq_true rfl) (Nat.le_of_ble_eq_true rfl) pu_I dX4_compareFloating_2 (fun r2 σ1 => ?_)
  refine g_if_ne 17 dX4_compareFloating_5 (by decide) ?_ ?_
  · refine G.sub [1] rfl ?_
    exact gX4_compareFloating_p17 _ _
  · refine g_aload_n 0 0 dX4_compareFloating_8 rfl rfl ?_
    refine g_lload 3 dX4_compareFloating_9 rfl ?_
    refine g_callV (fc := fun sς => Fmt_isNone sς x0 x4) (ci := 5) (as := [jv x4]) rfl rfl rfl q2536 q2537 mdX4_95 (ctX5_isNone x0 x4) rfl (Nat.le_of_ble_eq_true rfl) (Nat.le_of_ble_eq_true rfl) (Nat.le_of_ble_eq_true rfl) pu_I dX4_compareFloating_11 (fun r4 σ3 => ?_)
    refine g_if_eq 28 dX4_compareFloating_14 (by decide) ?_ ?_
    · refine g_aload_n 0 0 dX4_compareFloating_28 rfl rfl ?_
      refine g_lload_n 2 2 dX4_compareFloating_29 rfl rfl ?_
      refine g_callV (fc := fun sς => Fmt_sign sς x0 x2) (ci := 5) (as := [jv x2]) rfl rfl rfl q2548 q2549 mdX4_99 (ctX5_sign x0 x2) rfl (Nat.le_of_ble_eq_true rfl) (Nat.le_of_ble_eq_true rfl) (Nat.le_of_ble_eq_true rfl) pu_I dX4_compareFloating_30 (fun r6 σ5 => ?_)
      refine g_if_eq 45 dX4_compareFloating_33 (by decide) ?_ ?_
      · refine g_aload_n 0 0 dX4_compareFloating_45 rfl rfl ?_
        refine g_lload_n 2 2 dX4_compareFloating_46 rfl rfl ?_
        refine g_callV (fc := fun sς => Fmt_rest sς x0 x2) (ci := 5) (as := [jv x2]) rfl rfl rfl q2540 q2541 mdX4_102 (ctX5_rest x0 x2) rfl (Nat.le_of_ble_eq_true rfl) (Nat.le_of_ble_eq_true rfl) (Nat.le_of_ble_eq_true rfl) pu_J dX4_compareFloating_47 (fun r8 σ7 => ?_)
        refine G.sub [0, 1, 3] rfl ?_
        exact gX4_compareFloating_p50 _ _ _ _ _
      · refine g_aload_n 0 0 dX4_compareFloating_36 rfl rfl ?_
        refine g_lload_n 2 2 dX4_compareFloating_37 rfl rfl ?_
        refine g_callV (fc := fun sς => Fmt_rest sς x0 x2) (ci := 5) (as := [jv x2]) rfl rfl rfl q2540 q2541 mdX4_102 (ctX5_rest x0 x2) rfl (Nat.le_of_ble_eq_true rfl) (Nat.le_of_ble_eq_true rfl) (Nat.le_of_ble_eq_true rfl) pu_J dX4_compareFloating_38 (fun r10 σ9 => ?_)
        refine g_lneg dX4_compareFloating_41 ?_
        refine g_goto 50 dX4_compareFloating_42 (by decide) ?_
        refine G.sub [0, 1, 3] rfl ?_
        exact gX4_compareFloating_p50 _ _ _ _ _
    · refine G.sub [1] rfl ?_
      exact gX4_compareFloating_p17 _ _
theorem V.dX4_count_0 : decode cX4_count 0 = .ok (.iconst 0, 1) := by decide +kernel
theorem V.dX4_count_1 : decode cX4_count 1 = .ok (.istore 4, 2) := by decide +kernel
theorem V.dX4_count_3 : decode cX4_count 3 = .ok (.iload_n 0, 1) := by decide +kernel
theorem V.dX4_count_4 : decode cX4_count 4 = .ok (.iconst 2, 1) := by decide +kernel
theorem V.dX4_count_5 : decode cX4_count 5 = .ok (.if_icmp .ne 33, 3) := by decide +kernel
theorem V.dX4_count_8 : decode cX4_count 8 = .ok (.iconst 0, 1) := by decide +kernel
theorem V.dX4_count_9 : decode cX4_count 9 = .ok (.istore 5, 2) := by decide +kernel
theorem V.dX4_count_11 : decode cX4_count 11 = .ok (.iload 5, 2) := by decide +kernel
theorem V.dX4_count_13 : decode cX4_count 13 = .ok (.iload_n 3, 1) := by decide +kernel
theorem V.dX4_count_14 : decode cX4_count 14 = .ok (.if_icmp .ge 21, 3) := by decide +kernel
theorem V.dX4_count_17 : decode cX4_count 17 = .ok (.iload 4, 2) := by decide +kernel
theorem V.dX4_count_19 : decode cX4_count 19 = .ok (.lload_n 1, 1) := by decide +kernel
theorem V.dX4_count_20 : decode cX4_count 20 = .ok (.iload 5, 2) := by decide +kernel
theorem V.dX4_count_22 : decode cX4_count 22 = .ok (.lshr, 1) := by decide +kernel
theorem V.dX4_count_23 : decode cX4_count 23 = .ok (.lconst 1, 1) := by decide +kernel
theorem V.dX4_count_24 : decode cX4_count 24 = .ok (.land, 1) := by decide +kernel
theorem V.dX4_count_25 : decode cX4_count 25 = .ok (.l2i, 1) := by decide +kernel
theorem V.dX4_count_26 : decode cX4_count 26 = .ok (.iadd, 1) := by decide +kernel
theorem V.dX4_count_27 : decode cX4_count 27 = .ok (.istore 4, 2) := by decide +kernel
theorem V.dX4_count_29 : decode cX4_count 29 = .ok (.iinc 5 1, 3) := by decide +kernel
theorem V.dX4_count_32 : decode cX4_count 32 = .ok (.goto (-21), 3) := by decide +kernel
theorem V.dX4_count_35 : decode cX4_count 35 = .ok (.iload 4, 2) := by decide +kernel
theorem V.dX4_count_37 : decode cX4_count 37 = .ok (.ireturn, 1) := by decide +kernel
theorem V.dX4_count_38 : decode cX4_count 38 = .ok (.iload 4, 2) := by decide +kernel
theorem V.dX4_count_40 : decode cX4_count 40 = .ok (.iload_n 3, 1) := by decide +kernel
theorem V.dX4_count_41 : decode cX4_count 41 = .ok (.if_icmp .ge 33, 3) := by decide +kernel
theorem V.dX4_count_44 : decode cX4_count 44 = .ok (.lload_n 1, 1) := by decide +kernel
theorem V.dX4_count_45 : decode cX4_count 45 = .ok (.iload_n 0, 1) := by decide +kernel
theorem V.dX4_count_46 : decode cX4_count 46 = .ok (.ifCond .ne 12, 3) := by decide +kernel
theorem V.dX4_count_49 : decode cX4_count 49 = .ok (.iload_n 3, 1) := by decide +kernel
theorem V.dX4_count_50 : decode cX4_count 50 = .ok (.iconst 1, 1) := by decide +kernel
theorem V.dX4_count_51 : decode cX4_count 51 = .ok (.isub, 1) := by decide +kernel
theorem V.dX4_count_52 : decode cX4_count 52 = .ok (.iload 4, 2) := by decide +kernel
theorem V.dX4_count_54 : decode cX4_count 54 = .ok (.isub, 1) := by decide +kernel
theorem V.dX4_count_55 : decode cX4_count 55 = .ok (.goto 5, 3) := by decide +kernel
theorem V.dX4_count_58 : decode cX4_count 58 = .ok (.iload 4, 2) := by decide +kernel
theorem V.dX4_count_60 : decode cX4_count 60 = .ok (.lshr, 1) := by decide +kernel
theorem V.dX4_count_61 : decode cX4_count 61 = .ok (.lconst 1, 1) := by decide +kernel
theorem V.dX4_count_62 : decode cX4_count 62 = .ok (.land, 1) := by decide +kernel
theorem V.dX4_count_63 : decode cX4_count 63 = .ok (.lconst 0, 1) := by decide +kernel
theorem V.dX4_count_64 : decode cX4_count 64 = .ok (.lcmp, 1) := by decide +kernel
theorem V.dX4_count_65 : decode cX4_count 65 = .ok (.ifCond .ne 9, 3) := by decide +kernel
theorem V.dX4_count_68 : decode cX4_count 68 = .ok (.iinc 4 1, 3) := by decide +kernel
theorem V.dX4_count_71 : decode cX4_count 71 = .ok (.goto (-33), 3) := by decide +kernel
theorem V.dX4_count_74 : decode cX4_count 74 = .ok (.iload 4, 2) := by decide +kernel
theorem V.dX4_count_76 : decode cX4_count 76 = .ok (.ireturn, 1) := by decide +kernel
/-! ModuleEngine$Numbers.count(IJI)I -/
def V.Num_count_p60 (rec38 : HS → Int32 → Int64 → Int32 → Int32 → Option (Int32 × HS)) (σ : HS) (x0 : Int32) (x1 : Int64) (x3 : Int32) (x4 : Int32) (s0 : Int32) (s1 : Int64) : Option (Int32 × HS) :=
  if ((lshr s1 s0) &&& (1 : Int64)) = (0 : Int64) then (
    bn (x4 + (1 : Int32)) fun y1 =>
    rec38 σ x0 x1 x3 y1)
  else (
    some (x4, σ))
theorem V.gX4_count_p60 {X : CX} (rec38 : HS → Int32 → Int64 → Int32 → Int32 → Option (Int32 × HS)) (hrec38 : ∀ (σ : HS) (x0 : Int32) (x1 : Int64) (x3 : Int32) (x4 : Int32), G X RX4 "count" cX4_count 6 (some .int) 0 0 enI 38 [(0, iv x0), (1, jv x1), (3, iv x3), (4, iv x4)] [] σ (rec38 σ x0 x1 x3 x4)) (σ : HS) (x0 : Int32) (x1 : Int64) (x3 : Int32) (x4 : Int32) (s0 : Int32) (s1 : Int64) : G X RX4 "count" cX4_count 6 (some .int) 0 0 enI 60 [(0, iv x0), (1, jv x1), (3, iv x3), (4, iv x4)] [iv s0, jv s1] σ (Num_count_p60 rec38 σ x0 x1 x3 x4 s0 s1) := by
  unfold Num_count_p60
  refine g_lshr dX4_count_60 ?_
  refine g_lconst (v := 1) dX4_count_61 (by decide) ?_
  refine g_land dX4_count_62 ?_
  refine g_lconst (v := 0) dX4_count_63 (by decide) ?_
  refine g_lcmp_ne 74 dX4_count_64 dX4_count_65 (by decide) ?_ ?_
  · refine g_iload 3 dX4_count_74 rfl ?_
    exact g_ireturn rfl dX4_count_76
  · refine g_iincB (w := 1) 3 dX4_count_68 rfl (by decide) (by decide) (fun _ => rfl) (fun y1 => ?_)
    refine g_goto 38 dX4_count_71 (by decide) ?_
    refine G.sub [1, 2, 3, 0] rfl ?_
    exact hrec38 _ _ _ _ _
def V.Num_count_p38  : Nat → HS → Int32 → Int64 → Int32 → Int32 → Option (Int32 × HS)
  | 0, _, _, _, _, _ => none
  | n + 1, σ, x0, x1, x3, x4 =>
    if x3 ≤ x4 then (
      some (x4, σ))
    else (
      if x0 = 0 then (
        Num_count_p60 (Num_count_p38 n) σ x0 x1 x3 x4 ((x3 - (1 : Int32)) - x4) x1)
      else (
        Num_count_p60 (Num_count_p38 n) σ x0 x1 x3 x4 x4 x1))
theorem V.gX4_count_p38 {X : CX}  : ∀ (n : Nat) (σ : HS) (x0 : Int32) (x1 : Int64) (x3 : Int32) (x4 : Int32), G X RX4 "count" cX4_count 6 (some .int) 0 0 enI 38 [(0, iv x0), (1, jv x1), (3, iv x3), (4, iv x4)] [] σ (Num_count_p38 n σ x0 x1 x3 x4)
  | 0, σ, x0, x1, x3, x4 => by rw [Num_count_p38]; exact G.nul
  | n + 1, σ, x0, x1, x3, x4 => by
    rw [Num_count_p38]
    refine g_iload 3 dX4_count_38 rfl ?_
    refine g_iload_n 3 2 dX4_count_40 rfl rfl ?_
    refine g_icmp_ge 74 dX4_count_41 (by decide) ?_ ?_
    · refine g_iload 3 dX4_count_74 rfl ?_
      exact g_ireturn rfl dX4_count_76
    · refine g_lload_n 1 1 dX4_count_44 rfl rfl ?_
      refine g_iload_n 0 0 dX4_count_45 rfl rfl ?_
      refine g_if_ne 58 dX4_count_46 (by decide) ?_ ?_
      · refine g_iload 3 dX4_count_58 rfl ?_
        exact gX4_count_p60 (Num_count_p38 n) (gX4_count_p38 n) _ _ _ _ _ _ _
      · refine g_iload_n 3 2 dX4_count_49 rfl rfl ?_
        refine g_iconst (v := 1) dX4_count_50 (by decide) ?_
        refine g_isub dX4_count_51 ?_
        refine g_iload 3 dX4_count_52 rfl ?_
        refine g_isub dX4_count_54 ?_
        refine g_goto 60 dX4_count_55 (by decide) ?_
        exact gX4_count_p60 (Num_count_p38 n) (gX4_count_p38 n) _ _ _ _ _ _ _
def V.Num_count_p11  : Nat → HS → Int64 → Int32 → Int32 → Int32 → Option (Int32 × HS)
  | 0, _, _, _, _, _ => none
  | n + 1, σ, x1, x3, x4, x5 =>
    if x3 ≤ x5 then (
      some (x4, σ))
    else (
      bn (x4 + (((lshr x1 x5) &&& (1 : Int64)).toInt32)) fun y1 =>
      bn (x5 + (1 : Int32)) fun y2 =>
      Num_count_p11 n σ x1 x3 y1 y2)
theorem V.gX4_count_p11 {X : CX}  : ∀ (n : Nat) (σ : HS) (x1 : Int64) (x3 : Int32) (x4 : Int32) (x5 : Int32), G X RX4 "count" cX4_count 6 (some .int) 0 0 enI 11 [(1, jv x1), (3, iv x3), (4, iv x4), (5, iv x5)] [] σ (Num_count_p11 n σ x1 x3 x4 x5)
  | 0, σ, x1, x3, x4, x5 => by rw [Num_count_p11]; exact G.nul
  | n + 1, σ, x1, x3, x4, x5 => by
    rw [Num_count_p11]
    refine g_iload 3 dX4_count_11 rfl ?_
    refine g_iload_n 3 1 dX4_count_13 rfl rfl ?_
    refine g_icmp_ge 35 dX4_count_14 (by decide) ?_ ?_
    · refine g_iload 2 dX4_count_35 rfl ?_
      exact g_ireturn rfl dX4_count_37
    · refine g_iload 2 dX4_count_17 rfl ?_
      refine g_lload_n 1 0 dX4_count_19 rfl rfl ?_
      refine g_iload 3 dX4_count_20 rfl ?_
      refine g_lshr dX4_count_22 ?_
      refine g_lconst (v := 1) dX4_count_23 (by decide) ?_
      refine g_land dX4_count_24 ?_
      refine g_l2i dX4_count_25 ?_
      refine g_iadd dX4_count_26 ?_
      refine g_nmI (fun y1 => ?_)
      refine g_istore dX4_count_27 (by decide) rfl ?_
      refine g_iincB (w := 1) 3 dX4_count_29 rfl (by decide) (by decide) (fun _ => rfl) (fun y2 => ?_)
      refine g_goto 11 dX4_count_32 (by decide) ?_
      refine G.sub [2, 3, 1, 0] rfl ?_
      exact gX4_count_p11 n _ _ _ _ _
def V.Num_count (σ : HS) (x0 : Int32) (x1 : Int64) (x3 : Int32) : Option (Int32 × HS) :=
  if x0 = (2 : Int32) then (
    Num_count_p11 FU σ x1 x3 (0 : Int32) (0 : Int32))
  else (
    Num_count_p38 FU σ x0 x1 x3 (0 : Int32))
theorem V.ctX4_count (x0 : Int32) (x1 : Int64) (x3 : Int32) : Ct yX4_count  cX4_count 6 (some .int) 0 0 eI [iv x0, jv x1, iv x3] (fun σ => Num_count σ x0 x1 x3) := by
  refine Ct.of (own := RX4) (nm := "count") (desc := "(IJI)I") rfl (by decide) (Nat.le_of_ble_eq_true rfl) (by decide) (fun X σ => ?_)
  show G X RX4 "count" cX4_count 6 (some .int) 0 0 enI 0 [(0, iv x0), (1, jv x1), (3, iv x3)] [] σ (Num_count σ x0 x1 x3)
  unfold Num_count
  refine g_iconst (v := 0) dX4_count_0 (by decide) ?_
  refine g_istore dX4_count_1 (by decide) rfl ?_
  refine g_iload_n 0 1 dX4_count_3 rfl rfl ?_
  refine g_iconst (v := 2) dX4_count_4 (by decide) ?_
  refine g_icmp_ne 38 dX4_count_5 (by decide) ?_ ?_
  · refine G.sub [1, 2, 3, 0] rfl ?_
    exact gX4_count_p38 FU _ _ _ _ _
  · refine g_iconst (v := 0) dX4_count_8 (by decide) ?_
    refine g_istore dX4_count_9 (by decide) rfl ?_
    refine G.sub [3, 4, 1, 0] rfl ?_
    exact gX4_count_p11 FU _ _ _ _ _
theorem V.dX4_stop_0 : decode cX4_stop 0 = .ok (.aload_n 0, 1) := by decide +kernel
theorem V.dX4_stop_1 : decode cX4_stop 1 = .ok (.iload_n 1, 1) := by decide +kernel
theorem V.dX4_stop_2 : decode cX4_stop 2 = .ok (.putfield 21, 3) := by decide +kernel
theorem V.dX4_stop_5 : decode cX4_stop 5 = .ok (.lconst 0, 1) := by decide +kernel
theorem V.dX4_stop_6 : decode cX4_stop 6 = .ok (.lreturn, 1) := by decide +kernel
theorem V.fpX4_21 {nm : String} : FP RX4 nm 21 4 2 (.int) := ⟨(RX4, TX4, 4), tyX4, rfl, rfl, in_X4, by decide, tyX4_ok, nmX4, rfl, Or.inl ⟨rfl, Or.inl q608⟩⟩
/-! ModuleEngine$Numbers.stop(I)J -/
def V.Num_stop (σ : HS) (x0 : Nat) (x1 : Int32) : Option (Int64 × HS) :=
  ck (tg σ x0 = 5) <| bn (sI σ x0 2 x1) fun σ1 =>
  some ((0 : Int64), σ1)
theorem V.ctX4_stop (x0 : Nat) (x1 : Int32) : Ct yX4_stop  cX4_stop 2 (some .long) 0 0 eJ [av x0, iv x1] (fun σ => Num_stop σ x0 x1) := by
  refine Ct.of (own := RX4) (nm := "stop") (desc := "(I)J") rfl (by decide) (Nat.le_of_ble_eq_true rfl) (by decide) (fun X σ => ?_)
  show G X RX4 "stop" cX4_stop 2 (some .long) 0 0 enJ 0 [(0, av x0), (1, iv x1)] [] σ (Num_stop σ x0 x1)
  unfold Num_stop
  refine g_aload_n 0 0 dX4_stop_0 rfl rfl ?_
  refine g_iload_n 1 1 dX4_stop_1 rfl rfl ?_
  refine g_putI fpX4_21 dX4_stop_2 (fun σ1 => ?_)
  refine g_lconst (v := 0) dX4_stop_5 (by decide) ?_
  exact g_lreturn rfl dX4_stop_6
theorem V.dX4_quotient_0 : decode cX4_quotient 0 = .ok (.lload 4, 2) := by decide +kernel
theorem V.dX4_quotient_2 : decode cX4_quotient 2 = .ok (.lconst 0, 1) := by decide +kernel
theorem V.dX4_quotient_3 : decode cX4_quotient 3 = .ok (.lcmp, 1) := by decide +kernel
theorem V.dX4_quotient_4 : decode cX4_quotient 4 = .ok (.ifCond .ne 9, 3) := by decide +kernel
theorem V.dX4_quotient_7 : decode cX4_quotient 7 = .ok (.aload_n 0, 1) := by decide +kernel
theorem V.dX4_quotient_8 : decode cX4_quotient 8 = .ok (.iconst 1, 1) := by decide +kernel
theorem V.dX4_quotient_9 : decode cX4_quotient 9 = .ok (.invokevirtual 87, 3) := by decide +kernel
theorem V.dX4_quotient_12 : decode cX4_quotient 12 = .ok (.lreturn, 1) := by decide +kernel
theorem V.dX4_quotient_13 : decode cX4_quotient 13 = .ok (.lload 4, 2) := by decide +kernel
theorem V.dX4_quotient_15 : decode cX4_quotient 15 = .ok (.ldc2_w 91, 3) := by decide +kernel
theorem V.dX4_quotient_18 : decode cX4_quotient 18 = .ok (.lcmp, 1) := by decide +kernel
theorem V.dX4_quotient_19 : decode cX4_quotient 19 = .ok (.ifCond .ne 9, 3) := by decide +kernel
theorem V.dX4_quotient_22 : decode cX4_quotient 22 = .ok (.iload_n 1, 1) := by decide +kernel
theorem V.dX4_quotient_23 : decode cX4_quotient 23 = .ok (.ifCond .eq 5, 3) := by decide +kernel
theorem V.dX4_quotient_26 : decode cX4_quotient 26 = .ok (.lconst 0, 1) := by decide +kernel
theorem V.dX4_quotient_27 : decode cX4_quotient 27 = .ok (.lreturn, 1) := by decide +kernel
theorem V.dX4_quotient_28 : decode cX4_quotient 28 = .ok (.lload 4, 2) := by decide +kernel
theorem V.dX4_quotient_30 : decode cX4_quotient 30 = .ok (.ldc2_w 91, 3) := by decide +kernel
theorem V.dX4_quotient_33 : decode cX4_quotient 33 = .ok (.lcmp, 1) := by decide +kernel
theorem V.dX4_quotient_34 : decode cX4_quotient 34 = .ok (.ifCond .ne 16, 3) := by decide +kernel
theorem V.dX4_quotient_37 : decode cX4_quotient 37 = .ok (.lload_n 2, 1) := by decide +kernel
theorem V.dX4_quotient_38 : decode cX4_quotient 38 = .ok (.lload 6, 2) := by decide +kernel
theorem V.dX4_quotient_40 : decode cX4_quotient 40 = .ok (.lcmp, 1) := by decide +kernel
theorem V.dX4_quotient_41 : decode cX4_quotient 41 = .ok (.ifCond .ne 9, 3) := by decide +kernel
theorem V.dX4_quotient_44 : decode cX4_quotient 44 = .ok (.aload_n 0, 1) := by decide +kernel
theorem V.dX4_quotient_45 : decode cX4_quotient 45 = .ok (.iconst 2, 1) := by decide +kernel
theorem V.dX4_quotient_46 : decode cX4_quotient 46 = .ok (.invokevirtual 87, 3) := by decide +kernel
theorem V.dX4_quotient_49 : decode cX4_quotient 49 = .ok (.lreturn, 1) := by decide +kernel
theorem V.dX4_quotient_50 : decode cX4_quotient 50 = .ok (.iload_n 1, 1) := by decide +kernel
theorem V.dX4_quotient_51 : decode cX4_quotient 51 = .ok (.ifCond .eq 10, 3) := by decide +kernel
theorem V.dX4_quotient_54 : decode cX4_quotient 54 = .ok (.lload_n 2, 1) := by decide +kernel
theorem V.dX4_quotient_55 : decode cX4_quotient 55 = .ok (.lload 4, 2) := by decide +kernel
theorem V.dX4_quotient_57 : decode cX4_quotient 57 = .ok (.lrem, 1) := by decide +kernel
theorem V.dX4_quotient_58 : decode cX4_quotient 58 = .ok (.goto 7, 3) := by decide +kernel
theorem V.dX4_quotient_61 : decode cX4_quotient 61 = .ok (.lload_n 2, 1) := by decide +kernel
theorem V.dX4_quotient_62 : decode cX4_quotient 62 = .ok (.lload 4, 2) := by decide +kernel
theorem V.dX4_quotient_64 : decode cX4_quotient 64 = .ok (.ldiv, 1) := by decide +kernel
theorem V.dX4_quotient_65 : decode cX4_quotient 65 = .ok (.lreturn, 1) := by decide +kernel
theorem V.mdX4_87 : MD RX4 87 yX4_stop cX4_stop 2 (some .long) 1 := ⟨Or.inl q2565, q364, q2568, by decide, by decide, by decide +kernel⟩
/-! ModuleEngine$Numbers.quotient(ZJJJ)J -/
def V.Num_quotient_p50  (σ : HS) (x1 : Int32) (x2 : Int64) (x4 : Int64) : Option (Int64 × HS) :=
  if x1 = 0 then (
    ck (¬ x4 = 0) <|
    some (x2 / x4, σ))
  else (
    ck (¬ x4 = 0) <|
    some (x2 - x2 / x4 * x4, σ))
theorem V.gX4_quotient_p50 {X : CX}  (σ : HS) (x1 : Int32) (x2 : Int64) (x4 : Int64) : G X RX4 "quotient" cX4_quotient 8 (some .long) 1 21 enJ 50 [(1, iv x1), (2, jv x2), (4, jv x4)] [] σ (Num_quotient_p50 σ x1 x2 x4) := by
  unfold Num_quotient_p50
  refine g_iload_n 1 0 dX4_quotient_50 rfl rfl ?_
  refine g_if_eq 61 dX4_quotient_51 (by decide) ?_ ?_
  · refine g_lload_n 2 1 dX4_quotient_61 rfl rfl ?_
    refine g_lload 2 dX4_quotient_62 rfl ?_
    refine g_ldiv dX4_quotient_64 ?_
    exact g_lreturn rfl dX4_quotient_65
  · refine g_lload_n 2 1 dX4_quotient_54 rfl rfl ?_
    refine g_lload 2 dX4_quotient_55 rfl ?_
    refine g_lrem dX4_quotient_57 ?_
    refine g_goto 65 dX4_quotient_58 (by decide) ?_
    exact g_lreturn rfl dX4_quotient_65
def V.Num_quotient_p28  (σ : HS) (x0 : Nat) (x1 : Int32) (x2 : Int64) (x4 : Int64) (x6 : Int64) : Option (Int64 × HS) :=
  if x4 = (-1 : Int64) then (
    if x2 = x6 then (
      ck (tg σ x0 = 5) <| cl (Num_stop σ x0 (2 : Int32)) fun r2 σ1 =>
      some (r2, σ1))
    else (
      Num_quotient_p50 σ x1 x2 x4))
  else (
    Num_quotient_p50 σ x1 x2 x4)
theorem V.gX4_quotient_p28 {X : CX}  (σ : HS) (x0 : Nat) (x1 : Int32) (x2 : Int64) (x4 : Int64) (x6 : Int64) : G X RX4 "quotient" cX4_quotient 8 (some .long) 1 21 enJ 28 [(0, av x0), (1, iv x1), (2, jv x2), (4, jv x4), (6, jv x6)] [] σ (Num_quotient_p28 σ x0 x1 x2 x4 x6) := by
  unfold Num_quotient_p28
  refine g_lload 3 dX4_quotient_28 rfl ?_
  refine g_ldc2 q2569 dX4_quotient_30 ?_
  refine g_lcmp_ne 50 dX4_quotient_33 dX4_quotient_34 (by decide) ?_ ?_
  · refine G.sub [1, 2, 3] rfl ?_
    exact gX4_quotient_p50 _ _ _ _
  · refine g_lload_n 2 2 dX4_quotient_37 rfl rfl ?_
    refine g_lload 4 dX4_quotient_38 rfl ?_
    refine g_lcmp_ne 50 dX4_quotient_40 dX4_quotient_41 (by decide) ?_ ?_
    · refine G.sub [1, 2, 3] rfl ?_
      exact gX4_quotient_p50 _ _ _ _
    · refine g_aload_n 0 0 dX4_quotient_44 rfl rfl ?_
      refine g_iconst (v := 2) dX4_quotient_45 (by decide) ?_
      refine g_callV (fc := fun sς => Num_stop sς x0 (2 : Int32)) (ci := 4) (as := [iv (2 : Int32)]) rfl rfl rfl q2567 qs169 mdX4_87 (ctX4_stop x0 (2 : Int32)) rfl (Nat.le_of_ble_eq_true rfl) (Nat.le_of_ble_eq_true rfl) (Nat.le_of_ble_eq_true rfl) pu_J dX4_quotient_46 (fun r2 σ1 => ?_)
      exact g_lreturn rfl dX4_quotient_49
def V.Num_quotient (σ : HS) (x0 : Nat) (x1 : Int32) (x2 : Int64) (x4 : Int64) (x6 : Int64) : Option (Int64 × HS) :=
  if x4 = (0 : Int64) then (
    ck (tg σ x0 = 5) <| cl (Num_stop σ x0 (1 : Int32)) fun r2 σ1 =>
    some (r2, σ1))
  else (
    if x4 = (-1 : Int64) then (
      if x1 = 0 then (
        Num_quotient_p28 σ x0 x1 x2 x4 x6)
      else (
        some ((0 : Int64), σ)))
    else (
      Num_quotient_p28 σ x0 x1 x2 x4 x6))
theorem V.ctX4_quotient (x0 : Nat) (x1 : Int32) (x2 : Int64) (x4 : Int64) (x6 : Int64) : Ct yX4_quotient  cX4_quotient 8 (some .long) 1 21 eJ [av x0, iv x1, jv x2, jv x4, jv x6] (fun σ => Num_quotient σ x0 x1 x2 x4 x6) := by
  refine Ct.of (own := RX4) (nm := "quotient") (desc := "(ZJJJ)J") rfl (by decide) (Nat.le_of_ble_eq_true rfl) (by decide) (fun X σ => ?_)
  show G X RX4 "quotient" cX4_quotient 8 (some .long) 1 21 enJ 0 [(0, av x0), (1, iv x1), (2, jv x2), (4, jv x4), (6, jv x6)] [] σ (Num_quotient σ x0 x1 x2 x4 x6)
  unfold Num_quotient
  refine g_lload 3 dX4_quotient_0 rfl ?_
  refine g_lconst (v := 0) dX4_quotient_2 (by decide) ?_
  refine g_lcmp_ne 13 dX4_quotient_3 dX4_quotient_4 (by decide) ?_ ?_
  · refine g_lload 3 dX4_quotient_13 rfl ?_
    refine g_ldc2 q2569 dX4_quotient_15 ?_
    refine g_lcmp_ne 28 dX4_quotient_18 dX4_quotient_19 (by decide) ?_ ?_
    · exact gX4_quotient_p28 _ _ _ _ _ _
    · refine g_iload_n 1 1 dX4_quotient_22 rfl rfl ?_
      refine g_if_eq 28 dX4_quotient_23 (by decide) ?_ ?_
      · exact gX4_quotient_p28 _ _ _ _ _ _
      · refine g_lconst (v := 0) dX4_quotient_26 (by decide) ?_
        exact g_lreturn rfl dX4_quotient_27
  · refine g_aload_n 0 0 dX4_quotient_7 rfl rfl ?_
    refine g_iconst (v := 1) dX4_quotient_8 (by decide) ?_
    refine g_callV (fc := fun sς => Num_stop sς x0 (1 : Int32)) (ci := 4) (as := [iv (1 : Int32)]) rfl rfl rfl q2567 qs169 mdX4_87 (ctX4_stop x0 (1 : Int32)) rfl (Nat.le_of_ble_eq_true rfl) (Nat.le_of_ble_eq_true rfl) (Nat.le_of_ble_eq_true rfl) pu_J dX4_quotient_9 (fun r2 σ1 => ?_)
    exact g_lreturn rfl dX4_quotient_12
theorem V.dX4_quotientBelow_0 : decode cX4_quotientBelow 0 = .ok (.lload 4, 2) := by decide +kernel
theorem V.dX4_quotientBelow_2 : decode cX4_quotientBelow 2 = .ok (.lconst 0, 1) := by decide +kernel
theorem V.dX4_quotientBelow_3 : decode cX4_quotientBelow 3 = .ok (.lcmp, 1) := by decide +kernel
theorem V.dX4_quotientBelow_4 : decode cX4_quotientBelow 4 = .ok (.ifCond .ne 9, 3) := by decide +kernel
theorem V.dX4_quotientBelow_7 : decode cX4_quotientBelow 7 = .ok (.aload_n 0, 1) := by decide +kernel
theorem V.dX4_quotientBelow_8 : decode cX4_quotientBelow 8 = .ok (.iconst 1, 1) := by decide +kernel
theorem V.dX4_quotientBelow_9 : decode cX4_quotientBelow 9 = .ok (.invokevirtual 87, 3) := by decide +kernel
theorem V.dX4_quotientBelow_12 : decode cX4_quotientBelow 12 = .ok (.lreturn, 1) := by decide +kernel
theorem V.dX4_quotientBelow_13 : decode cX4_quotientBelow 13 = .ok (.lconst 0, 1) := by decide +kernel
theorem V.dX4_quotientBelow_14 : decode cX4_quotientBelow 14 = .ok (.lstore 6, 2) := by decide +kernel
theorem V.dX4_quotientBelow_16 : decode cX4_quotientBelow 16 = .ok (.lconst 0, 1) := by decide +kernel
theorem V.dX4_quotientBelow_17 : decode cX4_quotientBelow 17 = .ok (.lstore 8, 2) := by decide +kernel
theorem V.dX4_quotientBelow_19 : decode cX4_quotientBelow 19 = .ok (.bipush 63, 2) := by decide +kernel
theorem V.dX4_quotientBelow_21 : decode cX4_quotientBelow 21 = .ok (.istore 10, 2) := by decide +kernel
theorem V.dX4_quotientBelow_23 : decode cX4_quotientBelow 23 = .ok (.iload 10, 2) := by decide +kernel
theorem V.dX4_quotientBelow_25 : decode cX4_quotientBelow 25 = .ok (.ifCond .lt 91, 3) := by decide +kernel
theorem V.dX4_quotientBelow_28 : decode cX4_quotientBelow 28 = .ok (.lload 8, 2) := by decide +kernel
theorem V.dX4_quotientBelow_30 : decode cX4_quotientBelow 30 = .ok (.lconst 0, 1) := by decide +kernel
theorem V.dX4_quotientBelow_31 : decode cX4_quotientBelow 31 = .ok (.lcmp, 1) := by decide +kernel
theorem V.dX4_quotientBelow_32 : decode cX4_quotientBelow 32 = .ok (.ifCond .ge 7, 3) := by decide +kernel
theorem V.dX4_quotientBelow_35 : decode cX4_quotientBelow 35 = .ok (.iconst 1, 1) := by decide +kernel
theorem V.dX4_quotientBelow_36 : decode cX4_quotientBelow 36 = .ok (.goto 4, 3) := by decide +kernel
theorem V.dX4_quotientBelow_39 : decode cX4_quotientBelow 39 = .ok (.iconst 0, 1) := by decide +kernel
theorem V.dX4_quotientBelow_40 : decode cX4_quotientBelow 40 = .ok (.istore 11, 2) := by decide +kernel
theorem V.dX4_quotientBelow_42 : decode cX4_quotientBelow 42 = .ok (.ldc2_w 93, 3) := by decide +kernel
theorem V.dX4_quotientBelow_45 : decode cX4_quotientBelow 45 = .ok (.lload 8, 2) := by decide +kernel
theorem V.dX4_quotientBelow_47 : decode cX4_quotientBelow 47 = .ok (.lmul, 1) := by decide +kernel
theorem V.dX4_quotientBelow_48 : decode cX4_quotientBelow 48 = .ok (.lload_n 2, 1) := by decide +kernel
theorem V.dX4_quotientBelow_49 : decode cX4_quotientBelow 49 = .ok (.iload 10, 2) := by decide +kernel
theorem V.dX4_quotientBelow_51 : decode cX4_quotientBelow 51 = .ok (.lshr, 1) := by decide +kernel
theorem V.dX4_quotientBelow_52 : decode cX4_quotientBelow 52 = .ok (.lconst 1, 1) := by decide +kernel
theorem V.dX4_quotientBelow_53 : decode cX4_quotientBelow 53 = .ok (.land, 1) := by decide +kernel
theorem V.dX4_quotientBelow_54 : decode cX4_quotientBelow 54 = .ok (.ladd, 1) := by decide +kernel
theorem V.dX4_quotientBelow_55 : decode cX4_quotientBelow 55 = .ok (.lstore 8, 2) := by decide +kernel
theorem V.dX4_quotientBelow_57 : decode cX4_quotientBelow 57 = .ok (.iload 11, 2) := by decide +kernel
theorem V.dX4_quotientBelow_59 : decode cX4_quotientBelow 59 = .ok (.ifCond .ne 13, 3) := by decide +kernel
theorem V.dX4_quotientBelow_62 : decode cX4_quotientBelow 62 = .ok (.lload 8, 2) := by decide +kernel
theorem V.dX4_quotientBelow_64 : decode cX4_quotientBelow 64 = .ok (.lload 4, 2) := by decide +kernel
theorem V.dX4_quotientBelow_66 : decode cX4_quotientBelow 66 = .ok (.invokestatic 67, 3) := by decide +kernel
theorem V.dX4_quotientBelow_69 : decode cX4_quotientBelow 69 = .ok (.ifCond .ne 7, 3) := by decide +kernel
theorem V.dX4_quotientBelow_72 : decode cX4_quotientBelow 72 = .ok (.iconst 1, 1) := by decide +kernel
theorem V.dX4_quotientBelow_73 : decode cX4_quotientBelow 73 = .ok (.goto 4, 3) := by decide +kernel
theorem V.dX4_quotientBelow_76 : decode cX4_quotientBelow 76 = .ok (.iconst 0, 1) := by decide +kernel
theorem V.dX4_quotientBelow_77 : decode cX4_quotientBelow 77 = .ok (.istore 12, 2) := by decide +kernel
theorem V.dX4_quotientBelow_79 : decode cX4_quotientBelow 79 = .ok (.iload 12, 2) := by decide +kernel
theorem V.dX4_quotientBelow_81 : decode cX4_quotientBelow 81 = .ok (.ifCond .eq 10, 3) := by decide +kernel
theorem V.dX4_quotientBelow_84 : decode cX4_quotientBelow 84 = .ok (.lload 8, 2) := by decide +kernel
theorem V.dX4_quotientBelow_86 : decode cX4_quotientBelow 86 = .ok (.lload 4, 2) := by decide +kernel
theorem V.dX4_quotientBelow_88 : decode cX4_quotientBelow 88 = .ok (.lsub, 1) := by decide +kernel
theorem V.dX4_quotientBelow_89 : decode cX4_quotientBelow 89 = .ok (.lstore 8, 2) := by decide +kernel
theorem V.dX4_quotientBelow_91 : decode cX4_quotientBelow 91 = .ok (.ldc2_w 93, 3) := by decide +kernel
theorem V.dX4_quotientBelow_94 : decode cX4_quotientBelow 94 = .ok (.lload 6, 2) := by decide +kernel
theorem V.dX4_quotientBelow_96 : decode cX4_quotientBelow 96 = .ok (.lmul, 1) := by decide +kernel
theorem V.dX4_quotientBelow_97 : decode cX4_quotientBelow 97 = .ok (.iload 12, 2) := by decide +kernel
theorem V.dX4_quotientBelow_99 : decode cX4_quotientBelow 99 = .ok (.ifCond .eq 7, 3) := by decide +kernel
theorem V.dX4_quotientBelow_102 : decode cX4_quotientBelow 102 = .ok (.lconst 1, 1) := by decide +kernel
theorem V.dX4_quotientBelow_103 : decode cX4_quotientBelow 103 = .ok (.goto 4, 3) := by decide +kernel
theorem V.dX4_quotientBelow_106 : decode cX4_quotientBelow 106 = .ok (.lconst 0, 1) := by decide +kernel
theorem V.dX4_quotientBelow_107 : decode cX4_quotientBelow 107 = .ok (.ladd, 1) := by decide +kernel
theorem V.dX4_quotientBelow_108 : decode cX4_quotientBelow 108 = .ok (.lstore 6, 2) := by decide +kernel
theorem V.dX4_quotientBelow_110 : decode cX4_quotientBelow 110 = .ok (.iinc 10 (-1), 3) := by decide +kernel
theorem V.dX4_quotientBelow_113 : decode cX4_quotientBelow 113 = .ok (.goto (-90), 3) := by decide +kernel
theorem V.dX4_quotientBelow_116 : decode cX4_quotientBelow 116 = .ok (.iload_n 1, 1) := by decide +kernel
theorem V.dX4_quotientBelow_117 : decode cX4_quotientBelow 117 = .ok (.ifCond .eq 8, 3) := by decide +kernel
theorem V.dX4_quotientBelow_120 : decode cX4_quotientBelow 120 = .ok (.lload 8, 2) := by decide +kernel
theorem V.dX4_quotientBelow_122 : decode cX4_quotientBelow 122 = .ok (.goto 5, 3) := by decide +kernel
theorem V.dX4_quotientBelow_125 : decode cX4_quotientBelow 125 = .ok (.lload 6, 2) := by decide +kernel
theorem V.dX4_quotientBelow_127 : decode cX4_quotientBelow 127 = .ok (.lreturn, 1) := by decide +kernel
/-! ModuleEngine$Numbers.quotientBelow(ZJJ)J -/
def V.Num_quotientBelow_p107 (rec23 : HS → Int32 → Int64 → Int64 → Int64 → Int64 → Int32 → Option (Int64 × HS)) (σ : HS) (x1 : Int32) (x2 : Int64) (x4 : Int64) (x8 : Int64) (x10 : Int32) (s0 : Int64) (s1 : Int64) : Option (Int64 × HS) :=
  bn (s1 + s0) fun y1 =>
  bn (x10 + (-1 : Int32)) fun y2 =>
  rec23 σ x1 x2 x4 y1 x8 y2
theorem V.gX4_quotientBelow_p107 {X : CX} (rec23 : HS → Int32 → Int64 → Int64 → Int64 → Int64 → Int32 → Option (Int64 × HS)) (hrec23 : ∀ (σ : HS) (x1 : Int32) (x2 : Int64) (x4 : Int64) (x6 : Int64) (x8 : Int64) (x10 : Int32), G X RX4 "quotientBelow" cX4_quotientBelow 13 (some .long) 1 23 enJ 23 [(1, iv x1), (2, jv x2), (4, jv x4), (6, jv x6), (8, jv x8), (10, iv x10)] [] σ (rec23 σ x1 x2 x4 x6 x8 x10)) (σ : HS) (x1 : Int32) (x2 : Int64) (x4 : Int64) (x8 : Int64) (x10 : Int32) (s0 : Int64) (s1 : Int64) : G X RX4 "quotientBelow" cX4_quotientBelow 13 (some .long) 1 23 enJ 107 [(1, iv x1), (2, jv x2), (4, jv x4), (8, jv x8), (10, iv x10)] [jv s0, jv s1] σ (Num_quotientBelow_p107 rec23 σ x1 x2 x4 x8 x10 s0 s1) := by
  unfold Num_quotientBelow_p107
  refine g_ladd dX4_quotientBelow_107 ?_
  refine g_nmJ (fun y1 => ?_)
  refine g_lstore dX4_quotientBelow_108 (by decide) rfl ?_
  refine g_iincB (w := (-1)) 5 dX4_quotientBelow_110 rfl (by decide) (by decide) (fun _ => rfl) (fun y2 => ?_)
  refine g_goto 23 dX4_quotientBelow_113 (by decide) ?_
  refine G.sub [2, 3, 4, 1, 5, 0] rfl ?_
  exact hrec23 _ _ _ _ _ _ _
def V.Num_quotientBelow_p91 (rec23 : HS → Int32 → Int64 → Int64 → Int64 → Int64 → Int32 → Option (Int64 × HS)) (σ : HS) (x1 : Int32) (x2 : Int64) (x4 : Int64) (x6 : Int64) (x8 : Int64) (x10 : Int32) (x12 : Int32) : Option (Int64 × HS) :=
  if x12 = 0 then (
    Num_quotientBelow_p107 rec23 σ x1 x2 x4 x8 x10 (0 : Int64) ((2 : Int64) * x6))
  else (
    Num_quotientBelow_p107 rec23 σ x1 x2 x4 x8 x10 (1 : Int64) ((2 : Int64) * x6))
theorem V.gX4_quotientBelow_p91 {X : CX} (rec23 : HS → Int32 → Int64 → Int64 → Int64 → Int64 → Int32 → Option (Int64 × HS)) (hrec23 : ∀ (σ : HS) (x1 : Int32) (x2 : Int64) (x4 : Int64) (x6 : Int64) (x8 : Int64) (x10 : Int32), G X RX4 "quotientBelow" cX4_quotientBelow 13 (some .long) 1 23 enJ 23 [(1, iv x1), (2, jv x2), (4, jv x4), (6, jv x6), (8, jv x8), (10, iv x10)] [] σ (rec23 σ x1 x2 x4 x6 x8 x10)) (σ : HS) (x1 : Int32) (x2 : Int64) (x4 : Int64) (x6 : Int64) (x8 : Int64) (x10 : Int32) (x12 : Int32) : G X RX4 "quotientBelow" cX4_quotientBelow 13 (some .long) 1 23 enJ 91 [(1, iv x1), (2, jv x2), (4, jv x4), (6, jv x6), (8, jv x8), (10, iv x10), (12, iv x12)] [] σ (Num_quotientBelow_p91 rec23 σ x1 x2 x4 x6 x8 x10 x12) := by
  unfold Num_quotientBelow_p91
  refine g_ldc2 q2574 dX4_quotientBelow_91 ?_
  refine g_lload 3 dX4_quotientBelow_94 rfl ?_
  refine g_lmul dX4_quotientBelow_96 ?_
  refine g_iload 6 dX4_quotientBelow_97 rfl ?_
  refine g_if_eq 106 dX4_quotientBelow_99 (by decide) ?_ ?_
  · refine g_lconst (v := 0) dX4_quotientBelow_106 (by decide) ?_
    refine G.sub [0, 1, 2, 4, 5] rfl ?_
    exact gX4_quotientBelow_p107 rec23 hrec23 _ _ _ _ _ _ _ _
  · refine g_lconst (v := 1) dX4_quotientBelow_102 (by decide) ?_
    refine g_goto 107 dX4_quotientBelow_103 (by decide) ?_
    refine G.sub [0, 1, 2, 4, 5] rfl ?_
    exact gX4_quotientBelow_p107 rec23 hrec23 _ _ _ _ _ _ _ _
def V.Num_quotientBelow_p77 (rec23 : HS → Int32 → Int64 → Int64 → Int64 → Int64 → Int32 → Option (Int64 × HS)) (σ : HS) (x1 : Int32) (x2 : Int64) (x4 : Int64) (x6 : Int64) (x8 : Int64) (x10 : Int32) (s0 : Int32) : Option (Int64 × HS) :=
  if s0 = 0 then (
    Num_quotientBelow_p91 rec23 σ x1 x2 x4 x6 x8 x10 s0)
  else (
    bn (x8 - x4) fun y1 =>
    Num_quotientBelow_p91 rec23 σ x1 x2 x4 x6 y1 x10 s0)
theorem V.gX4_quotientBelow_p77 {X : CX} (rec23 : HS → Int32 → Int64 → Int64 → Int64 → Int64 → Int32 → Option (Int64 × HS)) (hrec23 : ∀ (σ : HS) (x1 : Int32) (x2 : Int64) (x4 : Int64) (x6 : Int64) (x8 : Int64) (x10 : Int32), G X RX4 "quotientBelow" cX4_quotientBelow 13 (some .long) 1 23 enJ 23 [(1, iv x1), (2, jv x2), (4, jv x4), (6, jv x6), (8, jv x8), (10, iv x10)] [] σ (rec23 σ x1 x2 x4 x6 x8 x10)) (σ : HS) (x1 : Int32) (x2 : Int64) (x4 : Int64) (x6 : Int64) (x8 : Int64) (x10 : Int32) (s0 : Int32) : G X RX4 "quotientBelow" cX4_quotientBelow 13 (some .long) 1 23 enJ 77 [(1, iv x1), (2, jv x2), (4, jv x4), (6, jv x6), (8, jv x8), (10, iv x10)] [iv s0] σ (Num_quotientBelow_p77 rec23 σ x1 x2 x4 x6 x8 x10 s0) := by
  unfold Num_quotientBelow_p77
  refine g_istore dX4_quotientBelow_77 (by decide) rfl ?_
  refine g_iload 0 dX4_quotientBelow_79 rfl ?_
  refine g_if_eq 91 dX4_quotientBelow_81 (by decide) ?_ ?_
  · refine G.sub [1, 2, 3, 4, 5, 6, 0] rfl ?_
    exact gX4_quotientBelow_p91 rec23 hrec23 _ _ _ _ _ _ _ _
  · refine g_lload 5 dX4_quotientBelow_84 rfl ?_
    refine g_lload 3 dX4_quotientBelow_86 rfl ?_
    refine g_lsub dX4_quotientBelow_88 ?_
    refine g_nmJ (fun y1 => ?_)
    refine g_lstore dX4_quotientBelow_89 (by decide) rfl ?_
    refine G.sub [2, 3, 4, 5, 0, 6, 1] rfl ?_
    exact gX4_quotientBelow_p91 rec23 hrec23 _ _ _ _ _ _ _ _
def V.Num_quotientBelow_p72 (rec23 : HS → Int32 → Int64 → Int64 → Int64 → Int64 → Int32 → Option (Int64 × HS)) (σ : HS) (x1 : Int32) (x2 : Int64) (x4 : Int64) (x6 : Int64) (x8 : Int64) (x10 : Int32) : Option (Int64 × HS) :=
  Num_quotientBelow_p77 rec23 σ x1 x2 x4 x6 x8 x10 (1 : Int32)
theorem V.gX4_quotientBelow_p72 {X : CX} (rec23 : HS → Int32 → Int64 → Int64 → Int64 → Int64 → Int32 → Option (Int64 × HS)) (hrec23 : ∀ (σ : HS) (x1 : Int32) (x2 : Int64) (x4 : Int64) (x6 : Int64) (x8 : Int64) (x10 : Int32), G X RX4 "quotientBelow" cX4_quotientBelow 13 (some .long) 1 23 enJ 23 [(1, iv x1), (2, jv x2), (4, jv x4), (6, jv x6), (8, jv x8), (10, iv x10)] [] σ (rec23 σ x1 x2 x4 x6 x8 x10)) (σ : HS) (x1 : Int32) (x2 : Int64) (x4 : Int64) (x6 : Int64) (x8 : Int64) (x10 : Int32) : G X RX4 "quotientBelow" cX4_quotientBelow 13 (some .long) 1 23 enJ 72 [(1, iv x1), (2, jv x2), (4, jv x4), (6, jv x6), (8, jv x8), (10, iv x10)] [] σ (Num_quotientBelow_p72 rec23 σ x1 x2 x4 x6 x8 x10) := by
  unfold Num_quotientBelow_p72
  refine g_iconst (v := 1) dX4_quotientBelow_72 (by decide) ?_
  refine g_goto 77 dX4_quotientBelow_73 (by decide) ?_
  exact gX4_quotientBelow_p77 rec23 hrec23 _ _ _ _ _ _ _ _
def V.Num_quotientBelow_p40 (rec23 : HS → Int32 → Int64 → Int64 → Int64 → Int64 → Int32 → Option (Int64 × HS)) (σ : HS) (x1 : Int32) (x2 : Int64) (x4 : Int64) (x6 : Int64) (x8 : Int64) (x10 : Int32) (s0 : Int32) : Option (Int64 × HS) :=
  bn (((2 : Int64) * x8) + ((lshr x2 x10) &&& (1 : Int64))) fun y1 =>
  if s0 = 0 then (
    cl (Num_isBelow σ y1 x4) fun r3 σ2 =>
    if r3 = 0 then (
      Num_quotientBelow_p72 rec23 σ2 x1 x2 x4 x6 y1 x10)
    else (
      Num_quotientBelow_p77 rec23 σ2 x1 x2 x4 x6 y1 x10 (0 : Int32)))
  else (
    Num_quotientBelow_p72 rec23 σ x1 x2 x4 x6 y1 x10)
theorem V.gX4_quotientBelow_p40 {X : CX} (rec23 : HS → Int32 → Int64 → Int64 → Int64 → Int64 → Int32 → Option (Int64 × HS)) (hrec23 : ∀ (σ : HS) (x1 : Int32) (x2 : Int64) (x4 : Int64) (x6 : Int64) (x8 : Int64) (x10 : Int32), G X RX4 "quotientBelow" cX4_quotientBelow 13 (some .long) 1 23 enJ 23 [(1, iv x1), (2, jv x2), (4, jv x4), (6, jv x6), (8, jv x8), (10, iv x10)] [] σ (rec23 σ x1 x2 x4 x6 x8 x10)) (σ : HS) (x1 : Int32) (x2 : Int64) (x4 : Int64) (x6 : Int64) (x8 : Int64) (x10 : Int32) (s0 : Int32) : G X RX4 "quotientBelow" cX4_quotientBelow 13 (some .long) 1 23 enJ 40 [(1, iv x1), (2, jv x2), (4, jv x4), (6, jv x6), (8, jv x8), (10, iv x10)] [iv s0] σ (Num_quotientBelow_p40 rec23 σ x1 x2 x4 x6 x8 x10 s0) := by
  unfold Num_quotientBelow_p40
  refine g_istore dX4_quotientBelow_40 (by decide) rfl ?_
  refine g_ldc2 q2574 dX4_quotientBelow_42 ?_
  refine g_lload 5 dX4_quotientBelow_45 rfl ?_
  refine g_lmul dX4_quotientBelow_47 ?_
  refine g_lload_n 2 2 dX4_quotientBelow_48 rfl rfl ?_
  refine g_iload 6 dX4_quotientBelow_49 rfl ?_
  refine g_lshr dX4_quotientBelow_51 ?_
  refine g_lconst (v := 1) dX4_quotientBelow_52 (by decide) ?_
  refine g_land dX4_quotientBelow_53 ?_
  refine g_ladd dX4_quotientBelow_54 ?_
  refine g_nmJ (fun y1 => ?_)
  refine g_lstore dX4_quotientBelow_55 (by decide) rfl ?_
  refine g_iload 1 dX4_quotientBelow_57 rfl ?_
  refine g_if_ne 72 dX4_quotientBelow_59 (by decide) ?_ ?_
  · refine G.sub [2, 3, 4, 5, 0, 6] rfl ?_
    exact gX4_quotientBelow_p72 rec23 hrec23 _ _ _ _ _ _ _
  · refine g_lload 0 dX4_quotientBelow_62 rfl ?_
    refine g_lload 4 dX4_quotientBelow_64 rfl ?_
    refine g_callS (fc := fun sς => Num_isBelow sς y1 x4) (as := [jv y1, jv x4]) q2521 mdX4_67 (ctX4_isBelow y1 x4) rfl (Nat.le_of_ble_eq_true rfl) (Nat.le_of_ble_eq_true rfl) (Nat.le_of_ble_eq_true rfl) pu_I dX4_quotientBelow_66 (fun r3 σ2 => ?_)
    refine g_if_ne 76 dX4_quotientBelow_69 (by decide) ?_ ?_
    · refine g_iconst (v := 0) dX4_quotientBelow_76 (by decide) ?_
      refine G.sub [2, 3, 4, 5, 0, 6] rfl ?_
      exact gX4_quotientBelow_p77 rec23 hrec23 _ _ _ _ _ _ _ _
    · refine G.sub [2, 3, 4, 5, 0, 6] rfl ?_
      exact gX4_quotientBelow_p72 rec23 hrec23 _ _ _ _ _ _ _
def V.Num_quotientBelow_p23  : Nat → HS → Int32 → Int64 → Int64 → Int64 → Int64 → Int32 → Option (Int64 × HS)
  | 0, _, _, _, _, _, _, _ => none
  | n + 1, σ, x1, x2, x4, x6, x8, x10 =>
    if x10 < 0 then (
      if x1 = 0 then (
        some (x6, σ))
      else (
        some (x8, σ)))
    else (
      if (0 : Int64) ≤ x8 then (
        Num_quotientBelow_p40 (Num_quotientBelow_p23 n) σ x1 x2 x4 x6 x8 x10 (0 : Int32))
      else (
        Num_quotientBelow_p40 (Num_quotientBelow_p23 n) σ x1 x2 x4 x6 x8 x10 (1 : Int32)))
theorem V.gX4_quotientBelow_p23 {X : CX}  : ∀ (n : Nat) (σ : HS) (x1 : Int32) (x2 : Int64) (x4 : Int64) (x6 : Int64) (x8 : Int64) (x10 : Int32), G X RX4 "quotientBelow" cX4_quotientBelow 13 (some .long) 1 23 enJ 23 [(1, iv x1), (2, jv x2), (4, jv x4), (6, jv x6), (8, jv x8), (10, iv x10)] [] σ (Num_quotientBelow_p23 n σ x1 x2 x4 x6 x8 x10)
  | 0, σ, x1, x2, x4, x6, x8, x10 => by rw [Num_quotientBelow_p23]; exact G.nul
  | n + 1, σ, x1, x2, x4, x6, x8, x10 => by
    rw [Num_quotientBelow_p23]
    refine g_iload 5 dX4_quotientBelow_23 rfl ?_
    refine g_if_lt 116 dX4_quotientBelow_25 (by decide) ?_ ?_
    · refine g_iload_n 1 0 dX4_quotientBelow_116 rfl rfl ?_
      refine g_if_eq 125 dX4_quotientBelow_117 (by decide) ?_ ?_
      · refine g_lload 3 dX4_quotientBelow_125 rfl ?_
        exact g_lreturn rfl dX4_quotientBelow_127
      · refine g_lload 4 dX4_quotientBelow_120 rfl ?_
        refine g_goto 127 dX4_quotientBelow_122 (by decide) ?_
        exact g_lreturn rfl dX4_quotientBelow_127
    · refine g_lload 4 dX4_quotientBelow_28 rfl ?_
      refine g_lconst (v := 0) dX4_quotientBelow_30 (by decide) ?_
      refine g_lcmp_ge 39 dX4_quotientBelow_31 dX4_quotientBelow_32 (by decide) ?_ ?_
      · refine g_iconst (v := 0) dX4_quotientBelow_39 (by decide) ?_
        exact gX4_quotientBelow_p40 (Num_quotientBelow_p23 n) (gX4_quotientBelow_p23 n) _ _ _ _ _ _ _ _
      · refine g_iconst (v := 1) dX4_quotientBelow_35 (by decide) ?_
        refine g_goto 40 dX4_quotientBelow_36 (by decide) ?_
        exact gX4_quotientBelow_p40 (Num_quotientBelow_p23 n) (gX4_quotientBelow_p23 n) _ _ _ _ _ _ _ _
def V.Num_quotientBelow (σ : HS) (x0 : Nat) (x1 : Int32) (x2 : Int64) (x4 : Int64) : Option (Int64 × HS) :=
  if x4 = (0 : Int64) then (
    ck (tg σ x0 = 5) <| cl (Num_stop σ x0 (1 : Int32)) fun r2 σ1 =>
    some (r2, σ1))
  else (
    Num_quotientBelow_p23 FU σ x1 x2 x4 (0 : Int64) (0 : Int64) (63 : Int32))
theorem V.ctX4_quotientBelow (x0 : Nat) (x1 : Int32) (x2 : Int64) (x4 : Int64) : Ct yX4_quotientBelow  cX4_quotientBelow 13 (some .long) 1 23 eJ [av x0, iv x1, jv x2, jv x4] (fun σ => Num_quotientBelow σ x0 x1 x2 x4) := by
  refine Ct.of (own := RX4) (nm := "quotientBelow") (desc := "(ZJJ)J") rfl (by decide) (Nat.le_of_ble_eq_true rfl) (by decide) (fun X σ => ?_)
  show G X RX4 "quotientBelow" cX4_quotientBelow 13 (some .long) 1 23 enJ 0 [(0, av x0), (1, iv x1), (2, jv x2), (4, jv x4)] [] σ (Num_quotientBelow σ x0 x1 x2 x4)
  unfold Num_quotientBelow
  refine g_lload 3 dX4_quotientBelow_0 rfl ?_
  refine g_lconst (v := 0) dX4_quotientBelow_2 (by decide) ?_
  refine g_lcmp_ne 13 dX4_quotientBelow_3 dX4_quotientBelow_4 (by decide) ?_ ?_
  · refine g_lconst (v := 0) dX4_quotientBelow_13 (by decide) ?_
    refine g_lstore dX4_quotientBelow_14 (by decide) rfl ?_
    refine g_lconst (v := 0) dX4_quotientBelow_16 (by decide) ?_
    refine g_lstore dX4_quotientBelow_17 (by decide) rfl ?_
    refine g_bipush (v := 63) dX4_quotientBelow_19 (by decide) ?_
    refine g_istore dX4_quotientBelow_21 (by decide) rfl ?_
    refine G.sub [4, 5, 6, 2, 1, 0] rfl ?_
    exact gX4_quotientBelow_p23 FU _ _ _ _ _ _ _
  · refine g_aload_n 0 0 dX4_quotientBelow_7 rfl rfl ?_
    refine g_iconst (v := 1) dX4_quotientBelow_8 (by decide) ?_
    refine g_callV (fc := fun sς => Num_stop sς x0 (1 : Int32)) (ci := 4) (as := [iv (1 : Int32)]) rfl rfl rfl q2567 qs169 mdX4_87 (ctX4_stop x0 (1 : Int32)) rfl (Nat.le_of_ble_eq_true rfl) (Nat.le_of_ble_eq_true rfl) (Nat.le_of_ble_eq_true rfl) pu_J dX4_quotientBelow_9 (fun r2 σ1 => ?_)
    exact g_lreturn rfl dX4_quotientBelow_12
theorem V.dX4_whole_0 : decode cX4_whole 0 = .ok (.lload_n 2, 1) := by decide +kernel
theorem V.dX4_whole_1 : decode cX4_whole 1 = .ok (.l2i, 1) := by decide +kernel
theorem V.dX4_whole_2 : decode cX4_whole 2 = .ok (.istore 6, 2) := by decide +kernel
theorem V.dX4_whole_4 : decode cX4_whole 4 = .ok (.lload 4, 2) := by decide +kernel
theorem V.dX4_whole_6 : decode cX4_whole 6 = .ok (.l2i, 1) := by decide +kernel
theorem V.dX4_whole_7 : decode cX4_whole 7 = .ok (.istore 7, 2) := by decide +kernel
theorem V.dX4_whole_9 : decode cX4_whole 9 = .ok (.iload 7, 2) := by decide +kernel
theorem V.dX4_whole_11 : decode cX4_whole 11 = .ok (.bipush 31, 2) := by decide +kernel
theorem V.dX4_whole_13 : decode cX4_whole 13 = .ok (.iand, 1) := by decide +kernel
theorem V.dX4_whole_14 : decode cX4_whole 14 = .ok (.istore 8, 2) := by decide +kernel
theorem V.dX4_whole_16 : decode cX4_whole 16 = .ok (.iload_n 1, 1) := by decide +kernel
theorem V.dX4_whole_17 : decode cX4_whole 17 = .ok (.tableswitch 236 0 16 #[83, 83, 83, 96, 103, 110, 117, 142, 117, 142, 169, 176, 183, 190, 197, 204, 211], 83) := by decide +kernel
theorem V.dX4_whole_100 : decode cX4_whole 100 = .ok (.iload_n 1, 1) := by decide +kernel
theorem V.dX4_whole_101 : decode cX4_whole 101 = .ok (.lload_n 2, 1) := by decide +kernel
theorem V.dX4_whole_102 : decode cX4_whole 102 = .ok (.ldc2_w 45, 3) := by decide +kernel
theorem V.dX4_whole_105 : decode cX4_whole 105 = .ok (.land, 1) := by decide +kernel
theorem V.dX4_whole_106 : decode cX4_whole 106 = .ok (.bipush 32, 2) := by decide +kernel
theorem V.dX4_whole_108 : decode cX4_whole 108 = .ok (.invokestatic 71, 3) := by decide +kernel
theorem V.dX4_whole_111 : decode cX4_whole 111 = .ok (.i2l, 1) := by decide +kernel
theorem V.dX4_whole_112 : decode cX4_whole 112 = .ok (.lreturn, 1) := by decide +kernel
theorem V.dX4_whole_113 : decode cX4_whole 113 = .ok (.iload 6, 2) := by decide +kernel
theorem V.dX4_whole_115 : decode cX4_whole 115 = .ok (.iload 7, 2) := by decide +kernel
theorem V.dX4_whole_117 : decode cX4_whole 117 = .ok (.iadd, 1) := by decide +kernel
theorem V.dX4_whole_118 : decode cX4_whole 118 = .ok (.i2l, 1) := by decide +kernel
theorem V.dX4_whole_119 : decode cX4_whole 119 = .ok (.lreturn, 1) := by decide +kernel
theorem V.dX4_whole_120 : decode cX4_whole 120 = .ok (.iload 6, 2) := by decide +kernel
theorem V.dX4_whole_122 : decode cX4_whole 122 = .ok (.iload 7, 2) := by decide +kernel
theorem V.dX4_whole_124 : decode cX4_whole 124 = .ok (.isub, 1) := by decide +kernel
theorem V.dX4_whole_125 : decode cX4_whole 125 = .ok (.i2l, 1) := by decide +kernel
theorem V.dX4_whole_126 : decode cX4_whole 126 = .ok (.lreturn, 1) := by decide +kernel
theorem V.dX4_whole_127 : decode cX4_whole 127 = .ok (.iload 6, 2) := by decide +kernel
theorem V.dX4_whole_129 : decode cX4_whole 129 = .ok (.iload 7, 2) := by decide +kernel
theorem V.dX4_whole_131 : decode cX4_whole 131 = .ok (.imul, 1) := by decide +kernel
theorem V.dX4_whole_132 : decode cX4_whole 132 = .ok (.i2l, 1) := by decide +kernel
theorem V.dX4_whole_133 : decode cX4_whole 133 = .ok (.lreturn, 1) := by decide +kernel
theorem V.dX4_whole_134 : decode cX4_whole 134 = .ok (.aload_n 0, 1) := by decide +kernel
theorem V.dX4_whole_135 : decode cX4_whole 135 = .ok (.iload_n 1, 1) := by decide +kernel
theorem V.dX4_whole_136 : decode cX4_whole 136 = .ok (.bipush 8, 2) := by decide +kernel
theorem V.dX4_whole_138 : decode cX4_whole 138 = .ok (.if_icmp .ne 7, 3) := by decide +kernel
theorem V.dX4_whole_141 : decode cX4_whole 141 = .ok (.iconst 1, 1) := by decide +kernel
theorem V.dX4_whole_142 : decode cX4_whole 142 = .ok (.goto 4, 3) := by decide +kernel
theorem V.dX4_whole_145 : decode cX4_whole 145 = .ok (.iconst 0, 1) := by decide +kernel
theorem V.dX4_whole_146 : decode cX4_whole 146 = .ok (.iload 6, 2) := by decide +kernel
theorem V.dX4_whole_148 : decode cX4_whole 148 = .ok (.i2l, 1) := by decide +kernel
theorem V.dX4_whole_149 : decode cX4_whole 149 = .ok (.iload 7, 2) := by decide +kernel
theorem V.dX4_whole_151 : decode cX4_whole 151 = .ok (.i2l, 1) := by decide +kernel
theorem V.dX4_whole_152 : decode cX4_whole 152 = .ok (.ldc2_w 75, 3) := by decide +kernel
theorem V.dX4_whole_155 : decode cX4_whole 155 = .ok (.invokevirtual 77, 3) := by decide +kernel
theorem V.dX4_whole_158 : decode cX4_whole 158 = .ok (.lreturn, 1) := by decide +kernel
theorem V.dX4_whole_159 : decode cX4_whole 159 = .ok (.aload_n 0, 1) := by decide +kernel
theorem V.dX4_whole_160 : decode cX4_whole 160 = .ok (.iload_n 1, 1) := by decide +kernel
theorem V.dX4_whole_161 : decode cX4_whole 161 = .ok (.bipush 9, 2) := by decide +kernel
theorem V.dX4_whole_163 : decode cX4_whole 163 = .ok (.if_icmp .ne 7, 3) := by decide +kernel
theorem V.dX4_whole_166 : decode cX4_whole 166 = .ok (.iconst 1, 1) := by decide +kernel
theorem V.dX4_whole_167 : decode cX4_whole 167 = .ok (.goto 4, 3) := by decide +kernel
theorem V.dX4_whole_170 : decode cX4_whole 170 = .ok (.iconst 0, 1) := by decide +kernel
theorem V.dX4_whole_171 : decode cX4_whole 171 = .ok (.lload_n 2, 1) := by decide +kernel
theorem V.dX4_whole_172 : decode cX4_whole 172 = .ok (.ldc2_w 45, 3) := by decide +kernel
theorem V.dX4_whole_175 : decode cX4_whole 175 = .ok (.land, 1) := by decide +kernel
theorem V.dX4_whole_176 : decode cX4_whole 176 = .ok (.lload 4, 2) := by decide +kernel
theorem V.dX4_whole_178 : decode cX4_whole 178 = .ok (.ldc2_w 45, 3) := by decide +kernel
theorem V.dX4_whole_181 : decode cX4_whole 181 = .ok (.land, 1) := by decide +kernel
theorem V.dX4_whole_182 : decode cX4_whole 182 = .ok (.invokevirtual 81, 3) := by decide +kernel
theorem V.dX4_whole_185 : decode cX4_whole 185 = .ok (.lreturn, 1) := by decide +kernel
theorem V.dX4_whole_186 : decode cX4_whole 186 = .ok (.iload 6, 2) := by decide +kernel
theorem V.dX4_whole_188 : decode cX4_whole 188 = .ok (.iload 7, 2) := by decide +kernel
theorem V.dX4_whole_190 : decode cX4_whole 190 = .ok (.iand, 1) := by decide +kernel
theorem V.dX4_whole_191 : decode cX4_whole 191 = .ok (.i2l, 1) := by decide +kernel
theorem V.dX4_whole_192 : decode cX4_whole 192 = .ok (.lreturn, 1) := by decide +kernel
theorem V.dX4_whole_193 : decode cX4_whole 193 = .ok (.iload 6, 2) := by decide +kernel
theorem V.dX4_whole_195 : decode cX4_whole 195 = .ok (.iload 7, 2) := by decide +kernel
theorem V.dX4_whole_197 : decode cX4_whole 197 = .ok (.ior, 1) := by decide +kernel
theorem V.dX4_whole_198 : decode cX4_whole 198 = .ok (.i2l, 1) := by decide +kernel
theorem V.dX4_whole_199 : decode cX4_whole 199 = .ok (.lreturn, 1) := by decide +kernel
theorem V.dX4_whole_200 : decode cX4_whole 200 = .ok (.iload 6, 2) := by decide +kernel
theorem V.dX4_whole_202 : decode cX4_whole 202 = .ok (.iload 7, 2) := by decide +kernel
theorem V.dX4_whole_204 : decode cX4_whole 204 = .ok (.ixor, 1) := by decide +kernel
theorem V.dX4_whole_205 : decode cX4_whole 205 = .ok (.i2l, 1) := by decide +kernel
theorem V.dX4_whole_206 : decode cX4_whole 206 = .ok (.lreturn, 1) := by decide +kernel
theorem V.dX4_whole_207 : decode cX4_whole 207 = .ok (.iload 6, 2) := by decide +kernel
theorem V.dX4_whole_209 : decode cX4_whole 209 = .ok (.iload 8, 2) := by decide +kernel
theorem V.dX4_whole_211 : decode cX4_whole 211 = .ok (.ishl, 1) := by decide +kernel
theorem V.dX4_whole_212 : decode cX4_whole 212 = .ok (.i2l, 1) := by decide +kernel
theorem V.dX4_whole_213 : decode cX4_whole 213 = .ok (.lreturn, 1) := by decide +kernel
theorem V.dX4_whole_214 : decode cX4_whole 214 = .ok (.iload 6, 2) := by decide +kernel
theorem V.dX4_whole_216 : decode cX4_whole 216 = .ok (.iload 8, 2) := by decide +kernel
theorem V.dX4_whole_218 : decode cX4_whole 218 = .ok (.ishr, 1) := by decide +kernel
theorem V.dX4_whole_219 : decode cX4_whole 219 = .ok (.i2l, 1) := by decide +kernel
theorem V.dX4_whole_220 : decode cX4_whole 220 = .ok (.lreturn, 1) := by decide +kernel
theorem V.dX4_whole_221 : decode cX4_whole 221 = .ok (.iload 6, 2) := by decide +kernel
theorem V.dX4_whole_223 : decode cX4_whole 223 = .ok (.iload 8, 2) := by decide +kernel
theorem V.dX4_whole_225 : decode cX4_whole 225 = .ok (.iushr, 1) := by decide +kernel
theorem V.dX4_whole_226 : decode cX4_whole 226 = .ok (.i2l, 1) := by decide +kernel
theorem V.dX4_whole_227 : decode cX4_whole 227 = .ok (.lreturn, 1) := by decide +kernel
theorem V.dX4_whole_228 : decode cX4_whole 228 = .ok (.iload 6, 2) := by decide +kernel
theorem V.dX4_whole_230 : decode cX4_whole 230 = .ok (.iload 8, 2) := by decide +kernel
theorem V.dX4_whole_232 : decode cX4_whole 232 = .ok (.ishl, 1) := by decide +kernel
theorem V.dX4_whole_233 : decode cX4_whole 233 = .ok (.iload 8, 2) := by decide +kernel
theorem V.dX4_whole_235 : decode cX4_whole 235 = .ok (.ifCond .ne 7, 3) := by decide +kernel
theorem V.dX4_whole_238 : decode cX4_whole 238 = .ok (.iconst 0, 1) := by decide +kernel
theorem V.dX4_whole_239 : decode cX4_whole 239 = .ok (.goto 11, 3) := by decide +kernel
theorem V.dX4_whole_242 : decode cX4_whole 242 = .ok (.iload 6, 2) := by decide +kernel
theorem V.dX4_whole_244 : decode cX4_whole 244 = .ok (.bipush 32, 2) := by decide +kernel
theorem V.dX4_whole_246 : decode cX4_whole 246 = .ok (.iload 8, 2) := by decide +kernel
theorem V.dX4_whole_248 : decode cX4_whole 248 = .ok (.isub, 1) := by decide +kernel
theorem V.dX4_whole_249 : decode cX4_whole 249 = .ok (.iushr, 1) := by decide +kernel
theorem V.dX4_whole_250 : decode cX4_whole 250 = .ok (.ior, 1) := by decide +kernel
theorem V.dX4_whole_251 : decode cX4_whole 251 = .ok (.i2l, 1) := by decide +kernel
theorem V.dX4_whole_252 : decode cX4_whole 252 = .ok (.lreturn, 1) := by decide +kernel
theorem V.dX4_whole_253 : decode cX4_whole 253 = .ok (.iload 6, 2) := by decide +kernel
theorem V.dX4_whole_255 : decode cX4_whole 255 = .ok (.iload 8, 2) := by decide +kernel
theorem V.dX4_whole_257 : decode cX4_whole 257 = .ok (.iushr, 1) := by decide +kernel
theorem V.dX4_whole_258 : decode cX4_whole 258 = .ok (.iload 8, 2) := by decide +kernel
theorem V.dX4_whole_260 : decode cX4_whole 260 = .ok (.ifCond .ne 7, 3) := by decide +kernel
theorem V.dX4_whole_263 : decode cX4_whole 263 = .ok (.iconst 0, 1) := by decide +kernel
theorem V.dX4_whole_264 : decode cX4_whole 264 = .ok (.goto 11, 3) := by decide +kernel
theorem V.dX4_whole_267 : decode cX4_whole 267 = .ok (.iload 6, 2) := by decide +kernel
theorem V.dX4_whole_269 : decode cX4_whole 269 = .ok (.bipush 32, 2) := by decide +kernel
theorem V.dX4_whole_271 : decode cX4_whole 271 = .ok (.iload 8, 2) := by decide +kernel
theorem V.dX4_whole_273 : decode cX4_whole 273 = .ok (.isub, 1) := by decide +kernel
theorem V.dX4_whole_274 : decode cX4_whole 274 = .ok (.ishl, 1) := by decide +kernel
theorem V.dX4_whole_275 : decode cX4_whole 275 = .ok (.ior, 1) := by decide +kernel
theorem V.dX4_whole_276 : decode cX4_whole 276 = .ok (.i2l, 1) := by decide +kernel
theorem V.dX4_whole_277 : decode cX4_whole 277 = .ok (.lreturn, 1) := by decide +kernel
theorem V.mdX4_71 : MD RX4 71 yX4_count cX4_count 6 (some .int) 3 := ⟨Or.inl q2557, q364, q2559, by decide, by decide, by decide +kernel⟩
theorem V.mdX4_77 : MD RX4 77 yX4_quotient cX4_quotient 8 (some .long) 4 := ⟨Or.inl q2561, q364, q2564, by decide, by decide, by decide +kernel⟩
theorem V.mdX4_81 : MD RX4 81 yX4_quotientBelow cX4_quotientBelow 13 (some .long) 3 := ⟨Or.inl q2570, q364, q2573, by decide, by decide, by decide +kernel⟩
/-! ModuleEngine$Numbers.whole(IJJ)J -/
def V.Num_whole_p100  (σ : HS) (x1 : Int32) (x2 : Int64) : Option (Int64 × HS) :=
  cl (Num_count σ x1 (x2 &&& (4294967295 : Int64)) (32 : Int32)) fun r2 σ1 =>
  some (r2.toInt64, σ1)
theorem V.gX4_whole_p100 {X : CX}  (σ : HS) (x1 : Int32) (x2 : Int64) : G X RX4 "whole" cX4_whole 9 (some .long) 2 55 enJ 100 [(1, iv x1), (2, jv x2)] [] σ (Num_whole_p100 σ x1 x2) := by
  unfold Num_whole_p100
  refine g_iload_n 1 0 dX4_whole_100 rfl rfl ?_
  refine g_lload_n 2 1 dX4_whole_101 rfl rfl ?_
  refine g_ldc2 q2556 dX4_whole_102 ?_
  refine g_land dX4_whole_105 ?_
  refine g_bipush (v := 32) dX4_whole_106 (by decide) ?_
  refine g_callS (fc := fun sς => Num_count sς x1 (x2 &&& (4294967295 : Int64)) (32 : Int32)) (as := [iv x1, jv (x2 &&& (4294967295 : Int64)), iv (32 : Int32)]) q2558 mdX4_71 (ctX4_count x1 (x2 &&& (4294967295 : Int64)) (32 : Int32)) rfl (Nat.le_of_ble_eq_true rfl) (Nat.le_of_ble_eq_true rfl) (Nat.le_of_ble_eq_true rfl) pu_I dX4_whole_108 (fun r2 σ1 => ?_)
  refine g_i2l dX4_whole_111 ?_
  exact g_lreturn rfl dX4_whole_112
def V.Num_whole_p146  (σ : HS) (x6 : Int32) (x7 : Int32) (s0 : Int32) (s1 : Nat) : Option (Int64 × HS) :=
  ck (tg σ s1 = 5) <| cl (Num_quotient σ s1 s0 x6.toInt64 x7.toInt64 (-2147483648 : Int64)) fun r2 σ1 =>
  some (r2, σ1)
theorem V.gX4_whole_p146 {X : CX}  (σ : HS) (x6 : Int32) (x7 : Int32) (s0 : Int32) (s1 : Nat) : G X RX4 "whole" cX4_whole 9 (some .long) 2 55 enJ 146 [(6, iv x6), (7, iv x7)] [iv s0, av s1] σ (Num_whole_p146 σ x6 x7 s0 s1) := by
  unfold Num_whole_p146
  refine g_iload 0 dX4_whole_146 rfl ?_
  refine g_i2l dX4_whole_148 ?_
  refine g_iload 1 dX4_whole_149 rfl ?_
  refine g_i2l dX4_whole_151 ?_
  refine g_ldc2 q2560 dX4_whole_152 ?_
  refine g_callV (fc := fun sς => Num_quotient sς s1 s0 x6.toInt64 x7.toInt64 (-2147483648 : Int64)) (ci := 4) (as := [iv s0, jv x6.toInt64, jv x7.toInt64, jv (-2147483648 : Int64)]) rfl rfl rfl q2563 qs168 mdX4_77 (ctX4_quotient s1 s0 x6.toInt64 x7.toInt64 (-2147483648 : Int64)) rfl (Nat.le_of_ble_eq_true rfl) (Nat.le_of_ble_eq_true rfl) (Nat.le_of_ble_eq_true rfl) pu_J dX4_whole_155 (fun r2 σ1 => ?_)
  exact g_lreturn rfl dX4_whole_158
def V.Num_whole_p134  (σ : HS) (x0 : Nat) (x1 : Int32) (x6 : Int32) (x7 : Int32) : Option (Int64 × HS) :=
  if x1 = (8 : Int32) then (
    Num_whole_p146 σ x6 x7 (1 : Int32) x0)
  else (
    Num_whole_p146 σ x6 x7 (0 : Int32) x0)
theorem V.gX4_whole_p134 {X : CX}  (σ : HS) (x0 : Nat) (x1 : Int32) (x6 : Int32) (x7 : Int32) : G X RX4 "whole" cX4_whole 9 (some .long) 2 55 enJ 134 [(0, av x0), (1, iv x1), (6, iv x6), (7, iv x7)] [] σ (Num_whole_p134 σ x0 x1 x6 x7) := by
  unfold Num_whole_p134
  refine g_aload_n 0 0 dX4_whole_134 rfl rfl ?_
  refine g_iload_n 1 1 dX4_whole_135 rfl rfl ?_
  refine g_bipush (v := 8) dX4_whole_136 (by decide) ?_
  refine g_icmp_ne 145 dX4_whole_138 (by decide) ?_ ?_
  · refine g_iconst (v := 0) dX4_whole_145 (by decide) ?_
    refine G.sub [2, 3] rfl ?_
    exact gX4_whole_p146 _ _ _ _ _
  · refine g_iconst (v := 1) dX4_whole_141 (by decide) ?_
    refine g_goto 146 dX4_whole_142 (by decide) ?_
    refine G.sub [2, 3] rfl ?_
    exact gX4_whole_p146 _ _ _ _ _
def V.Num_whole_p171  (σ : HS) (x2 : Int64) (x4 : Int64) (s0 : Int32) (s1 : Nat) : Option (Int64 × HS) :=
  ck (tg σ s1 = 5) <| cl (Num_quotientBelow σ s1 s0 (x2 &&& (4294967295 : Int64)) (x4 &&& (4294967295 : Int64))) fun r2 σ1 =>
  some (r2, σ1)
theorem V.gX4_whole_p171 {X : CX}  (σ : HS) (x2 : Int64) (x4 : Int64) (s0 : Int32) (s1 : Nat) : G X RX4 "whole" cX4_whole 9 (some .long) 2 55 enJ 171 [(2, jv x2), (4, jv x4)] [iv s0, av s1] σ (Num_whole_p171 σ x2 x4 s0 s1) := by
  unfold Num_whole_p171
  refine g_lload_n 2 0 dX4_whole_171 rfl rfl ?_
  refine g_ldc2 q2556 dX4_whole_172 ?_
  refine g_land dX4_whole_175 ?_
  refine g_lload 1 dX4_whole_176 rfl ?_
  refine g_ldc2 q2556 dX4_whole_178 ?_
  refine g_land dX4_whole_181 ?_
  refine g_callV (fc := fun sς => Num_quotientBelow sς s1 s0 (x2 &&& (4294967295 : Int64)) (x4 &&& (4294967295 : Int64))) (ci := 4) (as := [iv s0, jv (x2 &&& (4294967295 : Int64)), jv (x4 &&& (4294967295 : Int64))]) rfl rfl rfl q2572 qs170 mdX4_81 (ctX4_quotientBelow s1 s0 (x2 &&& (4294967295 : Int64)) (x4 &&& (4294967295 : Int64))) rfl (Nat.le_of_ble_eq_true rfl) (Nat.le_of_ble_eq_true rfl) (Nat.le_of_ble_eq_true rfl) pu_J dX4_whole_182 (fun r2 σ1 => ?_)
  exact g_lreturn rfl dX4_whole_185
def V.Num_whole_p159  (σ : HS) (x0 : Nat) (x1 : Int32) (x2 : Int64) (x4 : Int64) : Option (Int64 × HS) :=
  if x1 = (9 : Int32) then (
    Num_whole_p171 σ x2 x4 (1 : Int32) x0)
  else (
    Num_whole_p171 σ x2 x4 (0 : Int32) x0)
theorem V.gX4_whole_p159 {X : CX}  (σ : HS) (x0 : Nat) (x1 : Int32) (x2 : Int64) (x4 : Int64) : G X RX4 "whole" cX4_whole 9 (some .long) 2 55 enJ 159 [(0, av x0), (1, iv x1), (2, jv x2), (4, jv x4)] [] σ (Num_whole_p159 σ x0 x1 x2 x4) := by
  unfold Num_whole_p159
  refine g_aload_n 0 0 dX4_whole_159 rfl rfl ?_
  refine g_iload_n 1 1 dX4_whole_160 rfl rfl ?_
  refine g_bipush (v := 9) dX4_whole_161 (by decide) ?_
  refine g_icmp_ne 170 dX4_whole_163 (by decide) ?_ ?_
  · refine g_iconst (v := 0) dX4_whole_170 (by decide) ?_
    refine G.sub [2, 3] rfl ?_
    exact gX4_whole_p171 _ _ _ _ _
  · refine g_iconst (v := 1) dX4_whole_166 (by decide) ?_
    refine g_goto 171 dX4_whole_167 (by decide) ?_
    refine G.sub [2, 3] rfl ?_
    exact gX4_whole_p171 _ _ _ _ _
def V.Num_whole_p250  (σ : HS) (s0 : Int32) (s1 : Int32) : Option (Int64 × HS) :=
  some ((s1 ||| s0).toInt64, σ)
theorem V.gX4_whole_p250 {X : CX}  (σ : HS) (s0 : Int32) (s1 : Int32) : G X RX4 "whole" cX4_whole 9 (some .long) 2 55 enJ 250 [] [iv s0, iv s1] σ (Num_whole_p250 σ s0 s1) := by
  unfold Num_whole_p250
  refine g_ior dX4_whole_250 ?_
  refine g_i2l dX4_whole_251 ?_
  exact g_lreturn rfl dX4_whole_252
def V.Num_whole_p275  (σ : HS) (s0 : Int32) (s1 : Int32) : Option (Int64 × HS) :=
  some ((s1 ||| s0).toInt64, σ)
theorem V.gX4_whole_p275 {X : CX}  (σ : HS) (s0 : Int32) (s1 : Int32) : G X RX4 "whole" cX4_whole 9 (some .long) 2 55 enJ 275 [] [iv s0, iv s1] σ (Num_whole_p275 σ s0 s1) := by
  unfold Num_whole_p275
  refine g_ior dX4_whole_275 ?_
  refine g_i2l dX4_whole_276 ?_
  exact g_lreturn rfl dX4_whole_277
def V.Num_whole (σ : HS) (x0 : Nat) (x1 : Int32) (x2 : Int64) (x4 : Int64) : Option (Int64 × HS) :=
  bn (x4.toInt32 &&& (31 : Int32)) fun y1 =>
  swx x1 [
    (0, (
      Num_whole_p100 σ x1 x2)),
    (1, (
      Num_whole_p100 σ x1 x2)),
    (2, (
      Num_whole_p100 σ x1 x2)),
    (3, (
      some ((x2.toInt32 + x4.toInt32).toInt64, σ))),
    (4, (
      some ((x2.toInt32 - x4.toInt32).toInt64, σ))),
    (5, (
      some ((x2.toInt32 * x4.toInt32).toInt64, σ))),
    (6, (
      Num_whole_p134 σ x0 x1 x2.toInt32 x4.toInt32)),
    (7, (
      Num_whole_p159 σ x0 x1 x2 x4)),
    (8, (
      Num_whole_p134 σ x0 x1 x2.toInt32 x4.toInt32)),
    (9, (
      Num_whole_p159 σ x0 x1 x2 x4)),
    (10, (
      some ((x2.toInt32 &&& x4.toInt32).toInt64, σ))),
    (11, (
      some ((x2.toInt32 ||| x4.toInt32).toInt64, σ))),
    (12, (
      some ((x2.toInt32 ^^^ x4.toInt32).toInt64, σ))),
    (13, (
      some ((x2.toInt32 <<< (y1 &&& 31)).toInt64, σ))),
    (14, (
      some ((x2.toInt32 >>> (y1 &&& 31)).toInt64, σ))),
    (15, (
      some ((iushr x2.toInt32 y1).toInt64, σ))),
    (16, (
      if y1 = 0 then (
        Num_whole_p250 σ (0 : Int32) (x2.toInt32 <<< (y1 &&& 31)))
      else (
        Num_whole_p250 σ (iushr x2.toInt32 ((32 : Int32) - y1)) (x2.toInt32 <<< (y1 &&& 31)))))
    ] (
    if y1 = 0 then (
      Num_whole_p275 σ (0 : Int32) (iushr x2.toInt32 y1))
    else (
      Num_whole_p275 σ (x2.toInt32 <<< (((32 : Int32) - y1) &&& 31)) (iushr x2.toInt32 y1)))
theorem V.ctX4_whole (x0 : Nat) (x1 : Int32) (x2 : Int64) (x4 : Int64) : Ct yX4_whole  cX4_whole 9 (some .long) 2 55 eJ [av x0, iv x1, jv x2, jv x4] (fun σ => Num_whole σ x0 x1 x2 x4) := by
  refine Ct.of (own := RX4) (nm := "whole") (desc := "(IJJ)J") rfl (by decide) (Nat.le_of_ble_eq_true rfl) (by decide) (fun X σ => ?_)
  show G X RX4 "whole" cX4_whole 9 (some .long) 2 55 enJ 0 [(0, av x0), (1, iv x1), (2, jv x2), (4, jv x4)] [] σ (Num_whole σ x0 x1 x2 x4)
  unfold Num_whole
  refine g_lload_n 2 2 dX4_whole_0 rfl rfl ?_
  refine g_l2i dX4_whole_1 ?_
  refine g_istore dX4_whole_2 (by decide) rfl ?_
  refine g_lload 4 dX4_whole_4 rfl ?_
  refine g_l2i dX4_whole_6 ?_
  refine g_istore dX4_whole_7 (by decide) rfl ?_
  refine g_iload 0 dX4_whole_9 rfl ?_
  refine g_bipush (v := 31) dX4_whole_11 (by decide) ?_
  refine g_iand dX4_whole_13 ?_
  refine g_nmI (fun y1 => ?_)
  refine g_istore dX4_whole_14 (by decide) rfl ?_
  refine g_iload_n 1 4 dX4_whole_16 rfl rfl ?_
  refine g_tsw dX4_whole_17 (by decide +kernel) ?_
  refine g_case ex0 (t := 100) (by decide +kernel) ?_ (fun hx => ?_)
  · refine G.sub [4, 5] rfl ?_
    exact gX4_whole_p100 _ _ _
  refine g_case hx (t := 100) (by decide +kernel) ?_ (fun hx => ?_)
  · refine G.sub [4, 5] rfl ?_
    exact gX4_whole_p100 _ _ _
  refine g_case hx (t := 100) (by decide +kernel) ?_ (fun hx => ?_)
  · refine G.sub [4, 5] rfl ?_
    exact gX4_whole_p100 _ _ _
  refine g_case hx (t := 113) (by decide +kernel) ?_ (fun hx => ?_)
  · refine g_iload 2 dX4_whole_113 rfl ?_
    refine g_iload 1 dX4_whole_115 rfl ?_
    refine g_iadd dX4_whole_117 ?_
    refine g_i2l dX4_whole_118 ?_
    exact g_lreturn rfl dX4_whole_119
  refine g_case hx (t := 120) (by decide +kernel) ?_ (fun hx => ?_)
  · refine g_iload 2 dX4_whole_120 rfl ?_
    refine g_iload 1 dX4_whole_122 rfl ?_
    refine g_isub dX4_whole_124 ?_
    refine g_i2l dX4_whole_125 ?_
    exact g_lreturn rfl dX4_whole_126
  refine g_case hx (t := 127) (by decide +kernel) ?_ (fun hx => ?_)
  · refine g_iload 2 dX4_whole_127 rfl ?_
    refine g_iload 1 dX4_whole_129 rfl ?_
    refine g_imul dX4_whole_131 ?_
    refine g_i2l dX4_whole_132 ?_
    exact g_lreturn rfl dX4_whole_133
  refine g_case hx (t := 134) (by decide +kernel) ?_ (fun hx => ?_)
  · refine G.sub [3, 4, 2, 1] rfl ?_
    exact gX4_whole_p134 _ _ _ _ _
  refine g_case hx (t := 159) (by decide +kernel) ?_ (fun hx => ?_)
  · refine G.sub [3, 4, 5, 6] rfl ?_
    exact gX4_whole_p159 _ _ _ _ _
  refine g_case hx (t := 134) (by decide +kernel) ?_ (fun hx => ?_)
  · refine G.sub [3, 4, 2, 1] rfl ?_
    exact gX4_whole_p134 _ _ _ _ _
  refine g_case hx (t := 159) (by decide +kernel) ?_ (fun hx => ?_)
  · refine G.sub [3, 4, 5, 6] rfl ?_
    exact gX4_whole_p159 _ _ _ _ _
  refine g_case hx (t := 186) (by decide +kernel) ?_ (fun hx => ?_)
  · refine g_iload 2 dX4_whole_186 rfl ?_
    refine g_iload 1 dX4_whole_188 rfl ?_
    refine g_iand dX4_whole_190 ?_
    refine g_i2l dX4_whole_191 ?_
    exact g_lreturn rfl dX4_whole_192
  refine g_case hx (t := 193) (by decide +kernel) ?_ (fun hx => ?_)
  · refine g_iload 2 dX4_whole_193 rfl ?_
    refine g_iload 1 dX4_whole_195 rfl ?_
    refine g_ior dX4_whole_197 ?_
    refine g_i2l dX4_whole_198 ?_
    exact g_lreturn rfl dX4_whole_199
  refine g_case hx (t := 200) (by decide +kernel) ?_ (fun hx => ?_)
  · refine g_iload 2 dX4_whole_200 rfl ?_
    refine g_iload 1 dX4_whole_202 rfl ?_
    refine g_ixor dX4_whole_204 ?_
    refine g_i2l dX4_whole_205 ?_
    exact g_lreturn rfl dX4_whole_206
  refine g_case hx (t := 207) (by decide +kernel) ?_ (fun hx => ?_)
  · refine g_iload 2 dX4_whole_207 rfl ?_
    refine g_iload 0 dX4_whole_209 rfl ?_
    refine g_ishl dX4_whole_211 ?_
    refine g_i2l dX4_whole_212 ?_
    exact g_lreturn rfl dX4_whole_213
  refine g_case hx (t := 214) (by decide +kernel) ?_ (fun hx => ?_)
  · refine g_iload 2 dX4_whole_214 rfl ?_
    refine g_iload 0 dX4_whole_216 rfl ?_
    refine g_ishr dX4_whole_218 ?_
    refine g_i2l dX4_whole_219 ?_
    exact g_lreturn rfl dX4_whole_220
  refine g_case hx (t := 221) (by decide +kernel) ?_ (fun hx => ?_)
  · refine g_iload 2 dX4_whole_221 rfl ?_
    refine g_iload 0 dX4_whole_223 rfl ?_
    refine g_iushr dX4_whole_225 ?_
    refine g_i2l dX4_whole_226 ?_
    exact g_lreturn rfl dX4_whole_227
  refine g_case hx (t := 228) (by decide +kernel) ?_ (fun hx => ?_)
  · refine g_iload 2 dX4_whole_228 rfl ?_
    refine g_iload 0 dX4_whole_230 rfl ?_
    refine g_ishl dX4_whole_232 ?_
    refine g_iload 0 dX4_whole_233 rfl ?_
    refine g_if_ne 242 dX4_whole_235 (by decide) ?_ ?_
    · refine g_iload 2 dX4_whole_242 rfl ?_
      refine g_bipush (v := 32) dX4_whole_244 (by decide) ?_
      refine g_iload 0 dX4_whole_246 rfl ?_
      refine g_isub dX4_whole_248 ?_
      refine g_iushr dX4_whole_249 ?_
      refine G.sub [] rfl ?_
      exact gX4_whole_p250 _ _ _
    · refine g_iconst (v := 0) dX4_whole_238 (by decide) ?_
      refine g_goto 250 dX4_whole_239 (by decide) ?_
      refine G.sub [] rfl ?_
      exact gX4_whole_p250 _ _ _
  refine g_dflt (t := 253) (tswT_d (by decide +kernel) (by decide +kernel) hx) ?_
  refine g_iload 2 dX4_whole_253 rfl ?_
  refine g_iload 0 dX4_whole_255 rfl ?_
  refine g_iushr dX4_whole_257 ?_
  refine g_iload 0 dX4_whole_258 rfl ?_
  refine g_if_ne 267 dX4_whole_260 (by decide) ?_ ?_
  · refine g_iload 2 dX4_whole_267 rfl ?_
    refine g_bipush (v := 32) dX4_whole_269 (by decide) ?_
    refine g_iload 0 dX4_whole_271 rfl ?_
    refine g_isub dX4_whole_273 ?_
    refine g_ishl dX4_whole_274 ?_
    refine G.sub [] rfl ?_
    exact gX4_whole_p275 _ _ _
  · refine g_iconst (v := 0) dX4_whole_263 (by decide) ?_
    refine g_goto 275 dX4_whole_264 (by decide) ?_
    refine G.sub [] rfl ?_
    exact gX4_whole_p275 _ _ _
theorem V.dX4_wholeWide_0 : decode cX4_wholeWide 0 = .ok (.lload 4, 2) := by decide +kernel
theorem V.dX4_wholeWide_2 : decode cX4_wholeWide 2 = .ok (.ldc2_w 85, 3) := by decide +kernel
theorem V.dX4_wholeWide_5 : decode cX4_wholeWide 5 = .ok (.land, 1) := by decide +kernel
theorem V.dX4_wholeWide_6 : decode cX4_wholeWide 6 = .ok (.l2i, 1) := by decide +kernel
theorem V.dX4_wholeWide_7 : decode cX4_wholeWide 7 = .ok (.istore 6, 2) := by decide +kernel
theorem V.dX4_wholeWide_9 : decode cX4_wholeWide 9 = .ok (.iload_n 1, 1) := by decide +kernel
theorem V.dX4_wholeWide_10 : decode cX4_wholeWide 10 = .ok (.tableswitch 199 0 16 #[82, 82, 82, 91, 96, 101, 106, 128, 106, 128, 147, 152, 157, 162, 167, 172, 177], 82) := by decide +kernel
theorem V.dX4_wholeWide_92 : decode cX4_wholeWide 92 = .ok (.iload_n 1, 1) := by decide +kernel
theorem V.dX4_wholeWide_93 : decode cX4_wholeWide 93 = .ok (.lload_n 2, 1) := by decide +kernel
theorem V.dX4_wholeWide_94 : decode cX4_wholeWide 94 = .ok (.bipush 64, 2) := by decide +kernel
theorem V.dX4_wholeWide_96 : decode cX4_wholeWide 96 = .ok (.invokestatic 71, 3) := by decide +kernel
theorem V.dX4_wholeWide_99 : decode cX4_wholeWide 99 = .ok (.i2l, 1) := by decide +kernel
theorem V.dX4_wholeWide_100 : decode cX4_wholeWide 100 = .ok (.lreturn, 1) := by decide +kernel
theorem V.dX4_wholeWide_101 : decode cX4_wholeWide 101 = .ok (.lload_n 2, 1) := by decide +kernel
theorem V.dX4_wholeWide_102 : decode cX4_wholeWide 102 = .ok (.lload 4, 2) := by decide +kernel
theorem V.dX4_wholeWide_104 : decode cX4_wholeWide 104 = .ok (.ladd, 1) := by decide +kernel
theorem V.dX4_wholeWide_105 : decode cX4_wholeWide 105 = .ok (.lreturn, 1) := by decide +kernel
theorem V.dX4_wholeWide_106 : decode cX4_wholeWide 106 = .ok (.lload_n 2, 1) := by decide +kernel
theorem V.dX4_wholeWide_107 : decode cX4_wholeWide 107 = .ok (.lload 4, 2) := by decide +kernel
theorem V.dX4_wholeWide_109 : decode cX4_wholeWide 109 = .ok (.lsub, 1) := by decide +kernel
theorem V.dX4_wholeWide_110 : decode cX4_wholeWide 110 = .ok (.lreturn, 1) := by decide +kernel
theorem V.dX4_wholeWide_111 : decode cX4_wholeWide 111 = .ok (.lload_n 2, 1) := by decide +kernel
theorem V.dX4_wholeWide_112 : decode cX4_wholeWide 112 = .ok (.lload 4, 2) := by decide +kernel
theorem V.dX4_wholeWide_114 : decode cX4_wholeWide 114 = .ok (.lmul, 1) := by decide +kernel
theorem V.dX4_wholeWide_115 : decode cX4_wholeWide 115 = .ok (.lreturn, 1) := by decide +kernel
theorem V.dX4_wholeWide_116 : decode cX4_wholeWide 116 = .ok (.aload_n 0, 1) := by decide +kernel
theorem V.dX4_wholeWide_117 : decode cX4_wholeWide 117 = .ok (.iload_n 1, 1) := by decide +kernel
theorem V.dX4_wholeWide_118 : decode cX4_wholeWide 118 = .ok (.bipush 8, 2) := by decide +kernel
theorem V.dX4_wholeWide_120 : decode cX4_wholeWide 120 = .ok (.if_icmp .ne 7, 3) := by decide +kernel
theorem V.dX4_wholeWide_123 : decode cX4_wholeWide 123 = .ok (.iconst 1, 1) := by decide +kernel
theorem V.dX4_wholeWide_124 : decode cX4_wholeWide 124 = .ok (.goto 4, 3) := by decide +kernel
theorem V.dX4_wholeWide_127 : decode cX4_wholeWide 127 = .ok (.iconst 0, 1) := by decide +kernel
theorem V.dX4_wholeWide_128 : decode cX4_wholeWide 128 = .ok (.lload_n 2, 1) := by decide +kernel
theorem V.dX4_wholeWide_129 : decode cX4_wholeWide 129 = .ok (.lload 4, 2) := by decide +kernel
theorem V.dX4_wholeWide_131 : decode cX4_wholeWide 131 = .ok (.ldc2_w 65, 3) := by decide +kernel
theorem V.dX4_wholeWide_134 : decode cX4_wholeWide 134 = .ok (.invokevirtual 77, 3) := by decide +kernel
theorem V.dX4_wholeWide_137 : decode cX4_wholeWide 137 = .ok (.lreturn, 1) := by decide +kernel
theorem V.dX4_wholeWide_138 : decode cX4_wholeWide 138 = .ok (.aload_n 0, 1) := by decide +kernel
theorem V.dX4_wholeWide_139 : decode cX4_wholeWide 139 = .ok (.iload_n 1, 1) := by decide +kernel
theorem V.dX4_wholeWide_140 : decode cX4_wholeWide 140 = .ok (.bipush 9, 2) := by decide +kernel
theorem V.dX4_wholeWide_142 : decode cX4_wholeWide 142 = .ok (.if_icmp .ne 7, 3) := by decide +kernel
theorem V.dX4_wholeWide_145 : decode cX4_wholeWide 145 = .ok (.iconst 1, 1) := by decide +kernel
theorem V.dX4_wholeWide_146 : decode cX4_wholeWide 146 = .ok (.goto 4, 3) := by decide +kernel
theorem V.dX4_wholeWide_149 : decode cX4_wholeWide 149 = .ok (.iconst 0, 1) := by decide +kernel
theorem V.dX4_wholeWide_150 : decode cX4_wholeWide 150 = .ok (.lload_n 2, 1) := by decide +kernel
theorem V.dX4_wholeWide_151 : decode cX4_wholeWide 151 = .ok (.lload 4, 2) := by decide +kernel
theorem V.dX4_wholeWide_153 : decode cX4_wholeWide 153 = .ok (.invokevirtual 81, 3) := by decide +kernel
theorem V.dX4_wholeWide_156 : decode cX4_wholeWide 156 = .ok (.lreturn, 1) := by decide +kernel
theorem V.dX4_wholeWide_157 : decode cX4_wholeWide 157 = .ok (.lload_n 2, 1) := by decide +kernel
theorem V.dX4_wholeWide_158 : decode cX4_wholeWide 158 = .ok (.lload 4, 2) := by decide +kernel
theorem V.dX4_wholeWide_160 : decode cX4_wholeWide 160 = .ok (.land, 1) := by decide +kernel
theorem V.dX4_wholeWide_161 : decode cX4_wholeWide 161 = .ok (.lreturn, 1) := by decide +kernel
theorem V.dX4_wholeWide_162 : decode cX4_wholeWide 162 = .ok (.lload_n 2, 1) := by decide +kernel
theorem V.dX4_wholeWide_163 : decode cX4_wholeWide 163 = .ok (.lload 4, 2) := by decide +kernel
theorem V.dX4_wholeWide_165 : decode cX4_wholeWide 165 = .ok (.lor, 1) := by decide +kernel
theorem V.dX4_wholeWide_166 : decode cX4_wholeWide 166 = .ok (.lreturn, 1) := by decide +kernel
theorem V.dX4_wholeWide_167 : decode cX4_wholeWide 167 = .ok (.lload_n 2, 1) := by decide +kernel
theorem V.dX4_wholeWide_168 : decode cX4_wholeWide 168 = .ok (.lload 4, 2) := by decide +kernel
theorem V.dX4_wholeWide_170 : decode cX4_wholeWide 170 = .ok (.lxor, 1) := by decide +kernel
theorem V.dX4_wholeWide_171 : decode cX4_wholeWide 171 = .ok (.lreturn, 1) := by decide +kernel
theorem V.dX4_wholeWide_172 : decode cX4_wholeWide 172 = .ok (.lload_n 2, 1) := by decide +kernel
theorem V.dX4_wholeWide_173 : decode cX4_wholeWide 173 = .ok (.iload 6, 2) := by decide +kernel
theorem V.dX4_wholeWide_175 : decode cX4_wholeWide 175 = .ok (.lshl, 1) := by decide +kernel
theorem V.dX4_wholeWide_176 : decode cX4_wholeWide 176 = .ok (.lreturn, 1) := by decide +kernel
theorem V.dX4_wholeWide_177 : decode cX4_wholeWide 177 = .ok (.lload_n 2, 1) := by decide +kernel
theorem V.dX4_wholeWide_178 : decode cX4_wholeWide 178 = .ok (.iload 6, 2) := by decide +kernel
theorem V.dX4_wholeWide_180 : decode cX4_wholeWide 180 = .ok (.lshr, 1) := by decide +kernel
theorem V.dX4_wholeWide_181 : decode cX4_wholeWide 181 = .ok (.lreturn, 1) := by decide +kernel
theorem V.dX4_wholeWide_182 : decode cX4_wholeWide 182 = .ok (.lload_n 2, 1) := by decide +kernel
theorem V.dX4_wholeWide_183 : decode cX4_wholeWide 183 = .ok (.iload 6, 2) := by decide +kernel
theorem V.dX4_wholeWide_185 : decode cX4_wholeWide 185 = .ok (.lushr, 1) := by decide +kernel
theorem V.dX4_wholeWide_186 : decode cX4_wholeWide 186 = .ok (.lreturn, 1) := by decide +kernel
theorem V.dX4_wholeWide_187 : decode cX4_wholeWide 187 = .ok (.lload_n 2, 1) := by decide +kernel
theorem V.dX4_wholeWide_188 : decode cX4_wholeWide 188 = .ok (.iload 6, 2) := by decide +kernel
theorem V.dX4_wholeWide_190 : decode cX4_wholeWide 190 = .ok (.lshl, 1) := by decide +kernel
theorem V.dX4_wholeWide_191 : decode cX4_wholeWide 191 = .ok (.iload 6, 2) := by decide +kernel
theorem V.dX4_wholeWide_193 : decode cX4_wholeWide 193 = .ok (.ifCond .ne 7, 3) := by decide +kernel
theorem V.dX4_wholeWide_196 : decode cX4_wholeWide 196 = .ok (.lconst 0, 1) := by decide +kernel
theorem V.dX4_wholeWide_197 : decode cX4_wholeWide 197 = .ok (.goto 10, 3) := by decide +kernel
theorem V.dX4_wholeWide_200 : decode cX4_wholeWide 200 = .ok (.lload_n 2, 1) := by decide +kernel
theorem V.dX4_wholeWide_201 : decode cX4_wholeWide 201 = .ok (.bipush 64, 2) := by decide +kernel
theorem V.dX4_wholeWide_203 : decode cX4_wholeWide 203 = .ok (.iload 6, 2) := by decide +kernel
theorem V.dX4_wholeWide_205 : decode cX4_wholeWide 205 = .ok (.isub, 1) := by decide +kernel
theorem V.dX4_wholeWide_206 : decode cX4_wholeWide 206 = .ok (.lushr, 1) := by decide +kernel
theorem V.dX4_wholeWide_207 : decode cX4_wholeWide 207 = .ok (.lor, 1) := by decide +kernel
theorem V.dX4_wholeWide_208 : decode cX4_wholeWide 208 = .ok (.lreturn, 1) := by decide +kernel
theorem V.dX4_wholeWide_209 : decode cX4_wholeWide 209 = .ok (.lload_n 2, 1) := by decide +kernel
theorem V.dX4_wholeWide_210 : decode cX4_wholeWide 210 = .ok (.iload 6, 2) := by decide +kernel
theorem V.dX4_wholeWide_212 : decode cX4_wholeWide 212 = .ok (.lushr, 1) := by decide +kernel
theorem V.dX4_wholeWide_213 : decode cX4_wholeWide 213 = .ok (.iload 6, 2) := by decide +kernel
theorem V.dX4_wholeWide_215 : decode cX4_wholeWide 215 = .ok (.ifCond .ne 7, 3) := by decide +kernel
theorem V.dX4_wholeWide_218 : decode cX4_wholeWide 218 = .ok (.lconst 0, 1) := by decide +kernel
theorem V.dX4_wholeWide_219 : decode cX4_wholeWide 219 = .ok (.goto 10, 3) := by decide +kernel
theorem V.dX4_wholeWide_222 : decode cX4_wholeWide 222 = .ok (.lload_n 2, 1) := by decide +kernel
theorem V.dX4_wholeWide_223 : decode cX4_wholeWide 223 = .ok (.bipush 64, 2) := by decide +kernel
theorem V.dX4_wholeWide_225 : decode cX4_wholeWide 225 = .ok (.iload 6, 2) := by decide +kernel
theorem V.dX4_wholeWide_227 : decode cX4_wholeWide 227 = .ok (.isub, 1) := by decide +kernel
theorem V.dX4_wholeWide_228 : decode cX4_wholeWide 228 = .ok (.lshl, 1) := by decide +kernel
theorem V.dX4_wholeWide_229 : decode cX4_wholeWide 229 = .ok (.lor, 1) := by decide +kernel
theorem V.dX4_wholeWide_230 : decode cX4_wholeWide 230 = .ok (.lreturn, 1) := by decide +kernel
/-! ModuleEngine$Numbers.wholeWide(IJJ)J -/
def V.Num_wholeWide_p92  (σ : HS) (x1 : Int32) (x2 : Int64) : Option (Int64 × HS) :=
  cl (Num_count σ x1 x2 (64 : Int32)) fun r2 σ1 =>
  some (r2.toInt64, σ1)
theorem V.gX4_wholeWide_p92 {X : CX}  (σ : HS) (x1 : Int32) (x2 : Int64) : G X RX4 "wholeWide" cX4_wholeWide 7 (some .long) 2 55 enJ 92 [(1, iv x1), (2, jv x2)] [] σ (Num_wholeWide_p92 σ x1 x2) := by
  unfold Num_wholeWide_p92
  refine g_iload_n 1 0 dX4_wholeWide_92 rfl rfl ?_
  refine g_lload_n 2 1 dX4_wholeWide_93 rfl rfl ?_
  refine g_bipush (v := 64) dX4_wholeWide_94 (by decide) ?_
  refine g_callS (fc := fun sς => Num_count sς x1 x2 (64 : Int32)) (as := [iv x1, jv x2, iv (64 : Int32)]) q2558 mdX4_71 (ctX4_count x1 x2 (64 : Int32)) rfl (Nat.le_of_ble_eq_true rfl) (Nat.le_of_ble_eq_true rfl) (Nat.le_of_ble_eq_true rfl) pu_I dX4_wholeWide_96 (fun r2 σ1 => ?_)
  refine g_i2l dX4_wholeWide_99 ?_
  exact g_lreturn rfl dX4_wholeWide_100
def V.Num_wholeWide_p128  (σ : HS) (x2 : Int64) (x4 : Int64) (s0 : Int32) (s1 : Nat) : Option (Int64 × HS) :=
  ck (tg σ s1 = 5) <| cl (Num_quotient σ s1 s0 x2 x4 (-9223372036854775808 : Int64)) fun r2 σ1 =>
  some (r2, σ1)
theorem V.gX4_wholeWide_p128 {X : CX}  (σ : HS) (x2 : Int64) (x4 : Int64) (s0 : Int32) (s1 : Nat) : G X RX4 "wholeWide" cX4_wholeWide 7 (some .long) 2 55 enJ 128 [(2, jv x2), (4, jv x4)] [iv s0, av s1] σ (Num_wholeWide_p128 σ x2 x4 s0 s1) := by
  unfold Num_wholeWide_p128
  refine g_lload_n 2 0 dX4_wholeWide_128 rfl rfl ?_
  refine g_lload 1 dX4_wholeWide_129 rfl ?_
  refine g_ldc2 q2523 dX4_wholeWide_131 ?_
  refine g_callV (fc := fun sς => Num_quotient sς s1 s0 x2 x4 (-9223372036854775808 : Int64)) (ci := 4) (as := [iv s0, jv x2, jv x4, jv (-9223372036854775808 : Int64)]) rfl rfl rfl q2563 qs168 mdX4_77 (ctX4_quotient s1 s0 x2 x4 (-9223372036854775808 : Int64)) rfl (Nat.le_of_ble_eq_true rfl) (Nat.le_of_ble_eq_true rfl) (Nat.le_of_ble_eq_true rfl) pu_J dX4_wholeWide_134 (fun r2 σ1 => ?_)
  exact g_lreturn rfl dX4_wholeWide_137
def V.Num_wholeWide_p116  (σ : HS) (x0 : Nat) (x1 : Int32) (x2 : Int64) (x4 : Int64) : Option (Int64 × HS) :=
  if x1 = (8 : Int32) then (
    Num_wholeWide_p128 σ x2 x4 (1 : Int32) x0)
  else (
    Num_wholeWide_p128 σ x2 x4 (0 : Int32) x0)
theorem V.gX4_wholeWide_p116 {X : CX}  (σ : HS) (x0 : Nat) (x1 : Int32) (x2 : Int64) (x4 : Int64) : G X RX4 "wholeWide" cX4_wholeWide 7 (some .long) 2 55 enJ 116 [(0, av x0), (1, iv x1), (2, jv x2), (4, jv x4)] [] σ (Num_wholeWide_p116 σ x0 x1 x2 x4) := by
  unfold Num_wholeWide_p116
  refine g_aload_n 0 0 dX4_wholeWide_116 rfl rfl ?_
  refine g_iload_n 1 1 dX4_wholeWide_117 rfl rfl ?_
  refine g_bipush (v := 8) dX4_wholeWide_118 (by decide) ?_
  refine g_icmp_ne 127 dX4_wholeWide_120 (by decide) ?_ ?_
  · refine g_iconst (v := 0) dX4_wholeWide_127 (by decide) ?_
    refine G.sub [2, 3] rfl ?_
    exact gX4_wholeWide_p128 _ _ _ _ _
  · refine g_iconst (v := 1) dX4_wholeWide_123 (by decide) ?_
    refine g_goto 128 dX4_wholeWide_124 (by decide) ?_
    refine G.sub [2, 3] rfl ?_
    exact gX4_wholeWide_p128 _ _ _ _ _
def V.Num_wholeWide_p150  (σ : HS) (x2 : Int64) (x4 : Int64) (s0 : Int32) (s1 : Nat) : Option (Int64 × HS) :=
  ck (tg σ s1 = 5) <| cl (Num_quotientBelow σ s1 s0 x2 x4) fun r2 σ1 =>
  some (r2, σ1)
theorem V.gX4_wholeWide_p150 {X : CX}  (σ : HS) (x2 : Int64) (x4 : Int64) (s0 : Int32) (s1 : Nat) : G X RX4 "wholeWide" cX4_wholeWide 7 (some .long) 2 55 enJ 150 [(2, jv x2), (4, jv x4)] [iv s0, av s1] σ (Num_wholeWide_p150 σ x2 x4 s0 s1) := by
  unfold Num_wholeWide_p150
  refine g_lload_n 2 0 dX4_wholeWide_150 rfl rfl ?_
  refine g_lload 1 dX4_wholeWide_151 rfl ?_
  refine g_callV (fc := fun sς => Num_quotientBelow sς s1 s0 x2 x4) (ci := 4) (as := [iv s0, jv x2, jv x4]) rfl rfl rfl q2572 qs170 mdX4_81 (ctX4_quotientBelow s1 s0 x2 x4) rfl (Nat.le_of_ble_eq_true rfl) (Nat.le_of_ble_eq_true rfl) (Nat.le_of_ble_eq_true rfl) pu_J dX4_wholeWide_153 (fun r2 σ1 => ?_)
  exact g_lreturn rfl dX4_wholeWide_156
def V.Num_wholeWide_p138  (σ : HS) (x0 : Nat) (x1 : Int32) (x2 : Int64) (x4 : Int64) : Option (Int64 × HS) :=
  if x1 = (9 : Int32) then (
    Num_wholeWide_p150 σ x2 x4 (1 : Int32) x0)
  else (
    Num_wholeWide_p150 σ x2 x4 (0 : Int32) x0)
theorem V.gX4_wholeWide_p138 {X : CX}  (σ : HS) (x0 : Nat) (x1 : Int32) (x2 : Int64) (x4 : Int64) : G X RX4 "wholeWide" cX4_wholeWide 7 (some .long) 2 55 enJ 138 [(0, av x0), (1, iv x1), (2, jv x2), (4, jv x4)] [] σ (Num_wholeWide_p138 σ x0 x1 x2 x4) := by
  unfold Num_wholeWide_p138
  refine g_aload_n 0 0 dX4_wholeWide_138 rfl rfl ?_
  refine g_iload_n 1 1 dX4_wholeWide_139 rfl rfl ?_
  refine g_bipush (v := 9) dX4_wholeWide_140 (by decide) ?_
  refine g_icmp_ne 149 dX4_wholeWide_142 (by decide) ?_ ?_
  · refine g_iconst (v := 0) dX4_wholeWide_149 (by decide) ?_
    refine G.sub [2, 3] rfl ?_
    exact gX4_wholeWide_p150 _ _ _ _ _
  · refine g_iconst (v := 1) dX4_wholeWide_145 (by decide) ?_
    refine g_goto 150 dX4_wholeWide_146 (by decide) ?_
    refine G.sub [2, 3] rfl ?_
    exact gX4_wholeWide_p150 _ _ _ _ _
def V.Num_wholeWide_p207  (σ : HS) (s0 : Int64) (s1 : Int64) : Option (Int64 × HS) :=
  some (s1 ||| s0, σ)
theorem V.gX4_wholeWide_p207 {X : CX}  (σ : HS) (s0 : Int64) (s1 : Int64) : G X RX4 "wholeWide" cX4_wholeWide 7 (some .long) 2 55 enJ 207 [] [jv s0, jv s1] σ (Num_wholeWide_p207 σ s0 s1) := by
  unfold Num_wholeWide_p207
  refine g_lor dX4_wholeWide_207 ?_
  exact g_lreturn rfl dX4_wholeWide_208
def V.Num_wholeWide_p229  (σ : HS) (s0 : Int64) (s1 : Int64) : Option (Int64 × HS) :=
  some (s1 ||| s0, σ)
theorem V.gX4_wholeWide_p229 {X : CX}  (σ : HS) (s0 : Int64) (s1 : Int64) : G X RX4 "wholeWide" cX4_wholeWide 7 (some .long) 2 55 enJ 229 [] [jv s0, jv s1] σ (Num_wholeWide_p229 σ s0 s1) := by
  unfold Num_wholeWide_p229
  refine g_lor dX4_wholeWide_229 ?_
  exact g_lreturn rfl dX4_wholeWide_230
def V.Num_wholeWide (σ : HS) (x0 : Nat) (x1 : Int32) (x2 : Int64) (x4 : Int64) : Option (Int64 × HS) :=
  bn ((x4 &&& (63 : Int64)).toInt32) fun y1 =>
  swx x1 [
    (0, (
      Num_wholeWide_p92 σ x1 x2)),
    (1, (
      Num_wholeWide_p92 σ x1 x2)),
    (2, (
      Num_wholeWide_p92 σ x1 x2)),
    (3, (
      some (x2 + x4, σ))),
    (4, (
      some (x2 - x4, σ))),
    (5, (
      some (x2 * x4, σ))),
    (6, (
      Num_wholeWide_p116 σ x0 x1 x2 x4)),
    (7, (
      Num_wholeWide_p138 σ x0 x1 x2 x4)),
    (8, (
      Num_wholeWide_p116 σ x0 x1 x2 x4)),
    (9, (
      Num_wholeWide_p138 σ x0 x1 x2 x4)),
    (10, (
      some (x2 &&& x4, σ))),
    (11, (
      some (x2 ||| x4, σ))),
    (12, (
      some (x2 ^^^ x4, σ))),
    (13, (
      some (lshl x2 y1, σ))),
    (14, (
      some (lshr x2 y1, σ))),
    (15, (
      some (lushr x2 y1, σ))),
    (16, (
      if y1 = 0 then (
        Num_wholeWide_p207 σ (0 : Int64) (lshl x2 y1))
      else (
        Num_wholeWide_p207 σ (lushr x2 ((64 : Int32) - y1)) (lshl x2 y1))))
    ] (
    if y1 = 0 then (
      Num_wholeWide_p229 σ (0 : Int64) (lushr x2 y1))
    else (
      Num_wholeWide_p229 σ (lshl x2 ((64 : Int32) - y1)) (lushr x2 y1)))
theorem V.ctX4_wholeWide (x0 : Nat) (x1 : Int32) (x2 : Int64) (x4 : Int64) : Ct yX4_wholeWide  cX4_wholeWide 7 (some .long) 2 55 eJ [av x0, iv x1, jv x2, jv x4] (fun σ => Num_wholeWide σ x0 x1 x2 x4) := by
  refine Ct.of (own := RX4) (nm := "wholeWide") (desc := "(IJJ)J") rfl (by decide) (Nat.le_of_ble_eq_true rfl) (by decide) (fun X σ => ?_)
  show G X RX4 "wholeWide" cX4_wholeWide 7 (some .long) 2 55 enJ 0 [(0, av x0), (1, iv x1), (2, jv x2), (4, jv x4)] [] σ (Num_wholeWide σ x0 x1 x2 x4)
  unfold Num_wholeWide
  refine g_lload 3 dX4_wholeWide_0 rfl ?_
  refine g_ldc2 q2579 dX4_wholeWide_2 ?_
  refine g_land dX4_wholeWide_5 ?_
  refine g_l2i dX4_wholeWide_6 ?_
  refine g_nmI (fun y1 => ?_)
  refine g_istore dX4_wholeWide_7 (by decide) rfl ?_
  refine g_iload_n 1 2 dX4_wholeWide_9 rfl rfl ?_
  refine g_tsw dX4_wholeWide_10 (by decide +kernel) ?_
  refine g_case ex0 (t := 92) (by decide +kernel) ?_ (fun hx => ?_)
  · refine G.sub [2, 3] rfl ?_
    exact gX4_wholeWide_p92 _ _ _
  refine g_case hx (t := 92) (by decide +kernel) ?_ (fun hx => ?_)
  · refine G.sub [2, 3] rfl ?_
    exact gX4_wholeWide_p92 _ _ _
  refine g_case hx (t := 92) (by decide +kernel) ?_ (fun hx => ?_)
  · refine G.sub [2, 3] rfl ?_
    exact gX4_wholeWide_p92 _ _ _
  refine g_case hx (t := 101) (by decide +kernel) ?_ (fun hx => ?_)
  · refine g_lload_n 2 3 dX4_wholeWide_101 rfl rfl ?_
    refine g_lload 4 dX4_wholeWide_102 rfl ?_
    refine g_ladd dX4_wholeWide_104 ?_
    exact g_lreturn rfl dX4_wholeWide_105
  refine g_case hx (t := 106) (by decide +kernel) ?_ (fun hx => ?_)
  · refine g_lload_n 2 3 dX4_wholeWide_106 rfl rfl ?_
    refine g_lload 4 dX4_wholeWide_107 rfl ?_
    refine g_lsub dX4_wholeWide_109 ?_
    exact g_lreturn rfl dX4_wholeWide_110
  refine g_case hx (t := 111) (by decide +kernel) ?_ (fun hx => ?_)
  · refine g_lload_n 2 3 dX4_wholeWide_111 rfl rfl ?_
    refine g_lload 4 dX4_wholeWide_112 rfl ?_
    refine g_lmul dX4_wholeWide_114 ?_
    exact g_lreturn rfl dX4_wholeWide_115
  refine g_case hx (t := 116) (by decide +kernel) ?_ (fun hx => ?_)
  · refine G.sub [1, 2, 3, 4] rfl ?_
    exact gX4_wholeWide_p116 _ _ _ _ _
  refine g_case hx (t := 138) (by decide +kernel) ?_ (fun hx => ?_)
  · refine G.sub [1, 2, 3, 4] rfl ?_
    exact gX4_wholeWide_p138 _ _ _ _ _
  refine g_case hx (t := 116) (by decide +kernel) ?_ (fun hx => ?_)
  · refine G.sub [1, 2, 3, 4] rfl ?_
    exact gX4_wholeWide_p116 _ _ _ _ _
  refine g_case hx (t := 138) (by decide +kernel) ?_ (fun hx => ?_)
  · refine G.sub [1, 2, 3, 4] rfl ?_
    exact gX4_wholeWide_p138 _ _ _ _ _
  refine g_case hx (t := 157) (by decide +kernel) ?_ (fun hx => ?_)
  · refine g_lload_n 2 3 dX4_wholeWide_157 rfl rfl ?_
    refine g_lload 4 dX4_wholeWide_158 rfl ?_
    refine g_land dX4_wholeWide_160 ?_
    exact g_lreturn rfl dX4_wholeWide_161
  refine g_case hx (t := 162) (by decide +kernel) ?_ (fun hx => ?_)
  · refine g_lload_n 2 3 dX4_wholeWide_162 rfl rfl ?_
    refine g_lload 4 dX4_wholeWide_163 rfl ?_
    refine g_lor dX4_wholeWide_165 ?_
    exact g_lreturn rfl dX4_wholeWide_166
  refine g_case hx (t := 167) (by decide +kernel) ?_ (fun hx => ?_)
  · refine g_lload_n 2 3 dX4_wholeWide_167 rfl rfl ?_
    refine g_lload 4 dX4_wholeWide_168 rfl ?_
    refine g_lxor dX4_wholeWide_170 ?_
    exact g_lreturn rfl dX4_wholeWide_171
  refine g_case hx (t := 172) (by decide +kernel) ?_ (fun hx => ?_)
  · refine g_lload_n 2 3 dX4_wholeWide_172 rfl rfl ?_
    refine g_iload 0 dX4_wholeWide_173 rfl ?_
    refine g_lshl dX4_wholeWide_175 ?_
    exact g_lreturn rfl dX4_wholeWide_176
  refine g_case hx (t := 177) (by decide +kernel) ?_ (fun hx => ?_)
  · refine g_lload_n 2 3 dX4_wholeWide_177 rfl rfl ?_
    refine g_iload 0 dX4_wholeWide_178 rfl ?_
    refine g_lshr dX4_wholeWide_180 ?_
    exact g_lreturn rfl dX4_wholeWide_181
  refine g_case hx (t := 182) (by decide +kernel) ?_ (fun hx => ?_)
  · refine g_lload_n 2 3 dX4_wholeWide_182 rfl rfl ?_
    refine g_iload 0 dX4_wholeWide_183 rfl ?_
    refine g_lushr dX4_wholeWide_185 ?_
    exact g_lreturn rfl dX4_wholeWide_186
  refine g_case hx (t := 187) (by decide +kernel) ?_ (fun hx => ?_)
  · refine g_lload_n 2 3 dX4_wholeWide_187 rfl rfl ?_
    refine g_iload 0 dX4_wholeWide_188 rfl ?_
    refine g_lshl dX4_wholeWide_190 ?_
    refine g_iload 0 dX4_wholeWide_191 rfl ?_
    refine g_if_ne 200 dX4_wholeWide_193 (by decide) ?_ ?_
    · refine g_lload_n 2 3 dX4_wholeWide_200 rfl rfl ?_
      refine g_bipush (v := 64) dX4_wholeWide_201 (by decide) ?_
      refine g_iload 0 dX4_wholeWide_203 rfl ?_
      refine g_isub dX4_wholeWide_205 ?_
      refine g_lushr dX4_wholeWide_206 ?_
      refine G.sub [] rfl ?_
      exact gX4_wholeWide_p207 _ _ _
    · refine g_lconst (v := 0) dX4_wholeWide_196 (by decide) ?_
      refine g_goto 207 dX4_wholeWide_197 (by decide) ?_
      refine G.sub [] rfl ?_
      exact gX4_wholeWide_p207 _ _ _
  refine g_dflt (t := 209) (tswT_d (by decide +kernel) (by decide +kernel) hx) ?_
  refine g_lload_n 2 3 dX4_wholeWide_209 rfl rfl ?_
  refine g_iload 0 dX4_wholeWide_210 rfl ?_
  refine g_lushr dX4_wholeWide_212 ?_
  refine g_iload 0 dX4_wholeWide_213 rfl ?_
  refine g_if_ne 222 dX4_wholeWide_215 (by decide) ?_ ?_
  · refine g_lload_n 2 3 dX4_wholeWide_222 rfl rfl ?_
    refine g_bipush (v := 64) dX4_wholeWide_223 (by decide) ?_
    refine g_iload 0 dX4_wholeWide_225 rfl ?_
    refine g_isub dX4_wholeWide_227 ?_
    refine g_lshl dX4_wholeWide_228 ?_
    refine G.sub [] rfl ?_
    exact gX4_wholeWide_p229 _ _ _
  · refine g_lconst (v := 0) dX4_wholeWide_218 (by decide) ?_
    refine g_goto 229 dX4_wholeWide_219 (by decide) ?_
    refine G.sub [] rfl ?_
    exact gX4_wholeWide_p229 _ _ _
theorem V.dX4_integral_0 : decode cX4_integral 0 = .ok (.aload_n 0, 1) := by decide +kernel
theorem V.dX4_integral_1 : decode cX4_integral 1 = .ok (.lload_n 2, 1) := by decide +kernel
theorem V.dX4_integral_2 : decode cX4_integral 2 = .ok (.invokevirtual 143, 3) := by decide +kernel
theorem V.dX4_integral_5 : decode cX4_integral 5 = .ok (.ineg, 1) := by decide +kernel
theorem V.dX4_integral_6 : decode cX4_integral 6 = .ok (.istore 4, 2) := by decide +kernel
theorem V.dX4_integral_8 : decode cX4_integral 8 = .ok (.aload_n 0, 1) := by decide +kernel
theorem V.dX4_integral_9 : decode cX4_integral 9 = .ok (.lload_n 2, 1) := by decide +kernel
theorem V.dX4_integral_10 : decode cX4_integral 10 = .ok (.invokevirtual 147, 3) := by decide +kernel
theorem V.dX4_integral_13 : decode cX4_integral 13 = .ok (.ifCond .ne 16, 3) := by decide +kernel
theorem V.dX4_integral_16 : decode cX4_integral 16 = .ok (.aload_n 0, 1) := by decide +kernel
theorem V.dX4_integral_17 : decode cX4_integral 17 = .ok (.lload_n 2, 1) := by decide +kernel
theorem V.dX4_integral_18 : decode cX4_integral 18 = .ok (.invokevirtual 140, 3) := by decide +kernel
theorem V.dX4_integral_21 : decode cX4_integral 21 = .ok (.ifCond .ne 8, 3) := by decide +kernel
theorem V.dX4_integral_24 : decode cX4_integral 24 = .ok (.iload 4, 2) := by decide +kernel
theorem V.dX4_integral_26 : decode cX4_integral 26 = .ok (.ifCond .gt 5, 3) := by decide +kernel
theorem V.dX4_integral_29 : decode cX4_integral 29 = .ok (.lload_n 2, 1) := by decide +kernel
theorem V.dX4_integral_30 : decode cX4_integral 30 = .ok (.lreturn, 1) := by decide +kernel
theorem V.dX4_integral_31 : decode cX4_integral 31 = .ok (.aload_n 0, 1) := by decide +kernel
theorem V.dX4_integral_32 : decode cX4_integral 32 = .ok (.lload_n 2, 1) := by decide +kernel
theorem V.dX4_integral_33 : decode cX4_integral 33 = .ok (.invokevirtual 150, 3) := by decide +kernel
theorem V.dX4_integral_36 : decode cX4_integral 36 = .ok (.lstore 5, 2) := by decide +kernel
theorem V.dX4_integral_38 : decode cX4_integral 38 = .ok (.iload 4, 2) := by decide +kernel
theorem V.dX4_integral_40 : decode cX4_integral 40 = .ok (.bipush 62, 2) := by decide +kernel
theorem V.dX4_integral_42 : decode cX4_integral 42 = .ok (.if_icmp .le 7, 3) := by decide +kernel
theorem V.dX4_integral_45 : decode cX4_integral 45 = .ok (.lconst 0, 1) := by decide +kernel
theorem V.dX4_integral_46 : decode cX4_integral 46 = .ok (.goto 8, 3) := by decide +kernel
theorem V.dX4_integral_49 : decode cX4_integral 49 = .ok (.lload 5, 2) := by decide +kernel
theorem V.dX4_integral_51 : decode cX4_integral 51 = .ok (.iload 4, 2) := by decide +kernel
theorem V.dX4_integral_53 : decode cX4_integral 53 = .ok (.lshr, 1) := by decide +kernel
theorem V.dX4_integral_54 : decode cX4_integral 54 = .ok (.lstore 7, 2) := by decide +kernel
theorem V.dX4_integral_56 : decode cX4_integral 56 = .ok (.iload 4, 2) := by decide +kernel
theorem V.dX4_integral_58 : decode cX4_integral 58 = .ok (.bipush 62, 2) := by decide +kernel
theorem V.dX4_integral_60 : decode cX4_integral 60 = .ok (.if_icmp .le 7, 3) := by decide +kernel
theorem V.dX4_integral_63 : decode cX4_integral 63 = .ok (.lconst 1, 1) := by decide +kernel
theorem V.dX4_integral_64 : decode cX4_integral 64 = .ok (.goto 12, 3) := by decide +kernel
theorem V.dX4_integral_67 : decode cX4_integral 67 = .ok (.lload 5, 2) := by decide +kernel
theorem V.dX4_integral_69 : decode cX4_integral 69 = .ok (.lconst 1, 1) := by decide +kernel
theorem V.dX4_integral_70 : decode cX4_integral 70 = .ok (.iload 4, 2) := by decide +kernel
theorem V.dX4_integral_72 : decode cX4_integral 72 = .ok (.lshl, 1) := by decide +kernel
theorem V.dX4_integral_73 : decode cX4_integral 73 = .ok (.lconst 1, 1) := by decide +kernel
theorem V.dX4_integral_74 : decode cX4_integral 74 = .ok (.lsub, 1) := by decide +kernel
theorem V.dX4_integral_75 : decode cX4_integral 75 = .ok (.land, 1) := by decide +kernel
theorem V.dX4_integral_76 : decode cX4_integral 76 = .ok (.lstore 9, 2) := by decide +kernel
theorem V.dX4_integral_78 : decode cX4_integral 78 = .ok (.iload 4, 2) := by decide +kernel
theorem V.dX4_integral_80 : decode cX4_integral 80 = .ok (.bipush 62, 2) := by decide +kernel
theorem V.dX4_integral_82 : decode cX4_integral 82 = .ok (.if_icmp .gt 19, 3) := by decide +kernel
theorem V.dX4_integral_85 : decode cX4_integral 85 = .ok (.lload 9, 2) := by decide +kernel
theorem V.dX4_integral_87 : decode cX4_integral 87 = .ok (.lconst 1, 1) := by decide +kernel
theorem V.dX4_integral_88 : decode cX4_integral 88 = .ok (.iload 4, 2) := by decide +kernel
theorem V.dX4_integral_90 : decode cX4_integral 90 = .ok (.iconst 1, 1) := by decide +kernel
theorem V.dX4_integral_91 : decode cX4_integral 91 = .ok (.isub, 1) := by decide +kernel
theorem V.dX4_integral_92 : decode cX4_integral 92 = .ok (.lshl, 1) := by decide +kernel
theorem V.dX4_integral_93 : decode cX4_integral 93 = .ok (.lcmp, 1) := by decide +kernel
theorem V.dX4_integral_94 : decode cX4_integral 94 = .ok (.ifCond .ne 7, 3) := by decide +kernel
theorem V.dX4_integral_97 : decode cX4_integral 97 = .ok (.iconst 1, 1) := by decide +kernel
theorem V.dX4_integral_98 : decode cX4_integral 98 = .ok (.goto 4, 3) := by decide +kernel
theorem V.dX4_integral_101 : decode cX4_integral 101 = .ok (.iconst 0, 1) := by decide +kernel
theorem V.dX4_integral_102 : decode cX4_integral 102 = .ok (.istore 11, 2) := by decide +kernel
theorem V.dX4_integral_104 : decode cX4_integral 104 = .ok (.iload 4, 2) := by decide +kernel
theorem V.dX4_integral_106 : decode cX4_integral 106 = .ok (.bipush 62, 2) := by decide +kernel
theorem V.dX4_integral_108 : decode cX4_integral 108 = .ok (.if_icmp .gt 19, 3) := by decide +kernel
theorem V.dX4_integral_111 : decode cX4_integral 111 = .ok (.lload 9, 2) := by decide +kernel
theorem V.dX4_integral_113 : decode cX4_integral 113 = .ok (.lconst 1, 1) := by decide +kernel
theorem V.dX4_integral_114 : decode cX4_integral 114 = .ok (.iload 4, 2) := by decide +kernel
theorem V.dX4_integral_116 : decode cX4_integral 116 = .ok (.iconst 1, 1) := by decide +kernel
theorem V.dX4_integral_117 : decode cX4_integral 117 = .ok (.isub, 1) := by decide +kernel
theorem V.dX4_integral_118 : decode cX4_integral 118 = .ok (.lshl, 1) := by decide +kernel
theorem V.dX4_integral_119 : decode cX4_integral 119 = .ok (.lcmp, 1) := by decide +kernel
theorem V.dX4_integral_120 : decode cX4_integral 120 = .ok (.ifCond .le 7, 3) := by decide +kernel
theorem V.dX4_integral_123 : decode cX4_integral 123 = .ok (.iconst 1, 1) := by decide +kernel
theorem V.dX4_integral_124 : decode cX4_integral 124 = .ok (.goto 4, 3) := by decide +kernel
theorem V.dX4_integral_127 : decode cX4_integral 127 = .ok (.iconst 0, 1) := by decide +kernel
theorem V.dX4_integral_128 : decode cX4_integral 128 = .ok (.istore 12, 2) := by decide +kernel
theorem V.dX4_integral_130 : decode cX4_integral 130 = .ok (.aload_n 0, 1) := by decide +kernel
theorem V.dX4_integral_131 : decode cX4_integral 131 = .ok (.lload_n 2, 1) := by decide +kernel
theorem V.dX4_integral_132 : decode cX4_integral 132 = .ok (.invokevirtual 99, 3) := by decide +kernel
theorem V.dX4_integral_135 : decode cX4_integral 135 = .ok (.istore 13, 2) := by decide +kernel
theorem V.dX4_integral_137 : decode cX4_integral 137 = .ok (.lload 9, 2) := by decide +kernel
theorem V.dX4_integral_139 : decode cX4_integral 139 = .ok (.lconst 0, 1) := by decide +kernel
theorem V.dX4_integral_140 : decode cX4_integral 140 = .ok (.lcmp, 1) := by decide +kernel
theorem V.dX4_integral_141 : decode cX4_integral 141 = .ok (.ifCond .eq 59, 3) := by decide +kernel
theorem V.dX4_integral_144 : decode cX4_integral 144 = .ok (.iload_n 1, 1) := by decide +kernel
theorem V.dX4_integral_145 : decode cX4_integral 145 = .ok (.iconst 2, 1) := by decide +kernel
theorem V.dX4_integral_146 : decode cX4_integral 146 = .ok (.if_icmp .ne 11, 3) := by decide +kernel
theorem V.dX4_integral_149 : decode cX4_integral 149 = .ok (.iload 13, 2) := by decide +kernel
theorem V.dX4_integral_151 : decode cX4_integral 151 = .ok (.ifCond .ne 49, 3) := by decide +kernel
theorem V.dX4_integral_154 : decode cX4_integral 154 = .ok (.goto 42, 3) := by decide +kernel
theorem V.dX4_integral_157 : decode cX4_integral 157 = .ok (.iload_n 1, 1) := by decide +kernel
theorem V.dX4_integral_158 : decode cX4_integral 158 = .ok (.iconst 3, 1) := by decide +kernel
theorem V.dX4_integral_159 : decode cX4_integral 159 = .ok (.if_icmp .ne 11, 3) := by decide +kernel
theorem V.dX4_integral_162 : decode cX4_integral 162 = .ok (.iload 13, 2) := by decide +kernel
theorem V.dX4_integral_164 : decode cX4_integral 164 = .ok (.ifCond .eq 36, 3) := by decide +kernel
theorem V.dX4_integral_167 : decode cX4_integral 167 = .ok (.goto 29, 3) := by decide +kernel
theorem V.dX4_integral_170 : decode cX4_integral 170 = .ok (.iload_n 1, 1) := by decide +kernel
theorem V.dX4_integral_171 : decode cX4_integral 171 = .ok (.iconst 5, 1) := by decide +kernel
theorem V.dX4_integral_172 : decode cX4_integral 172 = .ok (.if_icmp .ne 28, 3) := by decide +kernel
theorem V.dX4_integral_175 : decode cX4_integral 175 = .ok (.iload 12, 2) := by decide +kernel
theorem V.dX4_integral_177 : decode cX4_integral 177 = .ok (.ifCond .ne 19, 3) := by decide +kernel
theorem V.dX4_integral_180 : decode cX4_integral 180 = .ok (.iload 11, 2) := by decide +kernel
theorem V.dX4_integral_182 : decode cX4_integral 182 = .ok (.ifCond .eq 18, 3) := by decide +kernel
theorem V.dX4_integral_185 : decode cX4_integral 185 = .ok (.lload 7, 2) := by decide +kernel
theorem V.dX4_integral_187 : decode cX4_integral 187 = .ok (.ldc2_w 93, 3) := by decide +kernel
theorem V.dX4_integral_190 : decode cX4_integral 190 = .ok (.lrem, 1) := by decide +kernel
theorem V.dX4_integral_191 : decode cX4_integral 191 = .ok (.lconst 1, 1) := by decide +kernel
theorem V.dX4_integral_192 : decode cX4_integral 192 = .ok (.lcmp, 1) := by decide +kernel
theorem V.dX4_integral_193 : decode cX4_integral 193 = .ok (.ifCond .ne 7, 3) := by decide +kernel
theorem V.dX4_integral_196 : decode cX4_integral 196 = .ok (.iconst 1, 1) := by decide +kernel
theorem V.dX4_integral_197 : decode cX4_integral 197 = .ok (.goto 4, 3) := by decide +kernel
theorem V.dX4_integral_200 : decode cX4_integral 200 = .ok (.iconst 0, 1) := by decide +kernel
theorem V.dX4_integral_201 : decode cX4_integral 201 = .ok (.istore 14, 2) := by decide +kernel
theorem V.dX4_integral_203 : decode cX4_integral 203 = .ok (.iload 14, 2) := by decide +kernel
theorem V.dX4_integral_205 : decode cX4_integral 205 = .ok (.ifCond .eq 10, 3) := by decide +kernel
theorem V.dX4_integral_208 : decode cX4_integral 208 = .ok (.lload 7, 2) := by decide +kernel
theorem V.dX4_integral_210 : decode cX4_integral 210 = .ok (.lconst 1, 1) := by decide +kernel
theorem V.dX4_integral_211 : decode cX4_integral 211 = .ok (.ladd, 1) := by decide +kernel
theorem V.dX4_integral_212 : decode cX4_integral 212 = .ok (.goto 5, 3) := by decide +kernel
theorem V.dX4_integral_215 : decode cX4_integral 215 = .ok (.lload 7, 2) := by decide +kernel
theorem V.dX4_integral_217 : decode cX4_integral 217 = .ok (.lstore 7, 2) := by decide +kernel
theorem V.dX4_integral_219 : decode cX4_integral 219 = .ok (.lload 7, 2) := by decide +kernel
theorem V.dX4_integral_221 : decode cX4_integral 221 = .ok (.lconst 0, 1) := by decide +kernel
theorem V.dX4_integral_222 : decode cX4_integral 222 = .ok (.lcmp, 1) := by decide +kernel
theorem V.dX4_integral_223 : decode cX4_integral 223 = .ok (.ifCond .ne 13, 3) := by decide +kernel
theorem V.dX4_integral_226 : decode cX4_integral 226 = .ok (.aload_n 0, 1) := by decide +kernel
theorem V.dX4_integral_227 : decode cX4_integral 227 = .ok (.iload 13, 2) := by decide +kernel
theorem V.dX4_integral_229 : decode cX4_integral 229 = .ok (.lconst 0, 1) := by decide +kernel
theorem V.dX4_integral_230 : decode cX4_integral 230 = .ok (.invokevirtual 110, 3) := by decide +kernel
theorem V.dX4_integral_233 : decode cX4_integral 233 = .ok (.goto 13, 3) := by decide +kernel
theorem V.dX4_integral_236 : decode cX4_integral 236 = .ok (.aload_n 0, 1) := by decide +kernel
theorem V.dX4_integral_237 : decode cX4_integral 237 = .ok (.iload 13, 2) := by decide +kernel
theorem V.dX4_integral_239 : decode cX4_integral 239 = .ok (.lload 7, 2) := by decide +kernel
theorem V.dX4_integral_241 : decode cX4_integral 241 = .ok (.iconst 0, 1) := by decide +kernel
theorem V.dX4_integral_242 : decode cX4_integral 242 = .ok (.iconst 0, 1) := by decide +kernel
theorem V.dX4_integral_243 : decode cX4_integral 243 = .ok (.invokevirtual 153, 3) := by decide +kernel
theorem V.dX4_integral_246 : decode cX4_integral 246 = .ok (.lreturn, 1) := by decide +kernel
theorem V.mdX4_143 : MD RX4 143 yX5_scale cX5_scale 3 (some .int) 1 := ⟨Or.inl q2592, q365, q2595, by decide, by decide, by decide +kernel⟩
theorem V.mdX4_147 : MD RX4 147 yX5_isInfinite cX5_isInfinite 3 (some .boolean) 1 := ⟨Or.inl q2600, q365, q2603, by decide, by decide, by decide +kernel⟩
theorem V.mdX4_140 : MD RX4 140 yX5_isZero cX5_isZero 3 (some .boolean) 1 := ⟨Or.inl q2604, q365, q2607, by decide, by decide, by decide +kernel⟩
theorem V.mdX4_150 : MD RX4 150 yX5_significand cX5_significand 3 (some .long) 1 := ⟨Or.inl q2608, q365, q2611, by decide, by decide, by decide +kernel⟩
theorem V.mdX4_153 : MD RX4 153 yX5_round cX5_round 20 (some .long) 4 := ⟨Or.inl q2616, q365, q2619, by decide, by decide, by decide +kernel⟩
theorem V.mdX4_110 : MD RX4 110 yX5_signed cX5_signed 4 (some .long) 2 := ⟨Or.inl q2585, q365, q2588, by decide, by decide, by decide +kernel⟩
/-! ModuleEngine$Numbers.integral(LModuleEngine$Numbers$Format;IJ)J -/
def V.Num_integral_p217  (σ : HS) (x0 : Nat) (x13 : Int32) (s0 : Int64) : Option (Int64 × HS) :=
  if s0 = (0 : Int64) then (
    ck (tg σ x0 = 6) <| cl (Fmt_signed σ x0 x13 (0 : Int64)) fun r4 σ3 =>
    some (r4, σ3))
  else (
    ck (tg σ x0 = 6) <| cl (Fmt_round σ x0 x13 s0 (0 : Int32) (0 : Int32)) fun r2 σ1 =>
    some (r2, σ1))
theorem V.gX4_integral_p217 {X : CX}  (σ : HS) (x0 : Nat) (x13 : Int32) (s0 : Int64) : G X RX4 "integral" cX4_integral 15 (some .long) 4 86 enJ 217 [(0, av x0), (13, iv x13)] [jv s0] σ (Num_integral_p217 σ x0 x13 s0) := by
  unfold Num_integral_p217
  refine g_lstore dX4_integral_217 (by decide) rfl ?_
  refine g_lload 0 dX4_integral_219 rfl ?_
  refine g_lconst (v := 0) dX4_integral_221 (by decide) ?_
  refine g_lcmp_ne 236 dX4_integral_222 dX4_integral_223 (by decide) ?_ ?_
  · refine g_aload_n 0 1 dX4_integral_236 rfl rfl ?_
    refine g_iload 2 dX4_integral_237 rfl ?_
    refine g_lload 0 dX4_integral_239 rfl ?_
    refine g_iconst (v := 0) dX4_integral_241 (by decide) ?_
    refine g_iconst (v := 0) dX4_integral_242 (by decide) ?_
    refine g_callV (fc := fun sς => Fmt_round sς x0 x13 s0 (0 : Int32) (0 : Int32)) (ci := 5) (as := [iv x13, jv s0, iv (0 : Int32), iv (0 : Int32)]) rfl rfl rfl q2617 q2618 mdX4_153 (ctX5_round x0 x13 s0 (0 : Int32) (0 : Int32)) rfl (Nat.le_of_ble_eq_true rfl) (Nat.le_of_ble_eq_true rfl) (Nat.le_of_ble_eq_true rfl) pu_J dX4_integral_243 (fun r2 σ1 => ?_)
    exact g_lreturn rfl dX4_integral_246
  · refine g_aload_n 0 1 dX4_integral_226 rfl rfl ?_
    refine g_iload 2 dX4_integral_227 rfl ?_
    refine g_lconst (v := 0) dX4_integral_229 (by decide) ?_
    refine g_callV (fc := fun sς => Fmt_signed sς x0 x13 (0 : Int64)) (ci := 5) (as := [iv x13, jv (0 : Int64)]) rfl rfl rfl q2586 q2587 mdX4_110 (ctX5_signed x0 x13 (0 : Int64)) rfl (Nat.le_of_ble_eq_true rfl) (Nat.le_of_ble_eq_true rfl) (Nat.le_of_ble_eq_true rfl) pu_J dX4_integral_230 (fun r4 σ3 => ?_)
    refine g_goto 246 dX4_integral_233 (by decide) ?_
    exact g_lreturn rfl dX4_integral_246
def V.Num_integral_p201  (σ : HS) (x0 : Nat) (x7 : Int64) (x13 : Int32) (s0 : Int32) : Option (Int64 × HS) :=
  if s0 = 0 then (
    Num_integral_p217 σ x0 x13 x7)
  else (
    Num_integral_p217 σ x0 x13 (x7 + (1 : Int64)))
theorem V.gX4_integral_p201 {X : CX}  (σ : HS) (x0 : Nat) (x7 : Int64) (x13 : Int32) (s0 : Int32) : G X RX4 "integral" cX4_integral 15 (some .long) 4 86 enJ 201 [(0, av x0), (7, jv x7), (13, iv x13)] [iv s0] σ (Num_integral_p201 σ x0 x7 x13 s0) := by
  unfold Num_integral_p201
  refine g_istore dX4_integral_201 (by decide) rfl ?_
  refine g_iload 0 dX4_integral_203 rfl ?_
  refine g_if_eq 215 dX4_integral_205 (by decide) ?_ ?_
  · refine g_lload 2 dX4_integral_215 rfl ?_
    refine G.sub [1, 3] rfl ?_
    exact gX4_integral_p217 _ _ _ _
  · refine g_lload 2 dX4_integral_208 rfl ?_
    refine g_lconst (v := 1) dX4_integral_210 (by decide) ?_
    refine g_ladd dX4_integral_211 ?_
    refine g_goto 217 dX4_integral_212 (by decide) ?_
    refine G.sub [1, 3] rfl ?_
    exact gX4_integral_p217 _ _ _ _
def V.Num_integral_p200  (σ : HS) (x0 : Nat) (x7 : Int64) (x13 : Int32) : Option (Int64 × HS) :=
  Num_integral_p201 σ x0 x7 x13 (0 : Int32)
theorem V.gX4_integral_p200 {X : CX}  (σ : HS) (x0 : Nat) (x7 : Int64) (x13 : Int32) : G X RX4 "integral" cX4_integral 15 (some .long) 4 86 enJ 200 [(0, av x0), (7, jv x7), (13, iv x13)] [] σ (Num_integral_p200 σ x0 x7 x13) := by
  unfold Num_integral_p200
  refine g_iconst (v := 0) dX4_integral_200 (by decide) ?_
  exact gX4_integral_p201 _ _ _ _ _
def V.Num_integral_p196  (σ : HS) (x0 : Nat) (x7 : Int64) (x13 : Int32) : Option (Int64 × HS) :=
  Num_integral_p201 σ x0 x7 x13 (1 : Int32)
theorem V.gX4_integral_p196 {X : CX}  (σ : HS) (x0 : Nat) (x7 : Int64) (x13 : Int32) : G X RX4 "integral" cX4_integral 15 (some .long) 4 86 enJ 196 [(0, av x0), (7, jv x7), (13, iv x13)] [] σ (Num_integral_p196 σ x0 x7 x13) := by
  unfold Num_integral_p196
  refine g_iconst (v := 1) dX4_integral_196 (by decide) ?_
  refine g_goto 201 dX4_integral_197 (by decide) ?_
  exact gX4_integral_p201 _ _ _ _ _
def V.Num_integral_p128  (σ : HS) (x0 : Nat) (x1 : Int32) (x2 : Int64) (x7 : Int64) (x9 : Int64) (x11 : Int32) (s0 : Int32) : Option (Int64 × HS) :=
  ck (tg σ x0 = 6) <| cl (Fmt_sign σ x0 x2) fun r2 σ1 =>
  if x9 = (0 : Int64) then (
    Num_integral_p200 σ1 x0 x7 r2)
  else (
    if x1 = (2 : Int32) then (
      if r2 = 0 then (
        Num_integral_p196 σ1 x0 x7 r2)
      else (
        Num_integral_p200 σ1 x0 x7 r2))
    else (
      if x1 = (3 : Int32) then (
        if r2 = 0 then (
          Num_integral_p200 σ1 x0 x7 r2)
        else (
          Num_integral_p196 σ1 x0 x7 r2))
      else (
        if x1 = (5 : Int32) then (
          if s0 = 0 then (
            if x11 = 0 then (
              Num_integral_p200 σ1 x0 x7 r2)
            else (
              ck (¬ (2 : Int64) = 0) <|
              if (x7 - x7 / (2 : Int64) * (2 : Int64)) = (1 : Int64) then (
                Num_integral_p196 σ1 x0 x7 r2)
              else (
                Num_integral_p200 σ1 x0 x7 r2)))
          else (
            Num_integral_p196 σ1 x0 x7 r2))
        else (
          Num_integral_p200 σ1 x0 x7 r2))))
theorem V.gX4_integral_p128 {X : CX}  (σ : HS) (x0 : Nat) (x1 : Int32) (x2 : Int64) (x7 : Int64) (x9 : Int64) (x11 : Int32) (s0 : Int32) : G X RX4 "integral" cX4_integral 15 (some .long) 4 86 enJ 128 [(0, av x0), (1, iv x1), (2, jv x2), (7, jv x7), (9, jv x9), (11, iv x11)] [iv s0] σ (Num_integral_p128 σ x0 x1 x2 x7 x9 x11 s0) := by
  unfold Num_integral_p128
  refine g_istore dX4_integral_128 (by decide) rfl ?_
  refine g_aload_n 0 1 dX4_integral_130 rfl rfl ?_
  refine g_lload_n 2 3 dX4_integral_131 rfl rfl ?_
  refine g_callV (fc := fun sς => Fmt_sign sς x0 x2) (ci := 5) (as := [jv x2]) rfl rfl rfl q2548 q2549 mdX4_99 (ctX5_sign x0 x2) rfl (Nat.le_of_ble_eq_true rfl) (Nat.le_of_ble_eq_true rfl) (Nat.le_of_ble_eq_true rfl) pu_I dX4_integral_132 (fun r2 σ1 => ?_)
  refine g_istore dX4_integral_135 (by decide) rfl ?_
  refine g_lload 6 dX4_integral_137 rfl ?_
  refine g_lconst (v := 0) dX4_integral_139 (by decide) ?_
  refine g_lcmp_eq 200 dX4_integral_140 dX4_integral_141 (by decide) ?_ ?_
  · refine G.sub [2, 5, 0] rfl ?_
    exact gX4_integral_p200 _ _ _ _
  · refine g_iload_n 1 3 dX4_integral_144 rfl rfl ?_
    refine g_iconst (v := 2) dX4_integral_145 (by decide) ?_
    refine g_icmp_ne 157 dX4_integral_146 (by decide) ?_ ?_
    · refine g_iload_n 1 3 dX4_integral_157 rfl rfl ?_
      refine g_iconst (v := 3) dX4_integral_158 (by decide) ?_
      refine g_icmp_ne 170 dX4_integral_159 (by decide) ?_ ?_
      · refine g_iload_n 1 3 dX4_integral_170 rfl rfl ?_
        refine g_iconst (v := 5) dX4_integral_171 (by decide) ?_
        refine g_icmp_ne 200 dX4_integral_172 (by decide) ?_ ?_
        · refine G.sub [2, 5, 0] rfl ?_
          exact gX4_integral_p200 _ _ _ _
        · refine g_iload 1 dX4_integral_175 rfl ?_
          refine g_if_ne 196 dX4_integral_177 (by decide) ?_ ?_
          · refine G.sub [2, 5, 0] rfl ?_
            exact gX4_integral_p196 _ _ _ _
          · refine g_iload 7 dX4_integral_180 rfl ?_
            refine g_if_eq 200 dX4_integral_182 (by decide) ?_ ?_
            · refine G.sub [2, 5, 0] rfl ?_
              exact gX4_integral_p200 _ _ _ _
            · refine g_lload 5 dX4_integral_185 rfl ?_
              refine g_ldc2 q2574 dX4_integral_187 ?_
              refine g_lrem dX4_integral_190 ?_
              refine g_lconst (v := 1) dX4_integral_191 (by decide) ?_
              refine g_lcmp_ne 200 dX4_integral_192 dX4_integral_193 (by decide) ?_ ?_
              · refine G.sub [2, 5, 0] rfl ?_
                exact gX4_integral_p200 _ _ _ _
              · refine G.sub [2, 5, 0] rfl ?_
                exact gX4_integral_p196 _ _ _ _
      · refine g_iload 0 dX4_integral_162 rfl ?_
        refine g_if_eq 200 dX4_integral_164 (by decide) ?_ ?_
        · refine G.sub [2, 5, 0] rfl ?_
          exact gX4_integral_p200 _ _ _ _
        · refine g_goto 196 dX4_integral_167 (by decide) ?_
          refine G.sub [2, 5, 0] rfl ?_
          exact gX4_integral_p196 _ _ _ _
    · refine g_iload 0 dX4_integral_149 rfl ?_
      refine g_if_ne 200 dX4_integral_151 (by decide) ?_ ?_
      · refine G.sub [2, 5, 0] rfl ?_
        exact gX4_integral_p200 _ _ _ _
      · refine g_goto 196 dX4_integral_154 (by decide) ?_
        refine G.sub [2, 5, 0] rfl ?_
        exact gX4_integral_p196 _ _ _ _
def V.Num_integral_p127  (σ : HS) (x0 : Nat) (x1 : Int32) (x2 : Int64) (x7 : Int64) (x9 : Int64) (x11 : Int32) : Option (Int64 × HS) :=
  Num_integral_p128 σ x0 x1 x2 x7 x9 x11 (0 : Int32)
theorem V.gX4_integral_p127 {X : CX}  (σ : HS) (x0 : Nat) (x1 : Int32) (x2 : Int64) (x7 : Int64) (x9 : Int64) (x11 : Int32) : G X RX4 "integral" cX4_integral 15 (some .long) 4 86 enJ 127 [(0, av x0), (1, iv x1), (2, jv x2), (7, jv x7), (9, jv x9), (11, iv x11)] [] σ (Num_integral_p127 σ x0 x1 x2 x7 x9 x11) := by
  unfold Num_integral_p127
  refine g_iconst (v := 0) dX4_integral_127 (by decide) ?_
  exact gX4_integral_p128 _ _ _ _ _ _ _ _
def V.Num_integral_p102  (σ : HS) (x0 : Nat) (x1 : Int32) (x2 : Int64) (x4 : Int32) (x7 : Int64) (x9 : Int64) (s0 : Int32) : Option (Int64 × HS) :=
  if (62 : Int32) < x4 then (
    Num_integral_p127 σ x0 x1 x2 x7 x9 s0)
  else (
    if x9 ≤ (lshl (1 : Int64) (x4 - (1 : Int32))) then (
      Num_integral_p127 σ x0 x1 x2 x7 x9 s0)
    else (
      Num_integral_p128 σ x0 x1 x2 x7 x9 s0 (1 : Int32)))
theorem V.gX4_integral_p102 {X : CX}  (σ : HS) (x0 : Nat) (x1 : Int32) (x2 : Int64) (x4 : Int32) (x7 : Int64) (x9 : Int64) (s0 : Int32) : G X RX4 "integral" cX4_integral 15 (some .long) 4 86 enJ 102 [(0, av x0), (1, iv x1), (2, jv x2), (4, iv x4), (7, jv x7), (9, jv x9)] [iv s0] σ (Num_integral_p102 σ x0 x1 x2 x4 x7 x9 s0) := by
  unfold Num_integral_p102
  refine g_istore dX4_integral_102 (by decide) rfl ?_
  refine g_iload 4 dX4_integral_104 rfl ?_
  refine g_bipush (v := 62) dX4_integral_106 (by decide) ?_
  refine g_icmp_gt 127 dX4_integral_108 (by decide) ?_ ?_
  · refine G.sub [1, 2, 3, 5, 6, 0] rfl ?_
    exact gX4_integral_p127 _ _ _ _ _ _ _
  · refine g_lload 6 dX4_integral_111 rfl ?_
    refine g_lconst (v := 1) dX4_integral_113 (by decide) ?_
    refine g_iload 4 dX4_integral_114 rfl ?_
    refine g_iconst (v := 1) dX4_integral_116 (by decide) ?_
    refine g_isub dX4_integral_117 ?_
    refine g_lshl dX4_integral_118 ?_
    refine g_lcmp_le 127 dX4_integral_119 dX4_integral_120 (by decide) ?_ ?_
    · refine G.sub [1, 2, 3, 5, 6, 0] rfl ?_
      exact gX4_integral_p127 _ _ _ _ _ _ _
    · refine g_iconst (v := 1) dX4_integral_123 (by decide) ?_
      refine g_goto 128 dX4_integral_124 (by decide) ?_
      refine G.sub [1, 2, 3, 5, 6, 0] rfl ?_
      exact gX4_integral_p128 _ _ _ _ _ _ _ _
def V.Num_integral_p101  (σ : HS) (x0 : Nat) (x1 : Int32) (x2 : Int64) (x4 : Int32) (x7 : Int64) (x9 : Int64) : Option (Int64 × HS) :=
  Num_integral_p102 σ x0 x1 x2 x4 x7 x9 (0 : Int32)
theorem V.gX4_integral_p101 {X : CX}  (σ : HS) (x0 : Nat) (x1 : Int32) (x2 : Int64) (x4 : Int32) (x7 : Int64) (x9 : Int64) : G X RX4 "integral" cX4_integral 15 (some .long) 4 86 enJ 101 [(0, av x0), (1, iv x1), (2, jv x2), (4, iv x4), (7, jv x7), (9, jv x9)] [] σ (Num_integral_p101 σ x0 x1 x2 x4 x7 x9) := by
  unfold Num_integral_p101
  refine g_iconst (v := 0) dX4_integral_101 (by decide) ?_
  exact gX4_integral_p102 _ _ _ _ _ _ _ _
def V.Num_integral_p76  (σ : HS) (x0 : Nat) (x1 : Int32) (x2 : Int64) (x4 : Int32) (x7 : Int64) (s0 : Int64) : Option (Int64 × HS) :=
  if (62 : Int32) < x4 then (
    Num_integral_p101 σ x0 x1 x2 x4 x7 s0)
  else (
    if s0 = (lshl (1 : Int64) (x4 - (1 : Int32))) then (
      Num_integral_p102 σ x0 x1 x2 x4 x7 s0 (1 : Int32))
    else (
      Num_integral_p101 σ x0 x1 x2 x4 x7 s0))
theorem V.gX4_integral_p76 {X : CX}  (σ : HS) (x0 : Nat) (x1 : Int32) (x2 : Int64) (x4 : Int32) (x7 : Int64) (s0 : Int64) : G X RX4 "integral" cX4_integral 15 (some .long) 4 86 enJ 76 [(0, av x0), (1, iv x1), (2, jv x2), (4, iv x4), (7, jv x7)] [jv s0] σ (Num_integral_p76 σ x0 x1 x2 x4 x7 s0) := by
  unfold Num_integral_p76
  refine g_lstore dX4_integral_76 (by decide) rfl ?_
  refine g_iload 4 dX4_integral_78 rfl ?_
  refine g_bipush (v := 62) dX4_integral_80 (by decide) ?_
  refine g_icmp_gt 101 dX4_integral_82 (by decide) ?_ ?_
  · refine G.sub [1, 2, 3, 4, 5, 0] rfl ?_
    exact gX4_integral_p101 _ _ _ _ _ _ _
  · refine g_lload 0 dX4_integral_85 rfl ?_
    refine g_lconst (v := 1) dX4_integral_87 (by decide) ?_
    refine g_iload 4 dX4_integral_88 rfl ?_
    refine g_iconst (v := 1) dX4_integral_90 (by decide) ?_
    refine g_isub dX4_integral_91 ?_
    refine g_lshl dX4_integral_92 ?_
    refine g_lcmp_ne 101 dX4_integral_93 dX4_integral_94 (by decide) ?_ ?_
    · refine G.sub [1, 2, 3, 4, 5, 0] rfl ?_
      exact gX4_integral_p101 _ _ _ _ _ _ _
    · refine g_iconst (v := 1) dX4_integral_97 (by decide) ?_
      refine g_goto 102 dX4_integral_98 (by decide) ?_
      refine G.sub [1, 2, 3, 4, 5, 0] rfl ?_
      exact gX4_integral_p102 _ _ _ _ _ _ _ _
def V.Num_integral_p54  (σ : HS) (x0 : Nat) (x1 : Int32) (x2 : Int64) (x4 : Int32) (x5 : Int64) (s0 : Int64) : Option (Int64 × HS) :=
  if x4 ≤ (62 : Int32) then (
    Num_integral_p76 σ x0 x1 x2 x4 s0 (x5 &&& ((lshl (1 : Int64) x4) - (1 : Int64))))
  else (
    Num_integral_p76 σ x0 x1 x2 x4 s0 (1 : Int64))
theorem V.gX4_integral_p54 {X : CX}  (σ : HS) (x0 : Nat) (x1 : Int32) (x2 : Int64) (x4 : Int32) (x5 : Int64) (s0 : Int64) : G X RX4 "integral" cX4_integral 15 (some .long) 4 86 enJ 54 [(0, av x0), (1, iv x1), (2, jv x2), (4, iv x4), (5, jv x5)] [jv s0] σ (Num_integral_p54 σ x0 x1 x2 x4 x5 s0) := by
  unfold Num_integral_p54
  refine g_lstore dX4_integral_54 (by decide) rfl ?_
  refine g_iload 4 dX4_integral_56 rfl ?_
  refine g_bipush (v := 62) dX4_integral_58 (by decide) ?_
  refine g_icmp_le 67 dX4_integral_60 (by decide) ?_ ?_
  · refine g_lload 5 dX4_integral_67 rfl ?_
    refine g_lconst (v := 1) dX4_integral_69 (by decide) ?_
    refine g_iload 4 dX4_integral_70 rfl ?_
    refine g_lshl dX4_integral_72 ?_
    refine g_lconst (v := 1) dX4_integral_73 (by decide) ?_
    refine g_lsub dX4_integral_74 ?_
    refine g_land dX4_integral_75 ?_
    refine G.sub [1, 2, 3, 4, 0] rfl ?_
    exact gX4_integral_p76 _ _ _ _ _ _ _
  · refine g_lconst (v := 1) dX4_integral_63 (by decide) ?_
    refine g_goto 76 dX4_integral_64 (by decide) ?_
    refine G.sub [1, 2, 3, 4, 0] rfl ?_
    exact gX4_integral_p76 _ _ _ _ _ _ _
def V.Num_integral (σ : HS) (x0 : Nat) (x1 : Int32) (x2 : Int64) : Option (Int64 × HS) :=
  ck (tg σ x0 = 6) <| cl (Fmt_scale σ x0 x2) fun r2 σ1 =>
  bn (-r2) fun y3 =>
  ck (tg σ1 x0 = 6) <| cl (Fmt_isInfinite σ1 x0 x2) fun r5 σ4 =>
  if r5 = 0 then (
    ck (tg σ4 x0 = 6) <| cl (Fmt_isZero σ4 x0 x2) fun r7 σ6 =>
    if r7 = 0 then (
      if 0 < y3 then (
        ck (tg σ6 x0 = 6) <| cl (Fmt_significand σ6 x0 x2) fun r9 σ8 =>
        if y3 ≤ (62 : Int32) then (
          Num_integral_p54 σ8 x0 x1 x2 y3 r9 (lshr r9 y3))
        else (
          Num_integral_p54 σ8 x0 x1 x2 y3 r9 (0 : Int64)))
      else (
        some (x2, σ6)))
    else (
      some (x2, σ6)))
  else (
    some (x2, σ4))
theorem V.ctX4_integral (x0 : Nat) (x1 : Int32) (x2 : Int64) : Ct yX4_integral  cX4_integral 15 (some .long) 4 86 eJ [av x0, iv x1, jv x2] (fun σ => Num_integral σ x0 x1 x2) := by
  refine Ct.of (own := RX4) (nm := "integral") (desc := "(LModuleEngine$Numbers$Format;IJ)J") rfl (by decide) (Nat.le_of_ble_eq_true rfl) (by decide) (fun X σ => ?_)
  show G X RX4 "integral" cX4_integral 15 (some .long) 4 86 enJ 0 [(0, av x0), (1, iv x1), (2, jv x2)] [] σ (Num_integral σ x0 x1 x2)
  unfold Num_integral
  refine g_aload_n 0 0 dX4_integral_0 rfl rfl ?_
  refine g_lload_n 2 2 dX4_integral_1 rfl rfl ?_
  refine g_callV (fc := fun sς => Fmt_scale sς x0 x2) (ci := 5) (as := [jv x2]) rfl rfl rfl q2593 q2594 mdX4_143 (ctX5_scale x0 x2) rfl (Nat.le_of_ble_eq_true rfl) (Nat.le_of_ble_eq_true rfl) (Nat.le_of_ble_eq_true rfl) pu_I dX4_integral_2 (fun r2 σ1 => ?_)
  refine g_ineg dX4_integral_5 ?_
  refine g_nmI (fun y3 => ?_)
  refine g_istore dX4_integral_6 (by decide) rfl ?_
  refine g_aload_n 0 1 dX4_integral_8 rfl rfl ?_
  refine g_lload_n 2 3 dX4_integral_9 rfl rfl ?_
  refine g_callV (fc := fun sς => Fmt_isInfinite sς x0 x2) (ci := 5) (as := [jv x2]) rfl rfl rfl q2601 q2602 mdX4_147 (ctX5_isInfinite x0 x2) rfl (Nat.le_of_ble_eq_true rfl) (Nat.le_of_ble_eq_true rfl) (Nat.le_of_ble_eq_true rfl) pu_I dX4_integral_10 (fun r5 σ4 => ?_)
  refine g_if_ne 29 dX4_integral_13 (by decide) ?_ ?_
  · refine g_lload_n 2 3 dX4_integral_29 rfl rfl ?_
    exact g_lreturn rfl dX4_integral_30
  · refine g_aload_n 0 1 dX4_integral_16 rfl rfl ?_
    refine g_lload_n 2 3 dX4_integral_17 rfl rfl ?_
    refine g_callV (fc := fun sς => Fmt_isZero sς x0 x2) (ci := 5) (as := [jv x2]) rfl rfl rfl q2605 q2606 mdX4_140 (ctX5_isZero x0 x2) rfl (Nat.le_of_ble_eq_true rfl) (Nat.le_of_ble_eq_true rfl) (Nat.le_of_ble_eq_true rfl) pu_I dX4_integral_18 (fun r7 σ6 => ?_)
    refine g_if_ne 29 dX4_integral_21 (by decide) ?_ ?_
    · refine g_lload_n 2 3 dX4_integral_29 rfl rfl ?_
      exact g_lreturn rfl dX4_integral_30
    · refine g_iload 0 dX4_integral_24 rfl ?_
      refine g_if_gt 31 dX4_integral_26 (by decide) ?_ ?_
      · refine g_aload_n 0 1 dX4_integral_31 rfl rfl ?_
        refine g_lload_n 2 3 dX4_integral_32 rfl rfl ?_
        refine g_callV (fc := fun sς => Fmt_significand sς x0 x2) (ci := 5) (as := [jv x2]) rfl rfl rfl q2609 q2610 mdX4_150 (ctX5_significand x0 x2) rfl (Nat.le_of_ble_eq_true rfl) (Nat.le_of_ble_eq_true rfl) (Nat.le_of_ble_eq_true rfl) pu_J dX4_integral_33 (fun r9 σ8 => ?_)
        refine g_lstore dX4_integral_36 (by decide) rfl ?_
        refine g_iload 1 dX4_integral_38 rfl ?_
        refine g_bipush (v := 62) dX4_integral_40 (by decide) ?_
        refine g_icmp_le 49 dX4_integral_42 (by decide) ?_ ?_
        · refine g_lload 0 dX4_integral_49 rfl ?_
          refine g_iload 1 dX4_integral_51 rfl ?_
          refine g_lshr dX4_integral_53 ?_
          refine G.sub [2, 3, 4, 1, 0] rfl ?_
          exact gX4_integral_p54 _ _ _ _ _ _ _
        · refine g_lconst (v := 0) dX4_integral_45 (by decide) ?_
          refine g_goto 54 dX4_integral_46 (by decide) ?_
          refine G.sub [2, 3, 4, 1, 0] rfl ?_
          exact gX4_integral_p54 _ _ _ _ _ _ _
      · refine g_lload_n 2 3 dX4_integral_29 rfl rfl ?_
        exact g_lreturn rfl dX4_integral_30
theorem V.dX4_straight_0 : decode cX4_straight 0 = .ok (.lload_n 0, 1) := by decide +kernel
theorem V.dX4_straight_1 : decode cX4_straight 1 = .ok (.lstore_n 2, 1) := by decide +kernel
theorem V.dX4_straight_2 : decode cX4_straight 2 = .ok (.lload_n 2, 1) := by decide +kernel
theorem V.dX4_straight_3 : decode cX4_straight 3 = .ok (.ldc2_w 157, 3) := by decide +kernel
theorem V.dX4_straight_6 : decode cX4_straight 6 = .ok (.lcmp, 1) := by decide +kernel
theorem V.dX4_straight_7 : decode cX4_straight 7 = .ok (.ifCond .ge 12, 3) := by decide +kernel
theorem V.dX4_straight_10 : decode cX4_straight 10 = .ok (.ldc2_w 93, 3) := by decide +kernel
theorem V.dX4_straight_13 : decode cX4_straight 13 = .ok (.lload_n 2, 1) := by decide +kernel
theorem V.dX4_straight_14 : decode cX4_straight 14 = .ok (.lmul, 1) := by decide +kernel
theorem V.dX4_straight_15 : decode cX4_straight 15 = .ok (.lstore_n 2, 1) := by decide +kernel
theorem V.dX4_straight_16 : decode cX4_straight 16 = .ok (.goto (-14), 3) := by decide +kernel
theorem V.dX4_straight_19 : decode cX4_straight 19 = .ok (.lload_n 2, 1) := by decide +kernel
theorem V.dX4_straight_20 : decode cX4_straight 20 = .ok (.lreturn, 1) := by decide +kernel
/-! ModuleEngine$Numbers.straight(J)J -/
def V.Num_straight_p2  : Nat → HS → Int64 → Option (Int64 × HS)
  | 0, _, _ => none
  | n + 1, σ, x2 =>
    if (4503599627370496 : Int64) ≤ x2 then (
      some (x2, σ))
    else (
      bn ((2 : Int64) * x2) fun y1 =>
      Num_straight_p2 n σ y1)
theorem V.gX4_straight_p2 {X : CX}  : ∀ (n : Nat) (σ : HS) (x2 : Int64), G X RX4 "straight" cX4_straight 4 (some .long) 0 0 enJ 2 [(2, jv x2)] [] σ (Num_straight_p2 n σ x2)
  | 0, σ, x2 => by rw [Num_straight_p2]; exact G.nul
  | n + 1, σ, x2 => by
    rw [Num_straight_p2]
    refine g_lload_n 2 0 dX4_straight_2 rfl rfl ?_
    refine g_ldc2 q2628 dX4_straight_3 ?_
    refine g_lcmp_ge 19 dX4_straight_6 dX4_straight_7 (by decide) ?_ ?_
    · refine g_lload_n 2 0 dX4_straight_19 rfl rfl ?_
      exact g_lreturn rfl dX4_straight_20
    · refine g_ldc2 q2574 dX4_straight_10 ?_
      refine g_lload_n 2 0 dX4_straight_13 rfl rfl ?_
      refine g_lmul dX4_straight_14 ?_
      refine g_nmJ (fun y1 => ?_)
      refine g_lstore_n 2 dX4_straight_15 rfl (by decide) rfl ?_
      refine g_goto 2 dX4_straight_16 (by decide) ?_
      exact gX4_straight_p2 n _ _
def V.Num_straight (σ : HS) (x0 : Int64) : Option (Int64 × HS) :=
  Num_straight_p2 FU σ x0
theorem V.ctX4_straight (x0 : Int64) : Ct yX4_straight  cX4_straight 4 (some .long) 0 0 eJ [jv x0] (fun σ => Num_straight σ x0) := by
  refine Ct.of (own := RX4) (nm := "straight") (desc := "(J)J") rfl (by decide) (Nat.le_of_ble_eq_true rfl) (by decide) (fun X σ => ?_)
  show G X RX4 "straight" cX4_straight 4 (some .long) 0 0 enJ 0 [(0, jv x0)] [] σ (Num_straight σ x0)
  unfold Num_straight
  refine g_lload_n 0 0 dX4_straight_0 rfl rfl ?_
  refine g_lstore_n 2 dX4_straight_1 rfl (by decide) rfl ?_
  refine G.sub [0] rfl ?_
  exact gX4_straight_p2 FU _ _
theorem V.dX4_places_0 : decode cX4_places 0 = .ok (.iconst 0, 1) := by decide +kernel
theorem V.dX4_places_1 : decode cX4_places 1 = .ok (.istore_n 2, 1) := by decide +kernel
theorem V.dX4_places_2 : decode cX4_places 2 = .ok (.lload_n 0, 1) := by decide +kernel
theorem V.dX4_places_3 : decode cX4_places 3 = .ok (.iload_n 2, 1) := by decide +kernel
theorem V.dX4_places_4 : decode cX4_places 4 = .ok (.lshl, 1) := by decide +kernel
theorem V.dX4_places_5 : decode cX4_places 5 = .ok (.ldc2_w 157, 3) := by decide +kernel
theorem V.dX4_places_8 : decode cX4_places 8 = .ok (.lcmp, 1) := by decide +kernel
theorem V.dX4_places_9 : decode cX4_places 9 = .ok (.ifCond .ge 9, 3) := by decide +kernel
theorem V.dX4_places_12 : decode cX4_places 12 = .ok (.iinc 2 1, 3) := by decide +kernel
theorem V.dX4_places_15 : decode cX4_places 15 = .ok (.goto (-13), 3) := by decide +kernel
theorem V.dX4_places_18 : decode cX4_places 18 = .ok (.iload_n 2, 1) := by decide +kernel
theorem V.dX4_places_19 : decode cX4_places 19 = .ok (.ireturn, 1) := by decide +kernel
/-! ModuleEngine$Numbers.places(J)I -/
def V.Num_places_p2  : Nat → HS → Int64 → Int32 → Option (Int32 × HS)
  | 0, _, _, _ => none
  | n + 1, σ, x0, x2 =>
    if (4503599627370496 : Int64) ≤ (lshl x0 x2) then (
      some (x2, σ))
    else (
      bn (x2 + (1 : Int32)) fun y1 =>
      Num_places_p2 n σ x0 y1)
theorem V.gX4_places_p2 {X : CX}  : ∀ (n : Nat) (σ : HS) (x0 : Int64) (x2 : Int32), G X RX4 "places" cX4_places 3 (some .int) 0 0 enI 2 [(0, jv x0), (2, iv x2)] [] σ (Num_places_p2 n σ x0 x2)
  | 0, σ, x0, x2 => by rw [Num_places_p2]; exact G.nul
  | n + 1, σ, x0, x2 => by
    rw [Num_places_p2]
    refine g_lload_n 0 0 dX4_places_2 rfl rfl ?_
    refine g_iload_n 2 1 dX4_places_3 rfl rfl ?_
    refine g_lshl dX4_places_4 ?_
    refine g_ldc2 q2628 dX4_places_5 ?_
    refine g_lcmp_ge 18 dX4_places_8 dX4_places_9 (by decide) ?_ ?_
    · refine g_iload_n 2 1 dX4_places_18 rfl rfl ?_
      exact g_ireturn rfl dX4_places_19
    · refine g_iincB (w := 1) 1 dX4_places_12 rfl (by decide) (by decide) (fun _ => rfl) (fun y1 => ?_)
      refine g_goto 2 dX4_places_15 (by decide) ?_
      refine G.sub [1, 0] rfl ?_
      exact gX4_places_p2 n _ _ _
def V.Num_places (σ : HS) (x0 : Int64) : Option (Int32 × HS) :=
  Num_places_p2 FU σ x0 (0 : Int32)
theorem V.ctX4_places (x0 : Int64) : Ct yX4_places  cX4_places 3 (some .int) 0 0 eI [jv x0] (fun σ => Num_places σ x0) := by
  refine Ct.of (own := RX4) (nm := "places") (desc := "(J)I") rfl (by decide) (Nat.le_of_ble_eq_true rfl) (by decide) (fun X σ => ?_)
  show G X RX4 "places" cX4_places 3 (some .int) 0 0 enI 0 [(0, jv x0)] [] σ (Num_places σ x0)
  unfold Num_places
  refine g_iconst (v := 0) dX4_places_0 (by decide) ?_
  refine g_istore_n 2 dX4_places_1 rfl (by decide) rfl ?_
  refine G.sub [1, 0] rfl ?_
  exact gX4_places_p2 FU _ _ _
theorem V.dX4_root_0 : decode cX4_root 0 = .ok (.aload_n 0, 1) := by decide +kernel
theorem V.dX4_root_1 : decode cX4_root 1 = .ok (.lload_n 1, 1) := by decide +kernel
theorem V.dX4_root_2 : decode cX4_root 2 = .ok (.invokevirtual 140, 3) := by decide +kernel
theorem V.dX4_root_5 : decode cX4_root 5 = .ok (.ifCond .eq 5, 3) := by decide +kernel
theorem V.dX4_root_8 : decode cX4_root 8 = .ok (.lload_n 1, 1) := by decide +kernel
theorem V.dX4_root_9 : decode cX4_root 9 = .ok (.lreturn, 1) := by decide +kernel
theorem V.dX4_root_10 : decode cX4_root 10 = .ok (.aload_n 0, 1) := by decide +kernel
theorem V.dX4_root_11 : decode cX4_root 11 = .ok (.lload_n 1, 1) := by decide +kernel
theorem V.dX4_root_12 : decode cX4_root 12 = .ok (.invokevirtual 99, 3) := by decide +kernel
theorem V.dX4_root_15 : decode cX4_root 15 = .ok (.ifCond .eq 8, 3) := by decide +kernel
theorem V.dX4_root_18 : decode cX4_root 18 = .ok (.aload_n 0, 1) := by decide +kernel
theorem V.dX4_root_19 : decode cX4_root 19 = .ok (.getfield 114, 3) := by decide +kernel
theorem V.dX4_root_22 : decode cX4_root 22 = .ok (.lreturn, 1) := by decide +kernel
theorem V.dX4_root_23 : decode cX4_root 23 = .ok (.aload_n 0, 1) := by decide +kernel
theorem V.dX4_root_24 : decode cX4_root 24 = .ok (.lload_n 1, 1) := by decide +kernel
theorem V.dX4_root_25 : decode cX4_root 25 = .ok (.invokevirtual 147, 3) := by decide +kernel
theorem V.dX4_root_28 : decode cX4_root 28 = .ok (.ifCond .eq 5, 3) := by decide +kernel
theorem V.dX4_root_31 : decode cX4_root 31 = .ok (.lload_n 1, 1) := by decide +kernel
theorem V.dX4_root_32 : decode cX4_root 32 = .ok (.lreturn, 1) := by decide +kernel
theorem V.dX4_root_33 : decode cX4_root 33 = .ok (.aload_n 0, 1) := by decide +kernel
theorem V.dX4_root_34 : decode cX4_root 34 = .ok (.lload_n 1, 1) := by decide +kernel
theorem V.dX4_root_35 : decode cX4_root 35 = .ok (.invokevirtual 150, 3) := by decide +kernel
theorem V.dX4_root_38 : decode cX4_root 38 = .ok (.invokestatic 162, 3) := by decide +kernel
theorem V.dX4_root_41 : decode cX4_root 41 = .ok (.lstore_n 3, 1) := by decide +kernel
theorem V.dX4_root_42 : decode cX4_root 42 = .ok (.aload_n 0, 1) := by decide +kernel
theorem V.dX4_root_43 : decode cX4_root 43 = .ok (.lload_n 1, 1) := by decide +kernel
theorem V.dX4_root_44 : decode cX4_root 44 = .ok (.invokevirtual 143, 3) := by decide +kernel
theorem V.dX4_root_47 : decode cX4_root 47 = .ok (.aload_n 0, 1) := by decide +kernel
theorem V.dX4_root_48 : decode cX4_root 48 = .ok (.lload_n 1, 1) := by decide +kernel
theorem V.dX4_root_49 : decode cX4_root 49 = .ok (.invokevirtual 150, 3) := by decide +kernel
theorem V.dX4_root_52 : decode cX4_root 52 = .ok (.invokestatic 165, 3) := by decide +kernel
theorem V.dX4_root_55 : decode cX4_root 55 = .ok (.isub, 1) := by decide +kernel
theorem V.dX4_root_56 : decode cX4_root 56 = .ok (.istore 5, 2) := by decide +kernel
theorem V.dX4_root_58 : decode cX4_root 58 = .ok (.iload 5, 2) := by decide +kernel
theorem V.dX4_root_60 : decode cX4_root 60 = .ok (.iconst 2, 1) := by decide +kernel
theorem V.dX4_root_61 : decode cX4_root 61 = .ok (.irem, 1) := by decide +kernel
theorem V.dX4_root_62 : decode cX4_root 62 = .ok (.ifCond .eq 12, 3) := by decide +kernel
theorem V.dX4_root_65 : decode cX4_root 65 = .ok (.ldc2_w 93, 3) := by decide +kernel
theorem V.dX4_root_68 : decode cX4_root 68 = .ok (.lload_n 3, 1) := by decide +kernel
theorem V.dX4_root_69 : decode cX4_root 69 = .ok (.lmul, 1) := by decide +kernel
theorem V.dX4_root_70 : decode cX4_root 70 = .ok (.lstore_n 3, 1) := by decide +kernel
theorem V.dX4_root_71 : decode cX4_root 71 = .ok (.iinc 5 (-1), 3) := by decide +kernel
theorem V.dX4_root_74 : decode cX4_root 74 = .ok (.lconst 0, 1) := by decide +kernel
theorem V.dX4_root_75 : decode cX4_root 75 = .ok (.lstore 6, 2) := by decide +kernel
theorem V.dX4_root_77 : decode cX4_root 77 = .ok (.lconst 0, 1) := by decide +kernel
theorem V.dX4_root_78 : decode cX4_root 78 = .ok (.lstore 8, 2) := by decide +kernel
theorem V.dX4_root_80 : decode cX4_root 80 = .ok (.bipush 26, 2) := by decide +kernel
theorem V.dX4_root_82 : decode cX4_root 82 = .ok (.istore 10, 2) := by decide +kernel
theorem V.dX4_root_84 : decode cX4_root 84 = .ok (.iload 10, 2) := by decide +kernel
theorem V.dX4_root_86 : decode cX4_root 86 = .ok (.bipush (-31), 2) := by decide +kernel
theorem V.dX4_root_88 : decode cX4_root 88 = .ok (.if_icmp .le 95, 3) := by decide +kernel
theorem V.dX4_root_91 : decode cX4_root 91 = .ok (.ldc2_w 172, 3) := by decide +kernel
theorem V.dX4_root_94 : decode cX4_root 94 = .ok (.lload 8, 2) := by decide +kernel
theorem V.dX4_root_96 : decode cX4_root 96 = .ok (.lmul, 1) := by decide +kernel
theorem V.dX4_root_97 : decode cX4_root 97 = .ok (.iload 10, 2) := by decide +kernel
theorem V.dX4_root_99 : decode cX4_root 99 = .ok (.ifCond .lt 16, 3) := by decide +kernel
theorem V.dX4_root_102 : decode cX4_root 102 = .ok (.lload_n 3, 1) := by decide +kernel
theorem V.dX4_root_103 : decode cX4_root 103 = .ok (.iconst 2, 1) := by decide +kernel
theorem V.dX4_root_104 : decode cX4_root 104 = .ok (.iload 10, 2) := by decide +kernel
theorem V.dX4_root_106 : decode cX4_root 106 = .ok (.imul, 1) := by decide +kernel
theorem V.dX4_root_107 : decode cX4_root 107 = .ok (.lshr, 1) := by decide +kernel
theorem V.dX4_root_108 : decode cX4_root 108 = .ok (.ldc2_w 174, 3) := by decide +kernel
theorem V.dX4_root_111 : decode cX4_root 111 = .ok (.land, 1) := by decide +kernel
theorem V.dX4_root_112 : decode cX4_root 112 = .ok (.goto 4, 3) := by decide +kernel
theorem V.dX4_root_115 : decode cX4_root 115 = .ok (.lconst 0, 1) := by decide +kernel
theorem V.dX4_root_116 : decode cX4_root 116 = .ok (.ladd, 1) := by decide +kernel
theorem V.dX4_root_117 : decode cX4_root 117 = .ok (.lstore 8, 2) := by decide +kernel
theorem V.dX4_root_119 : decode cX4_root 119 = .ok (.lload 8, 2) := by decide +kernel
theorem V.dX4_root_121 : decode cX4_root 121 = .ok (.ldc2_w 172, 3) := by decide +kernel
theorem V.dX4_root_124 : decode cX4_root 124 = .ok (.lload 6, 2) := by decide +kernel
theorem V.dX4_root_126 : decode cX4_root 126 = .ok (.lmul, 1) := by decide +kernel
theorem V.dX4_root_127 : decode cX4_root 127 = .ok (.lconst 1, 1) := by decide +kernel
theorem V.dX4_root_128 : decode cX4_root 128 = .ok (.ladd, 1) := by decide +kernel
theorem V.dX4_root_129 : decode cX4_root 129 = .ok (.lcmp, 1) := by decide +kernel
theorem V.dX4_root_130 : decode cX4_root 130 = .ok (.ifCond .lt 7, 3) := by decide +kernel
theorem V.dX4_root_133 : decode cX4_root 133 = .ok (.iconst 1, 1) := by decide +kernel
theorem V.dX4_root_134 : decode cX4_root 134 = .ok (.goto 4, 3) := by decide +kernel
theorem V.dX4_root_137 : decode cX4_root 137 = .ok (.iconst 0, 1) := by decide +kernel
theorem V.dX4_root_138 : decode cX4_root 138 = .ok (.istore 11, 2) := by decide +kernel
theorem V.dX4_root_140 : decode cX4_root 140 = .ok (.iload 11, 2) := by decide +kernel
theorem V.dX4_root_142 : decode cX4_root 142 = .ok (.ifCond .eq 16, 3) := by decide +kernel
theorem V.dX4_root_145 : decode cX4_root 145 = .ok (.lload 8, 2) := by decide +kernel
theorem V.dX4_root_147 : decode cX4_root 147 = .ok (.ldc2_w 172, 3) := by decide +kernel
theorem V.dX4_root_150 : decode cX4_root 150 = .ok (.lload 6, 2) := by decide +kernel
theorem V.dX4_root_152 : decode cX4_root 152 = .ok (.lmul, 1) := by decide +kernel
theorem V.dX4_root_153 : decode cX4_root 153 = .ok (.lconst 1, 1) := by decide +kernel
theorem V.dX4_root_154 : decode cX4_root 154 = .ok (.ladd, 1) := by decide +kernel
theorem V.dX4_root_155 : decode cX4_root 155 = .ok (.lsub, 1) := by decide +kernel
theorem V.dX4_root_156 : decode cX4_root 156 = .ok (.lstore 8, 2) := by decide +kernel
theorem V.dX4_root_158 : decode cX4_root 158 = .ok (.ldc2_w 93, 3) := by decide +kernel
theorem V.dX4_root_161 : decode cX4_root 161 = .ok (.lload 6, 2) := by decide +kernel
theorem V.dX4_root_163 : decode cX4_root 163 = .ok (.lmul, 1) := by decide +kernel
theorem V.dX4_root_164 : decode cX4_root 164 = .ok (.iload 11, 2) := by decide +kernel
theorem V.dX4_root_166 : decode cX4_root 166 = .ok (.ifCond .eq 7, 3) := by decide +kernel
theorem V.dX4_root_169 : decode cX4_root 169 = .ok (.lconst 1, 1) := by decide +kernel
theorem V.dX4_root_170 : decode cX4_root 170 = .ok (.goto 4, 3) := by decide +kernel
theorem V.dX4_root_173 : decode cX4_root 173 = .ok (.lconst 0, 1) := by decide +kernel
theorem V.dX4_root_174 : decode cX4_root 174 = .ok (.ladd, 1) := by decide +kernel
theorem V.dX4_root_175 : decode cX4_root 175 = .ok (.lstore 6, 2) := by decide +kernel
theorem V.dX4_root_177 : decode cX4_root 177 = .ok (.iinc 10 (-1), 3) := by decide +kernel
theorem V.dX4_root_180 : decode cX4_root 180 = .ok (.goto (-96), 3) := by decide +kernel
theorem V.dX4_root_183 : decode cX4_root 183 = .ok (.aload_n 0, 1) := by decide +kernel
theorem V.dX4_root_184 : decode cX4_root 184 = .ok (.iconst 0, 1) := by decide +kernel
theorem V.dX4_root_185 : decode cX4_root 185 = .ok (.lload 6, 2) := by decide +kernel
theorem V.dX4_root_187 : decode cX4_root 187 = .ok (.iload 5, 2) := by decide +kernel
theorem V.dX4_root_189 : decode cX4_root 189 = .ok (.iconst 2, 1) := by decide +kernel
theorem V.dX4_root_190 : decode cX4_root 190 = .ok (.idiv, 1) := by decide +kernel
theorem V.dX4_root_191 : decode cX4_root 191 = .ok (.bipush 30, 2) := by decide +kernel
theorem V.dX4_root_193 : decode cX4_root 193 = .ok (.isub, 1) := by decide +kernel
theorem V.dX4_root_194 : decode cX4_root 194 = .ok (.lload 8, 2) := by decide +kernel
theorem V.dX4_root_196 : decode cX4_root 196 = .ok (.lconst 0, 1) := by decide +kernel
theorem V.dX4_root_197 : decode cX4_root 197 = .ok (.lcmp, 1) := by decide +kernel
theorem V.dX4_root_198 : decode cX4_root 198 = .ok (.ifCond .eq 7, 3) := by decide +kernel
theorem V.dX4_root_201 : decode cX4_root 201 = .ok (.iconst 1, 1) := by decide +kernel
theorem V.dX4_root_202 : decode cX4_root 202 = .ok (.goto 4, 3) := by decide +kernel
theorem V.dX4_root_205 : decode cX4_root 205 = .ok (.iconst 0, 1) := by decide +kernel
theorem V.dX4_root_206 : decode cX4_root 206 = .ok (.invokevirtual 153, 3) := by decide +kernel
theorem V.dX4_root_209 : decode cX4_root 209 = .ok (.lreturn, 1) := by decide +kernel
theorem V.mdX4_162 : MD RX4 162 yX4_straight cX4_straight 4 (some .long) 1 := ⟨Or.inl q2625, q364, q2627, by decide, by decide, by decide +kernel⟩
theorem V.mdX4_165 : MD RX4 165 yX4_places cX4_places 3 (some .int) 1 := ⟨Or.inl q2629, q364, q2631, by decide, by decide, by decide +kernel⟩
theorem V.fdX4_114 : FD RX4 114 5 4 1 := ⟨(RX5, TX5, 6), tyX5, rfl, rfl, in_X5, by decide, Or.inr ⟨_, q590⟩, rfl⟩
/-! ModuleEngine$Numbers.root(LModuleEngine$Numbers$Format;J)J -/
def V.Num_root_p206  (σ : HS) (s0 : Int32) (s1 : Int32) (s2 : Int64) (s3 : Int32) (s4 : Nat) : Option (Int64 × HS) :=
  ck (tg σ s4 = 6) <| cl (Fmt_round σ s4 s3 s2 s1 s0) fun r2 σ1 =>
  some (r2, σ1)
theorem V.gX4_root_p206 {X : CX}  (σ : HS) (s0 : Int32) (s1 : Int32) (s2 : Int64) (s3 : Int32) (s4 : Nat) : G X RX4 "root" cX4_root 12 (some .long) 4 86 enJ 206 [] [iv s0, iv s1, jv s2, iv s3, av s4] σ (Num_root_p206 σ s0 s1 s2 s3 s4) := by
  unfold Num_root_p206
  refine g_callV (fc := fun sς => Fmt_round sς s4 s3 s2 s1 s0) (ci := 5) (as := [iv s3, jv s2, iv s1, iv s0]) rfl rfl rfl q2617 q2618 mdX4_153 (ctX5_round s4 s3 s2 s1 s0) rfl (Nat.le_of_ble_eq_true rfl) (Nat.le_of_ble_eq_true rfl) (Nat.le_of_ble_eq_true rfl) pu_J dX4_root_206 (fun r2 σ1 => ?_)
  exact g_lreturn rfl dX4_root_209
def V.Num_root_p174 (rec84 : HS → Nat → Int64 → Int32 → Int64 → Int64 → Int32 → Option (Int64 × HS)) (σ : HS) (x0 : Nat) (x3 : Int64) (x5 : Int32) (x8 : Int64) (x10 : Int32) (s0 : Int64) (s1 : Int64) : Option (Int64 × HS) :=
  bn (s1 + s0) fun y1 =>
  bn (x10 + (-1 : Int32)) fun y2 =>
  rec84 σ x0 x3 x5 y1 x8 y2
theorem V.gX4_root_p174 {X : CX} (rec84 : HS → Nat → Int64 → Int32 → Int64 → Int64 → Int32 → Option (Int64 × HS)) (hrec84 : ∀ (σ : HS) (x0 : Nat) (x3 : Int64) (x5 : Int32) (x6 : Int64) (x8 : Int64) (x10 : Int32), G X RX4 "root" cX4_root 12 (some .long) 4 86 enJ 84 [(0, av x0), (3, jv x3), (5, iv x5), (6, jv x6), (8, jv x8), (10, iv x10)] [] σ (rec84 σ x0 x3 x5 x6 x8 x10)) (σ : HS) (x0 : Nat) (x3 : Int64) (x5 : Int32) (x8 : Int64) (x10 : Int32) (s0 : Int64) (s1 : Int64) : G X RX4 "root" cX4_root 12 (some .long) 4 86 enJ 174 [(0, av x0), (3, jv x3), (5, iv x5), (8, jv x8), (10, iv x10)] [jv s0, jv s1] σ (Num_root_p174 rec84 σ x0 x3 x5 x8 x10 s0 s1) := by
  unfold Num_root_p174
  refine g_ladd dX4_root_174 ?_
  refine g_nmJ (fun y1 => ?_)
  refine g_lstore dX4_root_175 (by decide) rfl ?_
  refine g_iincB (w := (-1)) 5 dX4_root_177 rfl (by decide) (by decide) (fun _ => rfl) (fun y2 => ?_)
  refine g_goto 84 dX4_root_180 (by decide) ?_
  refine G.sub [2, 3, 4, 1, 5, 0] rfl ?_
  exact hrec84 _ _ _ _ _ _ _
def V.Num_root_p158 (rec84 : HS → Nat → Int64 → Int32 → Int64 → Int64 → Int32 → Option (Int64 × HS)) (σ : HS) (x0 : Nat) (x3 : Int64) (x5 : Int32) (x6 : Int64) (x8 : Int64) (x10 : Int32) (x11 : Int32) : Option (Int64 × HS) :=
  if x11 = 0 then (
    Num_root_p174 rec84 σ x0 x3 x5 x8 x10 (0 : Int64) ((2 : Int64) * x6))
  else (
    Num_root_p174 rec84 σ x0 x3 x5 x8 x10 (1 : Int64) ((2 : Int64) * x6))
theorem V.gX4_root_p158 {X : CX} (rec84 : HS → Nat → Int64 → Int32 → Int64 → Int64 → Int32 → Option (Int64 × HS)) (hrec84 : ∀ (σ : HS) (x0 : Nat) (x3 : Int64) (x5 : Int32) (x6 : Int64) (x8 : Int64) (x10 : Int32), G X RX4 "root" cX4_root 12 (some .long) 4 86 enJ 84 [(0, av x0), (3, jv x3), (5, iv x5), (6, jv x6), (8, jv x8), (10, iv x10)] [] σ (rec84 σ x0 x3 x5 x6 x8 x10)) (σ : HS) (x0 : Nat) (x3 : Int64) (x5 : Int32) (x6 : Int64) (x8 : Int64) (x10 : Int32) (x11 : Int32) : G X RX4 "root" cX4_root 12 (some .long) 4 86 enJ 158 [(0, av x0), (3, jv x3), (5, iv x5), (6, jv x6), (8, jv x8), (10, iv x10), (11, iv x11)] [] σ (Num_root_p158 rec84 σ x0 x3 x5 x6 x8 x10 x11) := by
  unfold Num_root_p158
  refine g_ldc2 q2574 dX4_root_158 ?_
  refine g_lload 3 dX4_root_161 rfl ?_
  refine g_lmul dX4_root_163 ?_
  refine g_iload 6 dX4_root_164 rfl ?_
  refine g_if_eq 173 dX4_root_166 (by decide) ?_ ?_
  · refine g_lconst (v := 0) dX4_root_173 (by decide) ?_
    refine G.sub [0, 1, 2, 4, 5] rfl ?_
    exact gX4_root_p174 rec84 hrec84 _ _ _ _ _ _ _ _
  · refine g_lconst (v := 1) dX4_root_169 (by decide) ?_
    refine g_goto 174 dX4_root_170 (by decide) ?_
    refine G.sub [0, 1, 2, 4, 5] rfl ?_
    exact gX4_root_p174 rec84 hrec84 _ _ _ _ _ _ _ _
def V.Num_root_p138 (rec84 : HS → Nat → Int64 → Int32 → Int64 → Int64 → Int32 → Option (Int64 × HS)) (σ : HS) (x0 : Nat) (x3 : Int64) (x5 : Int32) (x6 : Int64) (x8 : Int64) (x10 : Int32) (s0 : Int32) : Option (Int64 × HS) :=
  if s0 = 0 then (
    Num_root_p158 rec84 σ x0 x3 x5 x6 x8 x10 s0)
  else (
    bn (x8 - (((4 : Int64) * x6) + (1 : Int64))) fun y1 =>
    Num_root_p158 rec84 σ x0 x3 x5 x6 y1 x10 s0)
theorem V.gX4_root_p138 {X : CX} (rec84 : HS → Nat → Int64 → Int32 → Int64 → Int64 → Int32 → Option (Int64 × HS)) (hrec84 : ∀ (σ : HS) (x0 : Nat) (x3 : Int64) (x5 : Int32) (x6 : Int64) (x8 : Int64) (x10 : Int32), G X RX4 "root" cX4_root 12 (some .long) 4 86 enJ 84 [(0, av x0), (3, jv x3), (5, iv x5), (6, jv x6), (8, jv x8), (10, iv x10)] [] σ (rec84 σ x0 x3 x5 x6 x8 x10)) (σ : HS) (x0 : Nat) (x3 : Int64) (x5 : Int32) (x6 : Int64) (x8 : Int64) (x10 : Int32) (s0 : Int32) : G X RX4 "root" cX4_root 12 (some .long) 4 86 enJ 138 [(0, av x0), (3, jv x3), (5, iv x5), (6, jv x6), (8, jv x8), (10, iv x10)] [iv s0] σ (Num_root_p138 rec84 σ x0 x3 x5 x6 x8 x10 s0) := by
  unfold Num_root_p138
  refine g_istore dX4_root_138 (by decide) rfl ?_
  refine g_iload 0 dX4_root_140 rfl ?_
  refine g_if_eq 158 dX4_root_142 (by decide) ?_ ?_
  · refine G.sub [1, 2, 3, 4, 5, 6, 0] rfl ?_
    exact gX4_root_p158 rec84 hrec84 _ _ _ _ _ _ _ _
  · refine g_lload 5 dX4_root_145 rfl ?_
    refine g_ldc2 q2632 dX4_root_147 ?_
    refine g_lload 4 dX4_root_150 rfl ?_
    refine g_lmul dX4_root_152 ?_
    refine g_lconst (v := 1) dX4_root_153 (by decide) ?_
    refine g_ladd dX4_root_154 ?_
    refine g_lsub dX4_root_155 ?_
    refine g_nmJ (fun y1 => ?_)
    refine g_lstore dX4_root_156 (by decide) rfl ?_
    refine G.sub [2, 3, 4, 5, 0, 6, 1] rfl ?_
    exact gX4_root_p158 rec84 hrec84 _ _ _ _ _ _ _ _
def V.Num_root_p116 (rec84 : HS → Nat → Int64 → Int32 → Int64 → Int64 → Int32 → Option (Int64 × HS)) (σ : HS) (x0 : Nat) (x3 : Int64) (x5 : Int32) (x6 : Int64) (x10 : Int32) (s0 : Int64) (s1 : Int64) : Option (Int64 × HS) :=
  bn (s1 + s0) fun y1 =>
  if y1 < (((4 : Int64) * x6) + (1 : Int64)) then (
    Num_root_p138 rec84 σ x0 x3 x5 x6 y1 x10 (0 : Int32))
  else (
    Num_root_p138 rec84 σ x0 x3 x5 x6 y1 x10 (1 : Int32))
theorem V.gX4_root_p116 {X : CX} (rec84 : HS → Nat → Int64 → Int32 → Int64 → Int64 → Int32 → Option (Int64 × HS)) (hrec84 : ∀ (σ : HS) (x0 : Nat) (x3 : Int64) (x5 : Int32) (x6 : Int64) (x8 : Int64) (x10 : Int32), G X RX4 "root" cX4_root 12 (some .long) 4 86 enJ 84 [(0, av x0), (3, jv x3), (5, iv x5), (6, jv x6), (8, jv x8), (10, iv x10)] [] σ (rec84 σ x0 x3 x5 x6 x8 x10)) (σ : HS) (x0 : Nat) (x3 : Int64) (x5 : Int32) (x6 : Int64) (x10 : Int32) (s0 : Int64) (s1 : Int64) : G X RX4 "root" cX4_root 12 (some .long) 4 86 enJ 116 [(0, av x0), (3, jv x3), (5, iv x5), (6, jv x6), (10, iv x10)] [jv s0, jv s1] σ (Num_root_p116 rec84 σ x0 x3 x5 x6 x10 s0 s1) := by
  unfold Num_root_p116
  refine g_ladd dX4_root_116 ?_
  refine g_nmJ (fun y1 => ?_)
  refine g_lstore dX4_root_117 (by decide) rfl ?_
  refine g_lload 0 dX4_root_119 rfl ?_
  refine g_ldc2 q2632 dX4_root_121 ?_
  refine g_lload 4 dX4_root_124 rfl ?_
  refine g_lmul dX4_root_126 ?_
  refine g_lconst (v := 1) dX4_root_127 (by decide) ?_
  refine g_ladd dX4_root_128 ?_
  refine g_lcmp_lt 137 dX4_root_129 dX4_root_130 (by decide) ?_ ?_
  · refine g_iconst (v := 0) dX4_root_137 (by decide) ?_
    refine G.sub [1, 2, 3, 4, 0, 5] rfl ?_
    exact gX4_root_p138 rec84 hrec84 _ _ _ _ _ _ _ _
  · refine g_iconst (v := 1) dX4_root_133 (by decide) ?_
    refine g_goto 138 dX4_root_134 (by decide) ?_
    refine G.sub [1, 2, 3, 4, 0, 5] rfl ?_
    exact gX4_root_p138 rec84 hrec84 _ _ _ _ _ _ _ _
def V.Num_root_p84  : Nat → HS → Nat → Int64 → Int32 → Int64 → Int64 → Int32 → Option (Int64 × HS)
  | 0, _, _, _, _, _, _, _ => none
  | n + 1, σ, x0, x3, x5, x6, x8, x10 =>
    if x10 ≤ (-31 : Int32) then (
      ck (¬ (2 : Int32) = 0) <|
      if x8 = (0 : Int64) then (
        Num_root_p206 σ (0 : Int32) ((x5 / (2 : Int32)) - (30 : Int32)) x6 (0 : Int32) x0)
      else (
        Num_root_p206 σ (1 : Int32) ((x5 / (2 : Int32)) - (30 : Int32)) x6 (0 : Int32) x0))
    else (
      if x10 < 0 then (
        Num_root_p116 (Num_root_p84 n) σ x0 x3 x5 x6 x10 (0 : Int64) ((4 : Int64) * x8))
      else (
        Num_root_p116 (Num_root_p84 n) σ x0 x3 x5 x6 x10 ((lshr x3 ((2 : Int32) * x10)) &&& (3 : Int64)) ((4 : Int64) * x8)))
theorem V.gX4_root_p84 {X : CX}  : ∀ (n : Nat) (σ : HS) (x0 : Nat) (x3 : Int64) (x5 : Int32) (x6 : Int64) (x8 : Int64) (x10 : Int32), G X RX4 "root" cX4_root 12 (some .long) 4 86 enJ 84 [(0, av x0), (3, jv x3), (5, iv x5), (6, jv x6), (8, jv x8), (10, iv x10)] [] σ (Num_root_p84 n σ x0 x3 x5 x6 x8 x10)
  | 0, σ, x0, x3, x5, x6, x8, x10 => by rw [Num_root_p84]; exact G.nul
  | n + 1, σ, x0, x3, x5, x6, x8, x10 => by
    rw [Num_root_p84]
    refine g_iload 5 dX4_root_84 rfl ?_
    refine g_bipush (v := (-31)) dX4_root_86 (by decide) ?_
    refine g_icmp_le 183 dX4_root_88 (by decide) ?_ ?_
    · refine g_aload_n 0 0 dX4_root_183 rfl rfl ?_
      refine g_iconst (v := 0) dX4_root_184 (by decide) ?_
      refine g_lload 3 dX4_root_185 rfl ?_
      refine g_iload 2 dX4_root_187 rfl ?_
      refine g_iconst (v := 2) dX4_root_189 (by decide) ?_
      refine g_idiv dX4_root_190 ?_
      refine g_bipush (v := 30) dX4_root_191 (by decide) ?_
      refine g_isub dX4_root_193 ?_
      refine g_lload 4 dX4_root_194 rfl ?_
      refine g_lconst (v := 0) dX4_root_196 (by decide) ?_
      refine g_lcmp_eq 205 dX4_root_197 dX4_root_198 (by decide) ?_ ?_
      · refine g_iconst (v := 0) dX4_root_205 (by decide) ?_
        refine G.sub [] rfl ?_
        exact gX4_root_p206 _ _ _ _ _ _
      · refine g_iconst (v := 1) dX4_root_201 (by decide) ?_
        refine g_goto 206 dX4_root_202 (by decide) ?_
        refine G.sub [] rfl ?_
        exact gX4_root_p206 _ _ _ _ _ _
    · refine g_ldc2 q2632 dX4_root_91 ?_
      refine g_lload 4 dX4_root_94 rfl ?_
      refine g_lmul dX4_root_96 ?_
      refine g_iload 5 dX4_root_97 rfl ?_
      refine g_if_lt 115 dX4_root_99 (by decide) ?_ ?_
      · refine g_lconst (v := 0) dX4_root_115 (by decide) ?_
        refine G.sub [0, 1, 2, 3, 5] rfl ?_
        exact gX4_root_p116 (Num_root_p84 n) (gX4_root_p84 n) _ _ _ _ _ _ _ _
      · refine g_lload_n 3 1 dX4_root_102 rfl rfl ?_
        refine g_iconst (v := 2) dX4_root_103 (by decide) ?_
        refine g_iload 5 dX4_root_104 rfl ?_
        refine g_imul dX4_root_106 ?_
        refine g_lshr dX4_root_107 ?_
        refine g_ldc2 q2633 dX4_root_108 ?_
        refine g_land dX4_root_111 ?_
        refine g_goto 116 dX4_root_112 (by decide) ?_
        refine G.sub [0, 1, 2, 3, 5] rfl ?_
        exact gX4_root_p116 (Num_root_p84 n) (gX4_root_p84 n) _ _ _ _ _ _ _ _
def V.Num_root_p74  (σ : HS) (x0 : Nat) (x3 : Int64) (x5 : Int32) : Option (Int64 × HS) :=
  Num_root_p84 FU σ x0 x3 x5 (0 : Int64) (0 : Int64) (26 : Int32)
theorem V.gX4_root_p74 {X : CX}  (σ : HS) (x0 : Nat) (x3 : Int64) (x5 : Int32) : G X RX4 "root" cX4_root 12 (some .long) 4 86 enJ 74 [(0, av x0), (3, jv x3), (5, iv x5)] [] σ (Num_root_p74 σ x0 x3 x5) := by
  unfold Num_root_p74
  refine g_lconst (v := 0) dX4_root_74 (by decide) ?_
  refine g_lstore dX4_root_75 (by decide) rfl ?_
  refine g_lconst (v := 0) dX4_root_77 (by decide) ?_
  refine g_lstore dX4_root_78 (by decide) rfl ?_
  refine g_bipush (v := 26) dX4_root_80 (by decide) ?_
  refine g_istore dX4_root_82 (by decide) rfl ?_
  refine G.sub [3, 4, 5, 2, 1, 0] rfl ?_
  exact gX4_root_p84 FU _ _ _ _ _ _ _
def V.Num_root (σ : HS) (x0 : Nat) (x1 : Int64) : Option (Int64 × HS) :=
  ck (tg σ x0 = 6) <| cl (Fmt_isZero σ x0 x1) fun r2 σ1 =>
  if r2 = 0 then (
    ck (tg σ1 x0 = 6) <| cl (Fmt_sign σ1 x0 x1) fun r4 σ3 =>
    if r4 = 0 then (
      ck (tg σ3 x0 = 6) <| cl (Fmt_isInfinite σ3 x0 x1) fun r6 σ5 =>
      if r6 = 0 then (
        ck (tg σ5 x0 = 6) <| cl (Fmt_significand σ5 x0 x1) fun r8 σ7 =>
        cl (Num_straight σ7 r8) fun r10 σ9 =>
        ck (tg σ9 x0 = 6) <| cl (Fmt_scale σ9 x0 x1) fun r12 σ11 =>
        ck (tg σ11 x0 = 6) <| cl (Fmt_significand σ11 x0 x1) fun r14 σ13 =>
        cl (Num_places σ13 r14) fun r16 σ15 =>
        bn (r12 - r16) fun y17 =>
        ck (¬ (2 : Int32) = 0) <|
        if (y17 - y17 / (2 : Int32) * (2 : Int32)) = 0 then (
          Num_root_p74 σ15 x0 r10 y17)
        else (
          bn ((2 : Int64) * r10) fun y18 =>
          bn (y17 + (-1 : Int32)) fun y19 =>
          Num_root_p74 σ15 x0 y18 y19))
      else (
        some (x1, σ5)))
    else (
      ck (tg σ3 x0 = 6) <|
      some (gJ σ3 x0 4, σ3)))
  else (
    some (x1, σ1))
theorem V.ctX4_root (x0 : Nat) (x1 : Int64) : Ct yX4_root  cX4_root 12 (some .long) 4 86 eJ [av x0, jv x1] (fun σ => Num_root σ x0 x1) := by
  refine Ct.of (own := RX4) (nm := "root") (desc := "(LModuleEngine$Numbers$Format;J)J") rfl (by decide) (Nat.le_of_ble_eq_true rfl) (by decide) (fun X σ => ?_)
  show G X RX4 "root" cX4_root 12 (some .long) 4 86 enJ 0 [(0, av x0), (1, jv x1)] [] σ (Num_root σ x0 x1)
  unfold Num_root
  refine g_aload_n 0 0 dX4_root_0 rfl rfl ?_
  refine g_lload_n 1 1 dX4_root_1 rfl rfl ?_
  refine g_callV (fc := fun sς => Fmt_isZero sς x0 x1) (ci := 5) (as := [jv x1]) rfl rfl rfl q2605 q2606 mdX4_140 (ctX5_isZero x0 x1) rfl (Nat.le_of_ble_eq_true rfl) (Nat.le_of_ble_eq_true rfl) (Nat.le_of_ble_eq_true rfl) pu_I dX4_root_2 (fun r2 σ1 => ?_)
  refine g_if_eq 10 dX4_root_5 (by decide) ?_ ?_
  · refine g_aload_n 0 0 dX4_root_10 rfl rfl ?_
    refine g_lload_n 1 1 dX4_root_11 rfl rfl ?_
    refine g_callV (fc := fun sς => Fmt_sign sς x0 x1) (ci := 5) (as := [jv x1]) rfl rfl rfl q2548 q2549 mdX4_99 (ctX5_sign x0 x1) rfl (Nat.le_of_ble_eq_true rfl) (Nat.le_of_ble_eq_true rfl) (Nat.le_of_ble_eq_true rfl) pu_I dX4_root_12 (fun r4 σ3 => ?_)
    refine g_if_eq 23 dX4_root_15 (by decide) ?_ ?_
    · refine g_aload_n 0 0 dX4_root_23 rfl rfl ?_
      refine g_lload_n 1 1 dX4_root_24 rfl rfl ?_
      refine g_callV (fc := fun sς => Fmt_isInfinite sς x0 x1) (ci := 5) (as := [jv x1]) rfl rfl rfl q2601 q2602 mdX4_147 (ctX5_isInfinite x0 x1) rfl (Nat.le_of_ble_eq_true rfl) (Nat.le_of_ble_eq_true rfl) (Nat.le_of_ble_eq_true rfl) pu_I dX4_root_25 (fun r6 σ5 => ?_)
      refine g_if_eq 33 dX4_root_28 (by decide) ?_ ?_
      · refine g_aload_n 0 0 dX4_root_33 rfl rfl ?_
        refine g_lload_n 1 1 dX4_root_34 rfl rfl ?_
        refine g_callV (fc := fun sς => Fmt_significand sς x0 x1) (ci := 5) (as := [jv x1]) rfl rfl rfl q2609 q2610 mdX4_150 (ctX5_significand x0 x1) rfl (Nat.le_of_ble_eq_true rfl) (Nat.le_of_ble_eq_true rfl) (Nat.le_of_ble_eq_true rfl) pu_J dX4_root_35 (fun r8 σ7 => ?_)
        refine g_callS (fc := fun sς => Num_straight sς r8) (as := [jv r8]) q2626 mdX4_162 (ctX4_straight r8) rfl (Nat.le_of_ble_eq_true rfl) (Nat.le_of_ble_eq_true rfl) (Nat.le_of_ble_eq_true rfl) pu_J dX4_root_38 (fun r10 σ9 => ?_)
        refine g_lstore_n 3 dX4_root_41 rfl (by decide) rfl ?_
        refine g_aload_n 0 1 dX4_root_42 rfl rfl ?_
        refine g_lload_n 1 2 dX4_root_43 rfl rfl ?_
        refine g_callV (fc := fun sς => Fmt_scale sς x0 x1) (ci := 5) (as := [jv x1]) rfl rfl rfl q2593 q2594 mdX4_143 (ctX5_scale x0 x1) rfl (Nat.le_of_ble_eq_true rfl) (Nat.le_of_ble_eq_true rfl) (Nat.le_of_ble_eq_true rfl) pu_I dX4_root_44 (fun r12 σ11 => ?_)
        refine g_aload_n 0 1 dX4_root_47 rfl rfl ?_
        refine g_lload_n 1 2 dX4_root_48 rfl rfl ?_
        refine g_callV (fc := fun sς => Fmt_significand sς x0 x1) (ci := 5) (as := [jv x1]) rfl rfl rfl q2609 q2610 mdX4_150 (ctX5_significand x0 x1) rfl (Nat.le_of_ble_eq_true rfl) (Nat.le_of_ble_eq_true rfl) (Nat.le_of_ble_eq_true rfl) pu_J dX4_root_49 (fun r14 σ13 => ?_)
        refine g_callS (fc := fun sς => Num_places sς r14) (as := [jv r14]) q2630 mdX4_165 (ctX4_places r14) rfl (Nat.le_of_ble_eq_true rfl) (Nat.le_of_ble_eq_true rfl) (Nat.le_of_ble_eq_true rfl) pu_I dX4_root_52 (fun r16 σ15 => ?_)
        refine g_isub dX4_root_55 ?_
        refine g_nmI (fun y17 => ?_)
        refine g_istore dX4_root_56 (by decide) rfl ?_
        refine g_iload 0 dX4_root_58 rfl ?_
        refine g_iconst (v := 2) dX4_root_60 (by decide) ?_
        refine g_irem dX4_root_61 ?_
        refine g_if_eq 74 dX4_root_62 (by decide) ?_ ?_
        · refine G.sub [2, 1, 0] rfl ?_
          exact gX4_root_p74 _ _ _ _
        · refine g_ldc2 q2574 dX4_root_65 ?_
          refine g_lload_n 3 1 dX4_root_68 rfl rfl ?_
          refine g_lmul dX4_root_69 ?_
          refine g_nmJ (fun y18 => ?_)
          refine g_lstore_n 3 dX4_root_70 rfl (by decide) rfl ?_
          refine g_iincB (w := (-1)) 1 dX4_root_71 rfl (by decide) (by decide) (fun _ => rfl) (fun y19 => ?_)
          refine G.sub [2, 1, 0] rfl ?_
          exact gX4_root_p74 _ _ _ _
      · refine g_lload_n 1 1 dX4_root_31 rfl rfl ?_
        exact g_lreturn rfl dX4_root_32
    · refine g_aload_n 0 0 dX4_root_18 rfl rfl ?_
      refine g_getJ fdX4_114 dX4_root_19 ?_
      exact g_lreturn rfl dX4_root_22
  · refine g_lload_n 1 1 dX4_root_8 rfl rfl ?_
    exact g_lreturn rfl dX4_root_9
theorem V.dX4_sum_0 : decode cX4_sum 0 = .ok (.aload_n 0, 1) := by decide +kernel
theorem V.dX4_sum_1 : decode cX4_sum 1 = .ok (.lload_n 1, 1) := by decide +kernel
theorem V.dX4_sum_2 : decode cX4_sum 2 = .ok (.invokevirtual 147, 3) := by decide +kernel
theorem V.dX4_sum_5 : decode cX4_sum 5 = .ok (.ifCond .ne 11, 3) := by decide +kernel
theorem V.dX4_sum_8 : decode cX4_sum 8 = .ok (.aload_n 0, 1) := by decide +kernel
theorem V.dX4_sum_9 : decode cX4_sum 9 = .ok (.lload_n 3, 1) := by decide +kernel
theorem V.dX4_sum_10 : decode cX4_sum 10 = .ok (.invokevirtual 147, 3) := by decide +kernel
theorem V.dX4_sum_13 : decode cX4_sum 13 = .ok (.ifCond .eq 44, 3) := by decide +kernel
theorem V.dX4_sum_16 : decode cX4_sum 16 = .ok (.aload_n 0, 1) := by decide +kernel
theorem V.dX4_sum_17 : decode cX4_sum 17 = .ok (.lload_n 1, 1) := by decide +kernel
theorem V.dX4_sum_18 : decode cX4_sum 18 = .ok (.invokevirtual 147, 3) := by decide +kernel
theorem V.dX4_sum_21 : decode cX4_sum 21 = .ok (.ifCond .eq 22, 3) := by decide +kernel
theorem V.dX4_sum_24 : decode cX4_sum 24 = .ok (.aload_n 0, 1) := by decide +kernel
theorem V.dX4_sum_25 : decode cX4_sum 25 = .ok (.lload_n 3, 1) := by decide +kernel
theorem V.dX4_sum_26 : decode cX4_sum 26 = .ok (.invokevirtual 147, 3) := by decide +kernel
theorem V.dX4_sum_29 : decode cX4_sum 29 = .ok (.ifCond .eq 14, 3) := by decide +kernel
theorem V.dX4_sum_32 : decode cX4_sum 32 = .ok (.lload_n 1, 1) := by decide +kernel
theorem V.dX4_sum_33 : decode cX4_sum 33 = .ok (.lload_n 3, 1) := by decide +kernel
theorem V.dX4_sum_34 : decode cX4_sum 34 = .ok (.lcmp, 1) := by decide +kernel
theorem V.dX4_sum_35 : decode cX4_sum 35 = .ok (.ifCond .eq 8, 3) := by decide +kernel
theorem V.dX4_sum_38 : decode cX4_sum 38 = .ok (.aload_n 0, 1) := by decide +kernel
theorem V.dX4_sum_39 : decode cX4_sum 39 = .ok (.getfield 114, 3) := by decide +kernel
theorem V.dX4_sum_42 : decode cX4_sum 42 = .ok (.lreturn, 1) := by decide +kernel
theorem V.dX4_sum_43 : decode cX4_sum 43 = .ok (.aload_n 0, 1) := by decide +kernel
theorem V.dX4_sum_44 : decode cX4_sum 44 = .ok (.lload_n 1, 1) := by decide +kernel
theorem V.dX4_sum_45 : decode cX4_sum 45 = .ok (.invokevirtual 147, 3) := by decide +kernel
theorem V.dX4_sum_48 : decode cX4_sum 48 = .ok (.ifCond .eq 7, 3) := by decide +kernel
theorem V.dX4_sum_51 : decode cX4_sum 51 = .ok (.lload_n 1, 1) := by decide +kernel
theorem V.dX4_sum_52 : decode cX4_sum 52 = .ok (.goto 4, 3) := by decide +kernel
theorem V.dX4_sum_55 : decode cX4_sum 55 = .ok (.lload_n 3, 1) := by decide +kernel
theorem V.dX4_sum_56 : decode cX4_sum 56 = .ok (.lreturn, 1) := by decide +kernel
theorem V.dX4_sum_57 : decode cX4_sum 57 = .ok (.aload_n 0, 1) := by decide +kernel
theorem V.dX4_sum_58 : decode cX4_sum 58 = .ok (.lload_n 1, 1) := by decide +kernel
theorem V.dX4_sum_59 : decode cX4_sum 59 = .ok (.invokevirtual 140, 3) := by decide +kernel
theorem V.dX4_sum_62 : decode cX4_sum 62 = .ok (.ifCond .eq 38, 3) := by decide +kernel
theorem V.dX4_sum_65 : decode cX4_sum 65 = .ok (.aload_n 0, 1) := by decide +kernel
theorem V.dX4_sum_66 : decode cX4_sum 66 = .ok (.lload_n 3, 1) := by decide +kernel
theorem V.dX4_sum_67 : decode cX4_sum 67 = .ok (.invokevirtual 140, 3) := by decide +kernel
theorem V.dX4_sum_70 : decode cX4_sum 70 = .ok (.ifCond .eq 30, 3) := by decide +kernel
theorem V.dX4_sum_73 : decode cX4_sum 73 = .ok (.aload_n 0, 1) := by decide +kernel
theorem V.dX4_sum_74 : decode cX4_sum 74 = .ok (.aload_n 0, 1) := by decide +kernel
theorem V.dX4_sum_75 : decode cX4_sum 75 = .ok (.lload_n 1, 1) := by decide +kernel
theorem V.dX4_sum_76 : decode cX4_sum 76 = .ok (.invokevirtual 99, 3) := by decide +kernel
theorem V.dX4_sum_79 : decode cX4_sum 79 = .ok (.ifCond .eq 15, 3) := by decide +kernel
theorem V.dX4_sum_82 : decode cX4_sum 82 = .ok (.aload_n 0, 1) := by decide +kernel
theorem V.dX4_sum_83 : decode cX4_sum 83 = .ok (.lload_n 3, 1) := by decide +kernel
theorem V.dX4_sum_84 : decode cX4_sum 84 = .ok (.invokevirtual 99, 3) := by decide +kernel
theorem V.dX4_sum_87 : decode cX4_sum 87 = .ok (.ifCond .eq 7, 3) := by decide +kernel
theorem V.dX4_sum_90 : decode cX4_sum 90 = .ok (.iconst 1, 1) := by decide +kernel
theorem V.dX4_sum_91 : decode cX4_sum 91 = .ok (.goto 4, 3) := by decide +kernel
theorem V.dX4_sum_94 : decode cX4_sum 94 = .ok (.iconst 0, 1) := by decide +kernel
theorem V.dX4_sum_95 : decode cX4_sum 95 = .ok (.lconst 0, 1) := by decide +kernel
theorem V.dX4_sum_96 : decode cX4_sum 96 = .ok (.invokevirtual 110, 3) := by decide +kernel
theorem V.dX4_sum_99 : decode cX4_sum 99 = .ok (.lreturn, 1) := by decide +kernel
theorem V.dX4_sum_100 : decode cX4_sum 100 = .ok (.aload_n 0, 1) := by decide +kernel
theorem V.dX4_sum_101 : decode cX4_sum 101 = .ok (.lload_n 1, 1) := by decide +kernel
theorem V.dX4_sum_102 : decode cX4_sum 102 = .ok (.invokevirtual 140, 3) := by decide +kernel
theorem V.dX4_sum_105 : decode cX4_sum 105 = .ok (.ifCond .ne 11, 3) := by decide +kernel
theorem V.dX4_sum_108 : decode cX4_sum 108 = .ok (.aload_n 0, 1) := by decide +kernel
theorem V.dX4_sum_109 : decode cX4_sum 109 = .ok (.lload_n 3, 1) := by decide +kernel
theorem V.dX4_sum_110 : decode cX4_sum 110 = .ok (.invokevirtual 140, 3) := by decide +kernel
theorem V.dX4_sum_113 : decode cX4_sum 113 = .ok (.ifCond .eq 17, 3) := by decide +kernel
theorem V.dX4_sum_116 : decode cX4_sum 116 = .ok (.aload_n 0, 1) := by decide +kernel
theorem V.dX4_sum_117 : decode cX4_sum 117 = .ok (.lload_n 1, 1) := by decide +kernel
theorem V.dX4_sum_118 : decode cX4_sum 118 = .ok (.invokevirtual 140, 3) := by decide +kernel
theorem V.dX4_sum_121 : decode cX4_sum 121 = .ok (.ifCond .eq 7, 3) := by decide +kernel
theorem V.dX4_sum_124 : decode cX4_sum 124 = .ok (.lload_n 3, 1) := by decide +kernel
theorem V.dX4_sum_125 : decode cX4_sum 125 = .ok (.goto 4, 3) := by decide +kernel
theorem V.dX4_sum_128 : decode cX4_sum 128 = .ok (.lload_n 1, 1) := by decide +kernel
theorem V.dX4_sum_129 : decode cX4_sum 129 = .ok (.lreturn, 1) := by decide +kernel
theorem V.dX4_sum_130 : decode cX4_sum 130 = .ok (.aload_n 0, 1) := by decide +kernel
theorem V.dX4_sum_131 : decode cX4_sum 131 = .ok (.lload_n 1, 1) := by decide +kernel
theorem V.dX4_sum_132 : decode cX4_sum 132 = .ok (.invokevirtual 102, 3) := by decide +kernel
theorem V.dX4_sum_135 : decode cX4_sum 135 = .ok (.aload_n 0, 1) := by decide +kernel
theorem V.dX4_sum_136 : decode cX4_sum 136 = .ok (.lload_n 3, 1) := by decide +kernel
theorem V.dX4_sum_137 : decode cX4_sum 137 = .ok (.invokevirtual 102, 3) := by decide +kernel
theorem V.dX4_sum_140 : decode cX4_sum 140 = .ok (.lcmp, 1) := by decide +kernel
theorem V.dX4_sum_141 : decode cX4_sum 141 = .ok (.ifCond .ge 7, 3) := by decide +kernel
theorem V.dX4_sum_144 : decode cX4_sum 144 = .ok (.iconst 1, 1) := by decide +kernel
theorem V.dX4_sum_145 : decode cX4_sum 145 = .ok (.goto 4, 3) := by decide +kernel
theorem V.dX4_sum_148 : decode cX4_sum 148 = .ok (.iconst 0, 1) := by decide +kernel
theorem V.dX4_sum_149 : decode cX4_sum 149 = .ok (.istore 5, 2) := by decide +kernel
theorem V.dX4_sum_151 : decode cX4_sum 151 = .ok (.iload 5, 2) := by decide +kernel
theorem V.dX4_sum_153 : decode cX4_sum 153 = .ok (.ifCond .eq 7, 3) := by decide +kernel
theorem V.dX4_sum_156 : decode cX4_sum 156 = .ok (.lload_n 3, 1) := by decide +kernel
theorem V.dX4_sum_157 : decode cX4_sum 157 = .ok (.goto 4, 3) := by decide +kernel
theorem V.dX4_sum_160 : decode cX4_sum 160 = .ok (.lload_n 1, 1) := by decide +kernel
theorem V.dX4_sum_161 : decode cX4_sum 161 = .ok (.lstore 6, 2) := by decide +kernel
theorem V.dX4_sum_163 : decode cX4_sum 163 = .ok (.iload 5, 2) := by decide +kernel
theorem V.dX4_sum_165 : decode cX4_sum 165 = .ok (.ifCond .eq 7, 3) := by decide +kernel
theorem V.dX4_sum_168 : decode cX4_sum 168 = .ok (.lload_n 1, 1) := by decide +kernel
theorem V.dX4_sum_169 : decode cX4_sum 169 = .ok (.goto 4, 3) := by decide +kernel
theorem V.dX4_sum_172 : decode cX4_sum 172 = .ok (.lload_n 3, 1) := by decide +kernel
theorem V.dX4_sum_173 : decode cX4_sum 173 = .ok (.lstore 8, 2) := by decide +kernel
theorem V.dX4_sum_175 : decode cX4_sum 175 = .ok (.aload_n 0, 1) := by decide +kernel
theorem V.dX4_sum_176 : decode cX4_sum 176 = .ok (.lload 6, 2) := by decide +kernel
theorem V.dX4_sum_178 : decode cX4_sum 178 = .ok (.invokevirtual 143, 3) := by decide +kernel
theorem V.dX4_sum_181 : decode cX4_sum 181 = .ok (.aload_n 0, 1) := by decide +kernel
theorem V.dX4_sum_182 : decode cX4_sum 182 = .ok (.lload 8, 2) := by decide +kernel
theorem V.dX4_sum_184 : decode cX4_sum 184 = .ok (.invokevirtual 143, 3) := by decide +kernel
theorem V.dX4_sum_187 : decode cX4_sum 187 = .ok (.isub, 1) := by decide +kernel
theorem V.dX4_sum_188 : decode cX4_sum 188 = .ok (.istore 10, 2) := by decide +kernel
theorem V.dX4_sum_190 : decode cX4_sum 190 = .ok (.aload_n 0, 1) := by decide +kernel
theorem V.dX4_sum_191 : decode cX4_sum 191 = .ok (.lload 6, 2) := by decide +kernel
theorem V.dX4_sum_193 : decode cX4_sum 193 = .ok (.invokevirtual 150, 3) := by decide +kernel
theorem V.dX4_sum_196 : decode cX4_sum 196 = .ok (.bipush 9, 2) := by decide +kernel
theorem V.dX4_sum_198 : decode cX4_sum 198 = .ok (.lshl, 1) := by decide +kernel
theorem V.dX4_sum_199 : decode cX4_sum 199 = .ok (.lstore 11, 2) := by decide +kernel
theorem V.dX4_sum_201 : decode cX4_sum 201 = .ok (.aload_n 0, 1) := by decide +kernel
theorem V.dX4_sum_202 : decode cX4_sum 202 = .ok (.lload 8, 2) := by decide +kernel
theorem V.dX4_sum_204 : decode cX4_sum 204 = .ok (.invokevirtual 150, 3) := by decide +kernel
theorem V.dX4_sum_207 : decode cX4_sum 207 = .ok (.bipush 9, 2) := by decide +kernel
theorem V.dX4_sum_209 : decode cX4_sum 209 = .ok (.lshl, 1) := by decide +kernel
theorem V.dX4_sum_210 : decode cX4_sum 210 = .ok (.lstore 13, 2) := by decide +kernel
theorem V.dX4_sum_212 : decode cX4_sum 212 = .ok (.iload 10, 2) := by decide +kernel
theorem V.dX4_sum_214 : decode cX4_sum 214 = .ok (.bipush 62, 2) := by decide +kernel
theorem V.dX4_sum_216 : decode cX4_sum 216 = .ok (.if_icmp .le 7, 3) := by decide +kernel
theorem V.dX4_sum_219 : decode cX4_sum 219 = .ok (.lconst 1, 1) := by decide +kernel
theorem V.dX4_sum_220 : decode cX4_sum 220 = .ok (.goto 28, 3) := by decide +kernel
theorem V.dX4_sum_223 : decode cX4_sum 223 = .ok (.lload 13, 2) := by decide +kernel
theorem V.dX4_sum_225 : decode cX4_sum 225 = .ok (.iload 10, 2) := by decide +kernel
theorem V.dX4_sum_227 : decode cX4_sum 227 = .ok (.lshr, 1) := by decide +kernel
theorem V.dX4_sum_228 : decode cX4_sum 228 = .ok (.lload 13, 2) := by decide +kernel
theorem V.dX4_sum_230 : decode cX4_sum 230 = .ok (.lconst 1, 1) := by decide +kernel
theorem V.dX4_sum_231 : decode cX4_sum 231 = .ok (.iload 10, 2) := by decide +kernel
theorem V.dX4_sum_233 : decode cX4_sum 233 = .ok (.lshl, 1) := by decide +kernel
theorem V.dX4_sum_234 : decode cX4_sum 234 = .ok (.lconst 1, 1) := by decide +kernel
theorem V.dX4_sum_235 : decode cX4_sum 235 = .ok (.lsub, 1) := by decide +kernel
theorem V.dX4_sum_236 : decode cX4_sum 236 = .ok (.land, 1) := by decide +kernel
theorem V.dX4_sum_237 : decode cX4_sum 237 = .ok (.lconst 0, 1) := by decide +kernel
theorem V.dX4_sum_238 : decode cX4_sum 238 = .ok (.lcmp, 1) := by decide +kernel
theorem V.dX4_sum_239 : decode cX4_sum 239 = .ok (.ifCond .eq 7, 3) := by decide +kernel
theorem V.dX4_sum_242 : decode cX4_sum 242 = .ok (.lconst 1, 1) := by decide +kernel
theorem V.dX4_sum_243 : decode cX4_sum 243 = .ok (.goto 4, 3) := by decide +kernel
theorem V.dX4_sum_246 : decode cX4_sum 246 = .ok (.lconst 0, 1) := by decide +kernel
theorem V.dX4_sum_247 : decode cX4_sum 247 = .ok (.lor, 1) := by decide +kernel
theorem V.dX4_sum_248 : decode cX4_sum 248 = .ok (.lstore 15, 2) := by decide +kernel
theorem V.dX4_sum_250 : decode cX4_sum 250 = .ok (.aload_n 0, 1) := by decide +kernel
theorem V.dX4_sum_251 : decode cX4_sum 251 = .ok (.lload 6, 2) := by decide +kernel
theorem V.dX4_sum_253 : decode cX4_sum 253 = .ok (.invokevirtual 99, 3) := by decide +kernel
theorem V.dX4_sum_256 : decode cX4_sum 256 = .ok (.aload_n 0, 1) := by decide +kernel
theorem V.dX4_sum_257 : decode cX4_sum 257 = .ok (.lload 8, 2) := by decide +kernel
theorem V.dX4_sum_259 : decode cX4_sum 259 = .ok (.invokevirtual 99, 3) := by decide +kernel
theorem V.dX4_sum_262 : decode cX4_sum 262 = .ok (.if_icmp .ne 11, 3) := by decide +kernel
theorem V.dX4_sum_265 : decode cX4_sum 265 = .ok (.lload 11, 2) := by decide +kernel
theorem V.dX4_sum_267 : decode cX4_sum 267 = .ok (.lload 15, 2) := by decide +kernel
theorem V.dX4_sum_269 : decode cX4_sum 269 = .ok (.ladd, 1) := by decide +kernel
theorem V.dX4_sum_270 : decode cX4_sum 270 = .ok (.goto 8, 3) := by decide +kernel
theorem V.dX4_sum_273 : decode cX4_sum 273 = .ok (.lload 11, 2) := by decide +kernel
theorem V.dX4_sum_275 : decode cX4_sum 275 = .ok (.lload 15, 2) := by decide +kernel
theorem V.dX4_sum_277 : decode cX4_sum 277 = .ok (.lsub, 1) := by decide +kernel
theorem V.dX4_sum_278 : decode cX4_sum 278 = .ok (.lstore 17, 2) := by decide +kernel
theorem V.dX4_sum_280 : decode cX4_sum 280 = .ok (.lload 17, 2) := by decide +kernel
theorem V.dX4_sum_282 : decode cX4_sum 282 = .ok (.lconst 0, 1) := by decide +kernel
theorem V.dX4_sum_283 : decode cX4_sum 283 = .ok (.lcmp, 1) := by decide +kernel
theorem V.dX4_sum_284 : decode cX4_sum 284 = .ok (.ifCond .ne 7, 3) := by decide +kernel
theorem V.dX4_sum_287 : decode cX4_sum 287 = .ok (.lconst 0, 1) := by decide +kernel
theorem V.dX4_sum_288 : decode cX4_sum 288 = .ok (.goto 25, 3) := by decide +kernel
theorem V.dX4_sum_291 : decode cX4_sum 291 = .ok (.aload_n 0, 1) := by decide +kernel
theorem V.dX4_sum_292 : decode cX4_sum 292 = .ok (.aload_n 0, 1) := by decide +kernel
theorem V.dX4_sum_293 : decode cX4_sum 293 = .ok (.lload 6, 2) := by decide +kernel
theorem V.dX4_sum_295 : decode cX4_sum 295 = .ok (.invokevirtual 99, 3) := by decide +kernel
theorem V.dX4_sum_298 : decode cX4_sum 298 = .ok (.lload 17, 2) := by decide +kernel
theorem V.dX4_sum_300 : decode cX4_sum 300 = .ok (.aload_n 0, 1) := by decide +kernel
theorem V.dX4_sum_301 : decode cX4_sum 301 = .ok (.lload 6, 2) := by decide +kernel
theorem V.dX4_sum_303 : decode cX4_sum 303 = .ok (.invokevirtual 143, 3) := by decide +kernel
theorem V.dX4_sum_306 : decode cX4_sum 306 = .ok (.bipush 9, 2) := by decide +kernel
theorem V.dX4_sum_308 : decode cX4_sum 308 = .ok (.isub, 1) := by decide +kernel
theorem V.dX4_sum_309 : decode cX4_sum 309 = .ok (.iconst 0, 1) := by decide +kernel
theorem V.dX4_sum_310 : decode cX4_sum 310 = .ok (.invokevirtual 153, 3) := by decide +kernel
theorem V.dX4_sum_313 : decode cX4_sum 313 = .ok (.lreturn, 1) := by decide +kernel
/-! ModuleEngine$Numbers.sum(LModuleEngine$Numbers$Format;JJ)J -/
def V.Num_sum_p43  (σ : HS) (x0 : Nat) (x1 : Int64) (x3 : Int64) : Option (Int64 × HS) :=
  ck (tg σ x0 = 6) <| cl (Fmt_isInfinite σ x0 x1) fun r2 σ1 =>
  if r2 = 0 then (
    some (x3, σ1))
  else (
    some (x1, σ1))
theorem V.gX4_sum_p43 {X : CX}  (σ : HS) (x0 : Nat) (x1 : Int64) (x3 : Int64) : G X RX4 "sum" cX4_sum 19 (some .long) 4 86 enJ 43 [(0, av x0), (1, jv x1), (3, jv x3)] [] σ (Num_sum_p43 σ x0 x1 x3) := by
  unfold Num_sum_p43
  refine g_aload_n 0 0 dX4_sum_43 rfl rfl ?_
  refine g_lload_n 1 1 dX4_sum_44 rfl rfl ?_
  refine g_callV (fc := fun sς => Fmt_isInfinite sς x0 x1) (ci := 5) (as := [jv x1]) rfl rfl rfl q2601 q2602 mdX4_147 (ctX5_isInfinite x0 x1) rfl (Nat.le_of_ble_eq_true rfl) (Nat.le_of_ble_eq_true rfl) (Nat.le_of_ble_eq_true rfl) pu_I dX4_sum_45 (fun r2 σ1 => ?_)
  refine g_if_eq 55 dX4_sum_48 (by decide) ?_ ?_
  · refine g_lload_n 3 2 dX4_sum_55 rfl rfl ?_
    exact g_lreturn rfl dX4_sum_56
  · refine g_lload_n 1 1 dX4_sum_51 rfl rfl ?_
    refine g_goto 56 dX4_sum_52 (by decide) ?_
    exact g_lreturn rfl dX4_sum_56
def V.Num_sum_p16  (σ : HS) (x0 : Nat) (x1 : Int64) (x3 : Int64) : Option (Int64 × HS) :=
  ck (tg σ x0 = 6) <| cl (Fmt_isInfinite σ x0 x1) fun r2 σ1 =>
  if r2 = 0 then (
    Num_sum_p43 σ1 x0 x1 x3)
  else (
    ck (tg σ1 x0 = 6) <| cl (Fmt_isInfinite σ1 x0 x3) fun r4 σ3 =>
    if r4 = 0 then (
      Num_sum_p43 σ3 x0 x1 x3)
    else (
      if x1 = x3 then (
        Num_sum_p43 σ3 x0 x1 x3)
      else (
        ck (tg σ3 x0 = 6) <|
        some (gJ σ3 x0 4, σ3))))
theorem V.gX4_sum_p16 {X : CX}  (σ : HS) (x0 : Nat) (x1 : Int64) (x3 : Int64) : G X RX4 "sum" cX4_sum 19 (some .long) 4 86 enJ 16 [(0, av x0), (1, jv x1), (3, jv x3)] [] σ (Num_sum_p16 σ x0 x1 x3) := by
  unfold Num_sum_p16
  refine g_aload_n 0 0 dX4_sum_16 rfl rfl ?_
  refine g_lload_n 1 1 dX4_sum_17 rfl rfl ?_
  refine g_callV (fc := fun sς => Fmt_isInfinite sς x0 x1) (ci := 5) (as := [jv x1]) rfl rfl rfl q2601 q2602 mdX4_147 (ctX5_isInfinite x0 x1) rfl (Nat.le_of_ble_eq_true rfl) (Nat.le_of_ble_eq_true rfl) (Nat.le_of_ble_eq_true rfl) pu_I dX4_sum_18 (fun r2 σ1 => ?_)
  refine g_if_eq 43 dX4_sum_21 (by decide) ?_ ?_
  · exact gX4_sum_p43 _ _ _ _
  · refine g_aload_n 0 0 dX4_sum_24 rfl rfl ?_
    refine g_lload_n 3 2 dX4_sum_25 rfl rfl ?_
    refine g_callV (fc := fun sς => Fmt_isInfinite sς x0 x3) (ci := 5) (as := [jv x3]) rfl rfl rfl q2601 q2602 mdX4_147 (ctX5_isInfinite x0 x3) rfl (Nat.le_of_ble_eq_true rfl) (Nat.le_of_ble_eq_true rfl) (Nat.le_of_ble_eq_true rfl) pu_I dX4_sum_26 (fun r4 σ3 => ?_)
    refine g_if_eq 43 dX4_sum_29 (by decide) ?_ ?_
    · exact gX4_sum_p43 _ _ _ _
    · refine g_lload_n 1 1 dX4_sum_32 rfl rfl ?_
      refine g_lload_n 3 2 dX4_sum_33 rfl rfl ?_
      refine g_lcmp_eq 43 dX4_sum_34 dX4_sum_35 (by decide) ?_ ?_
      · exact gX4_sum_p43 _ _ _ _
      · refine g_aload_n 0 0 dX4_sum_38 rfl rfl ?_
        refine g_getJ fdX4_114 dX4_sum_39 ?_
        exact g_lreturn rfl dX4_sum_42
def V.Num_sum_p116  (σ : HS) (x0 : Nat) (x1 : Int64) (x3 : Int64) : Option (Int64 × HS) :=
  ck (tg σ x0 = 6) <| cl (Fmt_isZero σ x0 x1) fun r2 σ1 =>
  if r2 = 0 then (
    some (x1, σ1))
  else (
    some (x3, σ1))
theorem V.gX4_sum_p116 {X : CX}  (σ : HS) (x0 : Nat) (x1 : Int64) (x3 : Int64) : G X RX4 "sum" cX4_sum 19 (some .long) 4 86 enJ 116 [(0, av x0), (1, jv x1), (3, jv x3)] [] σ (Num_sum_p116 σ x0 x1 x3) := by
  unfold Num_sum_p116
  refine g_aload_n 0 0 dX4_sum_116 rfl rfl ?_
  refine g_lload_n 1 1 dX4_sum_117 rfl rfl ?_
  refine g_callV (fc := fun sς => Fmt_isZero sς x0 x1) (ci := 5) (as := [jv x1]) rfl rfl rfl q2605 q2606 mdX4_140 (ctX5_isZero x0 x1) rfl (Nat.le_of_ble_eq_true rfl) (Nat.le_of_ble_eq_true rfl) (Nat.le_of_ble_eq_true rfl) pu_I dX4_sum_118 (fun r2 σ1 => ?_)
  refine g_if_eq 128 dX4_sum_121 (by decide) ?_ ?_
  · refine g_lload_n 1 1 dX4_sum_128 rfl rfl ?_
    exact g_lreturn rfl dX4_sum_129
  · refine g_lload_n 3 2 dX4_sum_124 rfl rfl ?_
    refine g_goto 129 dX4_sum_125 (by decide) ?_
    exact g_lreturn rfl dX4_sum_129
def V.Num_sum_p278  (σ : HS) (x0 : Nat) (x6 : Int64) (s0 : Int64) : Option (Int64 × HS) :=
  if s0 = (0 : Int64) then (
    some ((0 : Int64), σ))
  else (
    ck (tg σ x0 = 6) <| cl (Fmt_sign σ x0 x6) fun r2 σ1 =>
    ck (tg σ1 x0 = 6) <| cl (Fmt_scale σ1 x0 x6) fun r4 σ3 =>
    ck (tg σ3 x0 = 6) <| cl (Fmt_round σ3 x0 r2 s0 (r4 - (9 : Int32)) (0 : Int32)) fun r6 σ5 =>
    some (r6, σ5))
theorem V.gX4_sum_p278 {X : CX}  (σ : HS) (x0 : Nat) (x6 : Int64) (s0 : Int64) : G X RX4 "sum" cX4_sum 19 (some .long) 4 86 enJ 278 [(0, av x0), (6, jv x6)] [jv s0] σ (Num_sum_p278 σ x0 x6 s0) := by
  unfold Num_sum_p278
  refine g_lstore dX4_sum_278 (by decide) rfl ?_
  refine g_lload 0 dX4_sum_280 rfl ?_
  refine g_lconst (v := 0) dX4_sum_282 (by decide) ?_
  refine g_lcmp_ne 291 dX4_sum_283 dX4_sum_284 (by decide) ?_ ?_
  · refine g_aload_n 0 1 dX4_sum_291 rfl rfl ?_
    refine g_aload_n 0 1 dX4_sum_292 rfl rfl ?_
    refine g_lload 2 dX4_sum_293 rfl ?_
    refine g_callV (fc := fun sς => Fmt_sign sς x0 x6) (ci := 5) (as := [jv x6]) rfl rfl rfl q2548 q2549 mdX4_99 (ctX5_sign x0 x6) rfl (Nat.le_of_ble_eq_true rfl) (Nat.le_of_ble_eq_true rfl) (Nat.le_of_ble_eq_true rfl) pu_I dX4_sum_295 (fun r2 σ1 => ?_)
    refine g_lload 0 dX4_sum_298 rfl ?_
    refine g_aload_n 0 1 dX4_sum_300 rfl rfl ?_
    refine g_lload 2 dX4_sum_301 rfl ?_
    refine g_callV (fc := fun sς => Fmt_scale sς x0 x6) (ci := 5) (as := [jv x6]) rfl rfl rfl q2593 q2594 mdX4_143 (ctX5_scale x0 x6) rfl (Nat.le_of_ble_eq_true rfl) (Nat.le_of_ble_eq_true rfl) (Nat.le_of_ble_eq_true rfl) pu_I dX4_sum_303 (fun r4 σ3 => ?_)
    refine g_bipush (v := 9) dX4_sum_306 (by decide) ?_
    refine g_isub dX4_sum_308 ?_
    refine g_iconst (v := 0) dX4_sum_309 (by decide) ?_
    refine g_callV (fc := fun sς => Fmt_round sς x0 r2 s0 (r4 - (9 : Int32)) (0 : Int32)) (ci := 5) (as := [iv r2, jv s0, iv (r4 - (9 : Int32)), iv (0 : Int32)]) rfl rfl rfl q2617 q2618 mdX4_153 (ctX5_round x0 r2 s0 (r4 - (9 : Int32)) (0 : Int32)) rfl (Nat.le_of_ble_eq_true rfl) (Nat.le_of_ble_eq_true rfl) (Nat.le_of_ble_eq_true rfl) pu_J dX4_sum_310 (fun r6 σ5 => ?_)
    exact g_lreturn rfl dX4_sum_313
  · refine g_lconst (v := 0) dX4_sum_287 (by decide) ?_
    refine g_goto 313 dX4_sum_288 (by decide) ?_
    exact g_lreturn rfl dX4_sum_313
def V.Num_sum_p248  (σ : HS) (x0 : Nat) (x6 : Int64) (x8 : Int64) (x11 : Int64) (s0 : Int64) : Option (Int64 × HS) :=
  ck (tg σ x0 = 6) <| cl (Fmt_sign σ x0 x6) fun r2 σ1 =>
  ck (tg σ1 x0 = 6) <| cl (Fmt_sign σ1 x0 x8) fun r4 σ3 =>
  if r2 = r4 then (
    Num_sum_p278 σ3 x0 x6 (x11 + s0))
  else (
    Num_sum_p278 σ3 x0 x6 (x11 - s0))
theorem V.gX4_sum_p248 {X : CX}  (σ : HS) (x0 : Nat) (x6 : Int64) (x8 : Int64) (x11 : Int64) (s0 : Int64) : G X RX4 "sum" cX4_sum 19 (some .long) 4 86 enJ 248 [(0, av x0), (6, jv x6), (8, jv x8), (11, jv x11)] [jv s0] σ (Num_sum_p248 σ x0 x6 x8 x11 s0) := by
  unfold Num_sum_p248
  refine g_lstore dX4_sum_248 (by decide) rfl ?_
  refine g_aload_n 0 1 dX4_sum_250 rfl rfl ?_
  refine g_lload 2 dX4_sum_251 rfl ?_
  refine g_callV (fc := fun sς => Fmt_sign sς x0 x6) (ci := 5) (as := [jv x6]) rfl rfl rfl q2548 q2549 mdX4_99 (ctX5_sign x0 x6) rfl (Nat.le_of_ble_eq_true rfl) (Nat.le_of_ble_eq_true rfl) (Nat.le_of_ble_eq_true rfl) pu_I dX4_sum_253 (fun r2 σ1 => ?_)
  refine g_aload_n 0 1 dX4_sum_256 rfl rfl ?_
  refine g_lload 3 dX4_sum_257 rfl ?_
  refine g_callV (fc := fun sς => Fmt_sign sς x0 x8) (ci := 5) (as := [jv x8]) rfl rfl rfl q2548 q2549 mdX4_99 (ctX5_sign x0 x8) rfl (Nat.le_of_ble_eq_true rfl) (Nat.le_of_ble_eq_true rfl) (Nat.le_of_ble_eq_true rfl) pu_I dX4_sum_259 (fun r4 σ3 => ?_)
  refine g_icmp_ne 273 dX4_sum_262 (by decide) ?_ ?_
  · refine g_lload 4 dX4_sum_273 rfl ?_
    refine g_lload 0 dX4_sum_275 rfl ?_
    refine g_lsub dX4_sum_277 ?_
    refine G.sub [1, 2] rfl ?_
    exact gX4_sum_p278 _ _ _ _
  · refine g_lload 4 dX4_sum_265 rfl ?_
    refine g_lload 0 dX4_sum_267 rfl ?_
    refine g_ladd dX4_sum_269 ?_
    refine g_goto 278 dX4_sum_270 (by decide) ?_
    refine G.sub [1, 2] rfl ?_
    exact gX4_sum_p278 _ _ _ _
def V.Num_sum_p247  (σ : HS) (x0 : Nat) (x6 : Int64) (x8 : Int64) (x11 : Int64) (s0 : Int64) (s1 : Int64) : Option (Int64 × HS) :=
  Num_sum_p248 σ x0 x6 x8 x11 (s1 ||| s0)
theorem V.gX4_sum_p247 {X : CX}  (σ : HS) (x0 : Nat) (x6 : Int64) (x8 : Int64) (x11 : Int64) (s0 : Int64) (s1 : Int64) : G X RX4 "sum" cX4_sum 19 (some .long) 4 86 enJ 247 [(0, av x0), (6, jv x6), (8, jv x8), (11, jv x11)] [jv s0, jv s1] σ (Num_sum_p247 σ x0 x6 x8 x11 s0 s1) := by
  unfold Num_sum_p247
  refine g_lor dX4_sum_247 ?_
  exact gX4_sum_p248 _ _ _ _ _ _
def V.Num_sum_p173  (σ : HS) (x0 : Nat) (x6 : Int64) (s0 : Int64) : Option (Int64 × HS) :=
  ck (tg σ x0 = 6) <| cl (Fmt_scale σ x0 x6) fun r2 σ1 =>
  ck (tg σ1 x0 = 6) <| cl (Fmt_scale σ1 x0 s0) fun r4 σ3 =>
  bn (r2 - r4) fun y5 =>
  ck (tg σ3 x0 = 6) <| cl (Fmt_significand σ3 x0 x6) fun r7 σ6 =>
  bn (lshl r7 (9 : Int32)) fun y8 =>
  ck (tg σ6 x0 = 6) <| cl (Fmt_significand σ6 x0 s0) fun r10 σ9 =>
  bn (lshl r10 (9 : Int32)) fun y11 =>
  if y5 ≤ (62 : Int32) then (
    if (y11 &&& ((lshl (1 : Int64) y5) - (1 : Int64))) = (0 : Int64) then (
      Num_sum_p247 σ9 x0 x6 s0 y8 (0 : Int64) (lshr y11 y5))
    else (
      Num_sum_p247 σ9 x0 x6 s0 y8 (1 : Int64) (lshr y11 y5)))
  else (
    Num_sum_p248 σ9 x0 x6 s0 y8 (1 : Int64))
theorem V.gX4_sum_p173 {X : CX}  (σ : HS) (x0 : Nat) (x6 : Int64) (s0 : Int64) : G X RX4 "sum" cX4_sum 19 (some .long) 4 86 enJ 173 [(0, av x0), (6, jv x6)] [jv s0] σ (Num_sum_p173 σ x0 x6 s0) := by
  unfold Num_sum_p173
  refine g_lstore dX4_sum_173 (by decide) rfl ?_
  refine g_aload_n 0 1 dX4_sum_175 rfl rfl ?_
  refine g_lload 2 dX4_sum_176 rfl ?_
  refine g_callV (fc := fun sς => Fmt_scale sς x0 x6) (ci := 5) (as := [jv x6]) rfl rfl rfl q2593 q2594 mdX4_143 (ctX5_scale x0 x6) rfl (Nat.le_of_ble_eq_true rfl) (Nat.le_of_ble_eq_true rfl) (Nat.le_of_ble_eq_true rfl) pu_I dX4_sum_178 (fun r2 σ1 => ?_)
  refine g_aload_n 0 1 dX4_sum_181 rfl rfl ?_
  refine g_lload 0 dX4_sum_182 rfl ?_
  refine g_callV (fc := fun sς => Fmt_scale sς x0 s0) (ci := 5) (as := [jv s0]) rfl rfl rfl q2593 q2594 mdX4_143 (ctX5_scale x0 s0) rfl (Nat.le_of_ble_eq_true rfl) (Nat.le_of_ble_eq_true rfl) (Nat.le_of_ble_eq_true rfl) pu_I dX4_sum_184 (fun r4 σ3 => ?_)
  refine g_isub dX4_sum_187 ?_
  refine g_nmI (fun y5 => ?_)
  refine g_istore dX4_sum_188 (by decide) rfl ?_
  refine g_aload_n 0 2 dX4_sum_190 rfl rfl ?_
  refine g_lload 3 dX4_sum_191 rfl ?_
  refine g_callV (fc := fun sς => Fmt_significand sς x0 x6) (ci := 5) (as := [jv x6]) rfl rfl rfl q2609 q2610 mdX4_150 (ctX5_significand x0 x6) rfl (Nat.le_of_ble_eq_true rfl) (Nat.le_of_ble_eq_true rfl) (Nat.le_of_ble_eq_true rfl) pu_J dX4_sum_193 (fun r7 σ6 => ?_)
  refine g_bipush (v := 9) dX4_sum_196 (by decide) ?_
  refine g_lshl dX4_sum_198 ?_
  refine g_nmJ (fun y8 => ?_)
  refine g_lstore dX4_sum_199 (by decide) rfl ?_
  refine g_aload_n 0 3 dX4_sum_201 rfl rfl ?_
  refine g_lload 2 dX4_sum_202 rfl ?_
  refine g_callV (fc := fun sς => Fmt_significand sς x0 s0) (ci := 5) (as := [jv s0]) rfl rfl rfl q2609 q2610 mdX4_150 (ctX5_significand x0 s0) rfl (Nat.le_of_ble_eq_true rfl) (Nat.le_of_ble_eq_true rfl) (Nat.le_of_ble_eq_true rfl) pu_J dX4_sum_204 (fun r10 σ9 => ?_)
  refine g_bipush (v := 9) dX4_sum_207 (by decide) ?_
  refine g_lshl dX4_sum_209 ?_
  refine g_nmJ (fun y11 => ?_)
  refine g_lstore dX4_sum_210 (by decide) rfl ?_
  refine g_iload 2 dX4_sum_212 rfl ?_
  refine g_bipush (v := 62) dX4_sum_214 (by decide) ?_
  refine g_icmp_le 223 dX4_sum_216 (by decide) ?_ ?_
  · refine g_lload 0 dX4_sum_223 rfl ?_
    refine g_iload 2 dX4_sum_225 rfl ?_
    refine g_lshr dX4_sum_227 ?_
    refine g_lload 0 dX4_sum_228 rfl ?_
    refine g_lconst (v := 1) dX4_sum_230 (by decide) ?_
    refine g_iload 2 dX4_sum_231 rfl ?_
    refine g_lshl dX4_sum_233 ?_
    refine g_lconst (v := 1) dX4_sum_234 (by decide) ?_
    refine g_lsub dX4_sum_235 ?_
    refine g_land dX4_sum_236 ?_
    refine g_lconst (v := 0) dX4_sum_237 (by decide) ?_
    refine g_lcmp_eq 246 dX4_sum_238 dX4_sum_239 (by decide) ?_ ?_
    · refine g_lconst (v := 0) dX4_sum_246 (by decide) ?_
      refine G.sub [4, 5, 3, 1] rfl ?_
      exact gX4_sum_p247 _ _ _ _ _ _ _
    · refine g_lconst (v := 1) dX4_sum_242 (by decide) ?_
      refine g_goto 247 dX4_sum_243 (by decide) ?_
      refine G.sub [4, 5, 3, 1] rfl ?_
      exact gX4_sum_p247 _ _ _ _ _ _ _
  · refine g_lconst (v := 1) dX4_sum_219 (by decide) ?_
    refine g_goto 248 dX4_sum_220 (by decide) ?_
    refine G.sub [4, 5, 3, 1] rfl ?_
    exact gX4_sum_p248 _ _ _ _ _ _
def V.Num_sum_p161  (σ : HS) (x0 : Nat) (x1 : Int64) (x3 : Int64) (x5 : Int32) (s0 : Int64) : Option (Int64 × HS) :=
  if x5 = 0 then (
    Num_sum_p173 σ x0 s0 x3)
  else (
    Num_sum_p173 σ x0 s0 x1)
theorem V.gX4_sum_p161 {X : CX}  (σ : HS) (x0 : Nat) (x1 : Int64) (x3 : Int64) (x5 : Int32) (s0 : Int64) : G X RX4 "sum" cX4_sum 19 (some .long) 4 86 enJ 161 [(0, av x0), (1, jv x1), (3, jv x3), (5, iv x5)] [jv s0] σ (Num_sum_p161 σ x0 x1 x3 x5 s0) := by
  unfold Num_sum_p161
  refine g_lstore dX4_sum_161 (by decide) rfl ?_
  refine g_iload 4 dX4_sum_163 rfl ?_
  refine g_if_eq 172 dX4_sum_165 (by decide) ?_ ?_
  · refine g_lload_n 3 3 dX4_sum_172 rfl rfl ?_
    refine G.sub [1, 0] rfl ?_
    exact gX4_sum_p173 _ _ _ _
  · refine g_lload_n 1 2 dX4_sum_168 rfl rfl ?_
    refine g_goto 173 dX4_sum_169 (by decide) ?_
    refine G.sub [1, 0] rfl ?_
    exact gX4_sum_p173 _ _ _ _
def V.Num_sum_p149  (σ : HS) (x0 : Nat) (x1 : Int64) (x3 : Int64) (s0 : Int32) : Option (Int64 × HS) :=
  if s0 = 0 then (
    Num_sum_p161 σ x0 x1 x3 s0 x1)
  else (
    Num_sum_p161 σ x0 x1 x3 s0 x3)
theorem V.gX4_sum_p149 {X : CX}  (σ : HS) (x0 : Nat) (x1 : Int64) (x3 : Int64) (s0 : Int32) : G X RX4 "sum" cX4_sum 19 (some .long) 4 86 enJ 149 [(0, av x0), (1, jv x1), (3, jv x3)] [iv s0] σ (Num_sum_p149 σ x0 x1 x3 s0) := by
  unfold Num_sum_p149
  refine g_istore dX4_sum_149 (by decide) rfl ?_
  refine g_iload 0 dX4_sum_151 rfl ?_
  refine g_if_eq 160 dX4_sum_153 (by decide) ?_ ?_
  · refine g_lload_n 1 2 dX4_sum_160 rfl rfl ?_
    refine G.sub [1, 2, 3, 0] rfl ?_
    exact gX4_sum_p161 _ _ _ _ _ _
  · refine g_lload_n 3 3 dX4_sum_156 rfl rfl ?_
    refine g_goto 161 dX4_sum_157 (by decide) ?_
    refine G.sub [1, 2, 3, 0] rfl ?_
    exact gX4_sum_p161 _ _ _ _ _ _
def V.Num_sum_p100  (σ : HS) (x0 : Nat) (x1 : Int64) (x3 : Int64) : Option (Int64 × HS) :=
  ck (tg σ x0 = 6) <| cl (Fmt_isZero σ x0 x1) fun r2 σ1 =>
  if r2 = 0 then (
    ck (tg σ1 x0 = 6) <| cl (Fmt_isZero σ1 x0 x3) fun r4 σ3 =>
    if r4 = 0 then (
      ck (tg σ3 x0 = 6) <| cl (Fmt_rest σ3 x0 x1) fun r6 σ5 =>
      ck (tg σ5 x0 = 6) <| cl (Fmt_rest σ5 x0 x3) fun r8 σ7 =>
      if r8 ≤ r6 then (
        Num_sum_p149 σ7 x0 x1 x3 (0 : Int32))
      else (
        Num_sum_p149 σ7 x0 x1 x3 (1 : Int32)))
    else (
      Num_sum_p116 σ3 x0 x1 x3))
  else (
    Num_sum_p116 σ1 x0 x1 x3)
theorem V.gX4_sum_p100 {X : CX}  (σ : HS) (x0 : Nat) (x1 : Int64) (x3 : Int64) : G X RX4 "sum" cX4_sum 19 (some .long) 4 86 enJ 100 [(0, av x0), (1, jv x1), (3, jv x3)] [] σ (Num_sum_p100 σ x0 x1 x3) := by
  unfold Num_sum_p100
  refine g_aload_n 0 0 dX4_sum_100 rfl rfl ?_
  refine g_lload_n 1 1 dX4_sum_101 rfl rfl ?_
  refine g_callV (fc := fun sς => Fmt_isZero sς x0 x1) (ci := 5) (as := [jv x1]) rfl rfl rfl q2605 q2606 mdX4_140 (ctX5_isZero x0 x1) rfl (Nat.le_of_ble_eq_true rfl) (Nat.le_of_ble_eq_true rfl) (Nat.le_of_ble_eq_true rfl) pu_I dX4_sum_102 (fun r2 σ1 => ?_)
  refine g_if_ne 116 dX4_sum_105 (by decide) ?_ ?_
  · exact gX4_sum_p116 _ _ _ _
  · refine g_aload_n 0 0 dX4_sum_108 rfl rfl ?_
    refine g_lload_n 3 2 dX4_sum_109 rfl rfl ?_
    refine g_callV (fc := fun sς => Fmt_isZero sς x0 x3) (ci := 5) (as := [jv x3]) rfl rfl rfl q2605 q2606 mdX4_140 (ctX5_isZero x0 x3) rfl (Nat.le_of_ble_eq_true rfl) (Nat.le_of_ble_eq_true rfl) (Nat.le_of_ble_eq_true rfl) pu_I dX4_sum_110 (fun r4 σ3 => ?_)
    refine g_if_eq 130 dX4_sum_113 (by decide) ?_ ?_
    · refine g_aload_n 0 0 dX4_sum_130 rfl rfl ?_
      refine g_lload_n 1 1 dX4_sum_131 rfl rfl ?_
      refine g_callV (fc := fun sς => Fmt_rest sς x0 x1) (ci := 5) (as := [jv x1]) rfl rfl rfl q2540 q2541 mdX4_102 (ctX5_rest x0 x1) rfl (Nat.le_of_ble_eq_true rfl) (Nat.le_of_ble_eq_true rfl) (Nat.le_of_ble_eq_true rfl) pu_J dX4_sum_132 (fun r6 σ5 => ?_)
      refine g_aload_n 0 0 dX4_sum_135 rfl rfl ?_
      refine g_lload_n 3 2 dX4_sum_136 rfl rfl ?_
      refine g_callV (fc := fun sς => Fmt_rest sς x0 x3) (ci := 5) (as := [jv x3]) rfl rfl rfl q2540 q2541 mdX4_102 (ctX5_rest x0 x3) rfl (Nat.le_of_ble_eq_true rfl) (Nat.le_of_ble_eq_true rfl) (Nat.le_of_ble_eq_true rfl) pu_J dX4_sum_137 (fun r8 σ7 => ?_)
      refine g_lcmp_ge 148 dX4_sum_140 dX4_sum_141 (by decide) ?_ ?_
      · refine g_iconst (v := 0) dX4_sum_148 (by decide) ?_
        exact gX4_sum_p149 _ _ _ _ _
      · refine g_iconst (v := 1) dX4_sum_144 (by decide) ?_
        refine g_goto 149 dX4_sum_145 (by decide) ?_
        exact gX4_sum_p149 _ _ _ _ _
    · exact gX4_sum_p116 _ _ _ _
def V.Num_sum_p95  (σ : HS) (s0 : Int32) (s1 : Nat) : Option (Int64 × HS) :=
  ck (tg σ s1 = 6) <| cl (Fmt_signed σ s1 s0 (0 : Int64)) fun r2 σ1 =>
  some (r2, σ1)
theorem V.gX4_sum_p95 {X : CX}  (σ : HS) (s0 : Int32) (s1 : Nat) : G X RX4 "sum" cX4_sum 19 (some .long) 4 86 enJ 95 [] [iv s0, av s1] σ (Num_sum_p95 σ s0 s1) := by
  unfold Num_sum_p95
  refine g_lconst (v := 0) dX4_sum_95 (by decide) ?_
  refine g_callV (fc := fun sς => Fmt_signed sς s1 s0 (0 : Int64)) (ci := 5) (as := [iv s0, jv (0 : Int64)]) rfl rfl rfl q2586 q2587 mdX4_110 (ctX5_signed s1 s0 (0 : Int64)) rfl (Nat.le_of_ble_eq_true rfl) (Nat.le_of_ble_eq_true rfl) (Nat.le_of_ble_eq_true rfl) pu_J dX4_sum_96 (fun r2 σ1 => ?_)
  exact g_lreturn rfl dX4_sum_99
def V.Num_sum_p94  (σ : HS) (s0 : Nat) : Option (Int64 × HS) :=
  Num_sum_p95 σ (0 : Int32) s0
theorem V.gX4_sum_p94 {X : CX}  (σ : HS) (s0 : Nat) : G X RX4 "sum" cX4_sum 19 (some .long) 4 86 enJ 94 [] [av s0] σ (Num_sum_p94 σ s0) := by
  unfold Num_sum_p94
  refine g_iconst (v := 0) dX4_sum_94 (by decide) ?_
  exact gX4_sum_p95 _ _ _
def V.Num_sum (σ : HS) (x0 : Nat) (x1 : Int64) (x3 : Int64) : Option (Int64 × HS) :=
  ck (tg σ x0 = 6) <| cl (Fmt_isInfinite σ x0 x1) fun r2 σ1 =>
  if r2 = 0 then (
    ck (tg σ1 x0 = 6) <| cl (Fmt_isInfinite σ1 x0 x3) fun r4 σ3 =>
    if r4 = 0 then (
      ck (tg σ3 x0 = 6) <| cl (Fmt_isZero σ3 x0 x1) fun r6 σ5 =>
      if r6 = 0 then (
        Num_sum_p100 σ5 x0 x1 x3)
      else (
        ck (tg σ5 x0 = 6) <| cl (Fmt_isZero σ5 x0 x3) fun r8 σ7 =>
        if r8 = 0 then (
          Num_sum_p100 σ7 x0 x1 x3)
        else (
          ck (tg σ7 x0 = 6) <| cl (Fmt_sign σ7 x0 x1) fun r10 σ9 =>
          if r10 = 0 then (
            Num_sum_p94 σ9 x0)
          else (
            ck (tg σ9 x0 = 6) <| cl (Fmt_sign σ9 x0 x3) fun r12 σ11 =>
            if r12 = 0 then (
              Num_sum_p94 σ11 x0)
            else (
              Num_sum_p95 σ11 (1 : Int32) x0)))))
    else (
      Num_sum_p16 σ3 x0 x1 x3))
  else (
    Num_sum_p16 σ1 x0 x1 x3)
theorem V.ctX4_sum (x0 : Nat) (x1 : Int64) (x3 : Int64) : Ct yX4_sum  cX4_sum 19 (some .long) 4 86 eJ [av x0, jv x1, jv x3] (fun σ => Num_sum σ x0 x1 x3) := by
  refine Ct.of (own := RX4) (nm := "sum") (desc := "(LModuleEngine$Numbers$Format;JJ)J") rfl (by decide) (Nat.le_of_ble_eq_true rfl) (by decide) (fun X σ => ?_)
  show G X RX4 "sum" cX4_sum 19 (some .long) 4 86 enJ 0 [(0, av x0), (1, jv x1), (3, jv x3)] [] σ (Num_sum σ x0 x1 x3)
  unfold Num_sum
  refine g_aload_n 0 0 dX4_sum_0 rfl rfl ?_
  refine g_lload_n 1 1 dX4_sum_1 rfl rfl ?_
  refine g_callV (fc := fun sς => Fmt_isInfinite sς x0 x1) (ci := 5) (as := [jv x1]) rfl rfl rfl q2601 q2602 mdX4_147 (ctX5_isInfinite x0 x1) rfl (Nat.le_of_ble_eq_true rfl) (Nat.le_of_ble_eq_true rfl) (Nat.le_of_ble_eq_true rfl) pu_I dX4_sum_2 (fun r2 σ1 => ?_)
  refine g_if_ne 16 dX4_sum_5 (by decide) ?_ ?_
  · exact gX4_sum_p16 _ _ _ _
  · refine g_aload_n 0 0 dX4_sum_8 rfl rfl ?_
    refine g_lload_n 3 2 dX4_sum_9 rfl rfl ?_
    refine g_callV (fc := fun sς => Fmt_isInfinite sς x0 x3) (ci := 5) (as := [jv x3]) rfl rfl rfl q2601 q2602 mdX4_147 (ctX5_isInfinite x0 x3) rfl (Nat.le_of_ble_eq_true rfl) (Nat.le_of_ble_eq_true rfl) (Nat.le_of_ble_eq_true rfl) pu_I dX4_sum_10 (fun r4 σ3 => ?_)
    refine g_if_eq 57 dX4_sum_13 (by decide) ?_ ?_
    · refine g_aload_n 0 0 dX4_sum_57 rfl rfl ?_
      refine g_lload_n 1 1 dX4_sum_58 rfl rfl ?_
      refine g_callV (fc := fun sς => Fmt_isZero sς x0 x1) (ci := 5) (as := [jv x1]) rfl rfl rfl q2605 q2606 mdX4_140 (ctX5_isZero x0 x1) rfl (Nat.le_of_ble_eq_true rfl) (Nat.le_of_ble_eq_true rfl) (Nat.le_of_ble_eq_true rfl) pu_I dX4_sum_59 (fun r6 σ5 => ?_)
      refine g_if_eq 100 dX4_sum_62 (by decide) ?_ ?_
      · exact gX4_sum_p100 _ _ _ _
      · refine g_aload_n 0 0 dX4_sum_65 rfl rfl ?_
        refine g_lload_n 3 2 dX4_sum_66 rfl rfl ?_
        refine g_callV (fc := fun sς => Fmt_isZero sς x0 x3) (ci := 5) (as := [jv x3]) rfl rfl rfl q2605 q2606 mdX4_140 (ctX5_isZero x0 x3) rfl (Nat.le_of_ble_eq_true rfl) (Nat.le_of_ble_eq_true rfl) (Nat.le_of_ble_eq_true rfl) pu_I dX4_sum_67 (fun r8 σ7 => ?_)
        refine g_if_eq 100 dX4_sum_70 (by decide) ?_ ?_
        · exact gX4_sum_p100 _ _ _ _
        · refine g_aload_n 0 0 dX4_sum_73 rfl rfl ?_
          refine g_aload_n 0 0 dX4_sum_74 rfl rfl ?_
          refine g_lload_n 1 1 dX4_sum_75 rfl rfl ?_
          refine g_callV (fc := fun sς => Fmt_sign sς x0 x1) (ci := 5) (as := [jv x1]) rfl rfl rfl q2548 q2549 mdX4_99 (ctX5_sign x0 x1) rfl (Nat.le_of_ble_eq_true rfl) (Nat.le_of_ble_eq_true rfl) (Nat.le_of_ble_eq_true rfl) pu_I dX4_sum_76 (fun r10 σ9 => ?_)
          refine g_if_eq 94 dX4_sum_79 (by decide) ?_ ?_
          · refine G.sub [] rfl ?_
            exact gX4_sum_p94 _ _
          · refine g_aload_n 0 0 dX4_sum_82 rfl rfl ?_
            refine g_lload_n 3 2 dX4_sum_83 rfl rfl ?_
            refine g_callV (fc := fun sς => Fmt_sign sς x0 x3) (ci := 5) (as := [jv x3]) rfl rfl rfl q2548 q2549 mdX4_99 (ctX5_sign x0 x3) rfl (Nat.le_of_ble_eq_true rfl) (Nat.le_of_ble_eq_true rfl) (Nat.le_of_ble_eq_true rfl) pu_I dX4_sum_84 (fun r12 σ11 => ?_)
            refine g_if_eq 94 dX4_sum_87 (by decide) ?_ ?_
            · refine G.sub [] rfl ?_
              exact gX4_sum_p94 _ _
            · refine g_iconst (v := 1) dX4_sum_90 (by decide) ?_
              refine g_goto 95 dX4_sum_91 (by decide) ?_
              refine G.sub [] rfl ?_
              exact gX4_sum_p95 _ _ _
    · exact gX4_sum_p16 _ _ _ _
theorem V.dX4_product_0 : decode cX4_product 0 = .ok (.aload_n 0, 1) := by decide +kernel
theorem V.dX4_product_1 : decode cX4_product 1 = .ok (.lload_n 1, 1) := by decide +kernel
theorem V.dX4_product_2 : decode cX4_product 2 = .ok (.invokevirtual 99, 3) := by decide +kernel
theorem V.dX4_product_5 : decode cX4_product 5 = .ok (.aload_n 0, 1) := by decide +kernel
theorem V.dX4_product_6 : decode cX4_product 6 = .ok (.lload_n 3, 1) := by decide +kernel
theorem V.dX4_product_7 : decode cX4_product 7 = .ok (.invokevirtual 99, 3) := by decide +kernel
theorem V.dX4_product_10 : decode cX4_product 10 = .ok (.if_icmp .eq 7, 3) := by decide +kernel
theorem V.dX4_product_13 : decode cX4_product 13 = .ok (.iconst 1, 1) := by decide +kernel
theorem V.dX4_product_14 : decode cX4_product 14 = .ok (.goto 4, 3) := by decide +kernel
theorem V.dX4_product_17 : decode cX4_product 17 = .ok (.iconst 0, 1) := by decide +kernel
theorem V.dX4_product_18 : decode cX4_product 18 = .ok (.istore 5, 2) := by decide +kernel
theorem V.dX4_product_20 : decode cX4_product 20 = .ok (.aload_n 0, 1) := by decide +kernel
theorem V.dX4_product_21 : decode cX4_product 21 = .ok (.lload_n 1, 1) := by decide +kernel
theorem V.dX4_product_22 : decode cX4_product 22 = .ok (.invokevirtual 147, 3) := by decide +kernel
theorem V.dX4_product_25 : decode cX4_product 25 = .ok (.ifCond .ne 11, 3) := by decide +kernel
theorem V.dX4_product_28 : decode cX4_product 28 = .ok (.aload_n 0, 1) := by decide +kernel
theorem V.dX4_product_29 : decode cX4_product 29 = .ok (.lload_n 3, 1) := by decide +kernel
theorem V.dX4_product_30 : decode cX4_product 30 = .ok (.invokevirtual 147, 3) := by decide +kernel
theorem V.dX4_product_33 : decode cX4_product 33 = .ok (.ifCond .eq 37, 3) := by decide +kernel
theorem V.dX4_product_36 : decode cX4_product 36 = .ok (.aload_n 0, 1) := by decide +kernel
theorem V.dX4_product_37 : decode cX4_product 37 = .ok (.lload_n 1, 1) := by decide +kernel
theorem V.dX4_product_38 : decode cX4_product 38 = .ok (.invokevirtual 140, 3) := by decide +kernel
theorem V.dX4_product_41 : decode cX4_product 41 = .ok (.ifCond .ne 11, 3) := by decide +kernel
theorem V.dX4_product_44 : decode cX4_product 44 = .ok (.aload_n 0, 1) := by decide +kernel
theorem V.dX4_product_45 : decode cX4_product 45 = .ok (.lload_n 3, 1) := by decide +kernel
theorem V.dX4_product_46 : decode cX4_product 46 = .ok (.invokevirtual 140, 3) := by decide +kernel
theorem V.dX4_product_49 : decode cX4_product 49 = .ok (.ifCond .eq 10, 3) := by decide +kernel
theorem V.dX4_product_52 : decode cX4_product 52 = .ok (.aload_n 0, 1) := by decide +kernel
theorem V.dX4_product_53 : decode cX4_product 53 = .ok (.getfield 114, 3) := by decide +kernel
theorem V.dX4_product_56 : decode cX4_product 56 = .ok (.goto 13, 3) := by decide +kernel
theorem V.dX4_product_59 : decode cX4_product 59 = .ok (.aload_n 0, 1) := by decide +kernel
theorem V.dX4_product_60 : decode cX4_product 60 = .ok (.iload 5, 2) := by decide +kernel
theorem V.dX4_product_62 : decode cX4_product 62 = .ok (.aload_n 0, 1) := by decide +kernel
theorem V.dX4_product_63 : decode cX4_product 63 = .ok (.getfield 159, 3) := by decide +kernel
theorem V.dX4_product_66 : decode cX4_product 66 = .ok (.invokevirtual 110, 3) := by decide +kernel
theorem V.dX4_product_69 : decode cX4_product 69 = .ok (.lreturn, 1) := by decide +kernel
theorem V.dX4_product_70 : decode cX4_product 70 = .ok (.aload_n 0, 1) := by decide +kernel
theorem V.dX4_product_71 : decode cX4_product 71 = .ok (.lload_n 1, 1) := by decide +kernel
theorem V.dX4_product_72 : decode cX4_product 72 = .ok (.invokevirtual 140, 3) := by decide +kernel
theorem V.dX4_product_75 : decode cX4_product 75 = .ok (.ifCond .ne 11, 3) := by decide +kernel
theorem V.dX4_product_78 : decode cX4_product 78 = .ok (.aload_n 0, 1) := by decide +kernel
theorem V.dX4_product_79 : decode cX4_product 79 = .ok (.lload_n 3, 1) := by decide +kernel
theorem V.dX4_product_80 : decode cX4_product 80 = .ok (.invokevirtual 140, 3) := by decide +kernel
theorem V.dX4_product_83 : decode cX4_product 83 = .ok (.ifCond .eq 11, 3) := by decide +kernel
theorem V.dX4_product_86 : decode cX4_product 86 = .ok (.aload_n 0, 1) := by decide +kernel
theorem V.dX4_product_87 : decode cX4_product 87 = .ok (.iload 5, 2) := by decide +kernel
theorem V.dX4_product_89 : decode cX4_product 89 = .ok (.lconst 0, 1) := by decide +kernel
theorem V.dX4_product_90 : decode cX4_product 90 = .ok (.invokevirtual 110, 3) := by decide +kernel
theorem V.dX4_product_93 : decode cX4_product 93 = .ok (.lreturn, 1) := by decide +kernel
theorem V.dX4_product_94 : decode cX4_product 94 = .ok (.aload_n 0, 1) := by decide +kernel
theorem V.dX4_product_95 : decode cX4_product 95 = .ok (.lload_n 1, 1) := by decide +kernel
theorem V.dX4_product_96 : decode cX4_product 96 = .ok (.invokevirtual 150, 3) := by decide +kernel
theorem V.dX4_product_99 : decode cX4_product 99 = .ok (.invokestatic 162, 3) := by decide +kernel
theorem V.dX4_product_102 : decode cX4_product 102 = .ok (.lstore 6, 2) := by decide +kernel
theorem V.dX4_product_104 : decode cX4_product 104 = .ok (.aload_n 0, 1) := by decide +kernel
theorem V.dX4_product_105 : decode cX4_product 105 = .ok (.lload_n 3, 1) := by decide +kernel
theorem V.dX4_product_106 : decode cX4_product 106 = .ok (.invokevirtual 150, 3) := by decide +kernel
theorem V.dX4_product_109 : decode cX4_product 109 = .ok (.invokestatic 162, 3) := by decide +kernel
theorem V.dX4_product_112 : decode cX4_product 112 = .ok (.lstore 8, 2) := by decide +kernel
theorem V.dX4_product_114 : decode cX4_product 114 = .ok (.aload_n 0, 1) := by decide +kernel
theorem V.dX4_product_115 : decode cX4_product 115 = .ok (.lload_n 1, 1) := by decide +kernel
theorem V.dX4_product_116 : decode cX4_product 116 = .ok (.invokevirtual 143, 3) := by decide +kernel
theorem V.dX4_product_119 : decode cX4_product 119 = .ok (.aload_n 0, 1) := by decide +kernel
theorem V.dX4_product_120 : decode cX4_product 120 = .ok (.lload_n 1, 1) := by decide +kernel
theorem V.dX4_product_121 : decode cX4_product 121 = .ok (.invokevirtual 150, 3) := by decide +kernel
theorem V.dX4_product_124 : decode cX4_product 124 = .ok (.invokestatic 165, 3) := by decide +kernel
theorem V.dX4_product_127 : decode cX4_product 127 = .ok (.isub, 1) := by decide +kernel
theorem V.dX4_product_128 : decode cX4_product 128 = .ok (.aload_n 0, 1) := by decide +kernel
theorem V.dX4_product_129 : decode cX4_product 129 = .ok (.lload_n 3, 1) := by decide +kernel
theorem V.dX4_product_130 : decode cX4_product 130 = .ok (.invokevirtual 143, 3) := by decide +kernel
theorem V.dX4_product_133 : decode cX4_product 133 = .ok (.iadd, 1) := by decide +kernel
theorem V.dX4_product_134 : decode cX4_product 134 = .ok (.aload_n 0, 1) := by decide +kernel
theorem V.dX4_product_135 : decode cX4_product 135 = .ok (.lload_n 3, 1) := by decide +kernel
theorem V.dX4_product_136 : decode cX4_product 136 = .ok (.invokevirtual 150, 3) := by decide +kernel
theorem V.dX4_product_139 : decode cX4_product 139 = .ok (.invokestatic 165, 3) := by decide +kernel
theorem V.dX4_product_142 : decode cX4_product 142 = .ok (.isub, 1) := by decide +kernel
theorem V.dX4_product_143 : decode cX4_product 143 = .ok (.istore 10, 2) := by decide +kernel
theorem V.dX4_product_145 : decode cX4_product 145 = .ok (.lload 6, 2) := by decide +kernel
theorem V.dX4_product_147 : decode cX4_product 147 = .ok (.bipush 27, 2) := by decide +kernel
theorem V.dX4_product_149 : decode cX4_product 149 = .ok (.lshr, 1) := by decide +kernel
theorem V.dX4_product_150 : decode cX4_product 150 = .ok (.lstore 11, 2) := by decide +kernel
theorem V.dX4_product_152 : decode cX4_product 152 = .ok (.lload 6, 2) := by decide +kernel
theorem V.dX4_product_154 : decode cX4_product 154 = .ok (.ldc2_w 168, 3) := by decide +kernel
theorem V.dX4_product_157 : decode cX4_product 157 = .ok (.land, 1) := by decide +kernel
theorem V.dX4_product_158 : decode cX4_product 158 = .ok (.lstore 13, 2) := by decide +kernel
theorem V.dX4_product_160 : decode cX4_product 160 = .ok (.lload 8, 2) := by decide +kernel
theorem V.dX4_product_162 : decode cX4_product 162 = .ok (.bipush 27, 2) := by decide +kernel
theorem V.dX4_product_164 : decode cX4_product 164 = .ok (.lshr, 1) := by decide +kernel
theorem V.dX4_product_165 : decode cX4_product 165 = .ok (.lstore 15, 2) := by decide +kernel
theorem V.dX4_product_167 : decode cX4_product 167 = .ok (.lload 8, 2) := by decide +kernel
theorem V.dX4_product_169 : decode cX4_product 169 = .ok (.ldc2_w 168, 3) := by decide +kernel
theorem V.dX4_product_172 : decode cX4_product 172 = .ok (.land, 1) := by decide +kernel
theorem V.dX4_product_173 : decode cX4_product 173 = .ok (.lstore 17, 2) := by decide +kernel
theorem V.dX4_product_175 : decode cX4_product 175 = .ok (.lload 13, 2) := by decide +kernel
theorem V.dX4_product_177 : decode cX4_product 177 = .ok (.lload 17, 2) := by decide +kernel
theorem V.dX4_product_179 : decode cX4_product 179 = .ok (.lmul, 1) := by decide +kernel
theorem V.dX4_product_180 : decode cX4_product 180 = .ok (.lstore 19, 2) := by decide +kernel
theorem V.dX4_product_182 : decode cX4_product 182 = .ok (.lload 11, 2) := by decide +kernel
theorem V.dX4_product_184 : decode cX4_product 184 = .ok (.lload 17, 2) := by decide +kernel
theorem V.dX4_product_186 : decode cX4_product 186 = .ok (.lmul, 1) := by decide +kernel
theorem V.dX4_product_187 : decode cX4_product 187 = .ok (.lload 13, 2) := by decide +kernel
theorem V.dX4_product_189 : decode cX4_product 189 = .ok (.lload 15, 2) := by decide +kernel
theorem V.dX4_product_191 : decode cX4_product 191 = .ok (.lmul, 1) := by decide +kernel
theorem V.dX4_product_192 : decode cX4_product 192 = .ok (.ladd, 1) := by decide +kernel
theorem V.dX4_product_193 : decode cX4_product 193 = .ok (.lload 19, 2) := by decide +kernel
theorem V.dX4_product_195 : decode cX4_product 195 = .ok (.bipush 27, 2) := by decide +kernel
theorem V.dX4_product_197 : decode cX4_product 197 = .ok (.lshr, 1) := by decide +kernel
theorem V.dX4_product_198 : decode cX4_product 198 = .ok (.ladd, 1) := by decide +kernel
theorem V.dX4_product_199 : decode cX4_product 199 = .ok (.lstore 21, 2) := by decide +kernel
theorem V.dX4_product_201 : decode cX4_product 201 = .ok (.lload 11, 2) := by decide +kernel
theorem V.dX4_product_203 : decode cX4_product 203 = .ok (.lload 15, 2) := by decide +kernel
theorem V.dX4_product_205 : decode cX4_product 205 = .ok (.lmul, 1) := by decide +kernel
theorem V.dX4_product_206 : decode cX4_product 206 = .ok (.lload 21, 2) := by decide +kernel
theorem V.dX4_product_208 : decode cX4_product 208 = .ok (.bipush 27, 2) := by decide +kernel
theorem V.dX4_product_210 : decode cX4_product 210 = .ok (.lshr, 1) := by decide +kernel
theorem V.dX4_product_211 : decode cX4_product 211 = .ok (.ladd, 1) := by decide +kernel
theorem V.dX4_product_212 : decode cX4_product 212 = .ok (.lstore 23, 2) := by decide +kernel
theorem V.dX4_product_214 : decode cX4_product 214 = .ok (.lload 21, 2) := by decide +kernel
theorem V.dX4_product_216 : decode cX4_product 216 = .ok (.ldc2_w 168, 3) := by decide +kernel
theorem V.dX4_product_219 : decode cX4_product 219 = .ok (.land, 1) := by decide +kernel
theorem V.dX4_product_220 : decode cX4_product 220 = .ok (.bipush 27, 2) := by decide +kernel
theorem V.dX4_product_222 : decode cX4_product 222 = .ok (.lshl, 1) := by decide +kernel
theorem V.dX4_product_223 : decode cX4_product 223 = .ok (.lload 19, 2) := by decide +kernel
theorem V.dX4_product_225 : decode cX4_product 225 = .ok (.ldc2_w 168, 3) := by decide +kernel
theorem V.dX4_product_228 : decode cX4_product 228 = .ok (.land, 1) := by decide +kernel
theorem V.dX4_product_229 : decode cX4_product 229 = .ok (.lor, 1) := by decide +kernel
theorem V.dX4_product_230 : decode cX4_product 230 = .ok (.lstore 25, 2) := by decide +kernel
theorem V.dX4_product_232 : decode cX4_product 232 = .ok (.lload 23, 2) := by decide +kernel
theorem V.dX4_product_234 : decode cX4_product 234 = .ok (.bipush 8, 2) := by decide +kernel
theorem V.dX4_product_236 : decode cX4_product 236 = .ok (.lshl, 1) := by decide +kernel
theorem V.dX4_product_237 : decode cX4_product 237 = .ok (.lload 25, 2) := by decide +kernel
theorem V.dX4_product_239 : decode cX4_product 239 = .ok (.bipush 46, 2) := by decide +kernel
theorem V.dX4_product_241 : decode cX4_product 241 = .ok (.lshr, 1) := by decide +kernel
theorem V.dX4_product_242 : decode cX4_product 242 = .ok (.lor, 1) := by decide +kernel
theorem V.dX4_product_243 : decode cX4_product 243 = .ok (.lstore 27, 2) := by decide +kernel
theorem V.dX4_product_245 : decode cX4_product 245 = .ok (.aload_n 0, 1) := by decide +kernel
theorem V.dX4_product_246 : decode cX4_product 246 = .ok (.iload 5, 2) := by decide +kernel
theorem V.dX4_product_248 : decode cX4_product 248 = .ok (.lload 27, 2) := by decide +kernel
theorem V.dX4_product_250 : decode cX4_product 250 = .ok (.iload 10, 2) := by decide +kernel
theorem V.dX4_product_252 : decode cX4_product 252 = .ok (.bipush 46, 2) := by decide +kernel
theorem V.dX4_product_254 : decode cX4_product 254 = .ok (.iadd, 1) := by decide +kernel
theorem V.dX4_product_255 : decode cX4_product 255 = .ok (.lload 25, 2) := by decide +kernel
theorem V.dX4_product_257 : decode cX4_product 257 = .ok (.ldc2_w 170, 3) := by decide +kernel
theorem V.dX4_product_260 : decode cX4_product 260 = .ok (.land, 1) := by decide +kernel
theorem V.dX4_product_261 : decode cX4_product 261 = .ok (.lconst 0, 1) := by decide +kernel
theorem V.dX4_product_262 : decode cX4_product 262 = .ok (.lcmp, 1) := by decide +kernel
theorem V.dX4_product_263 : decode cX4_product 263 = .ok (.ifCond .eq 7, 3) := by decide +kernel
theorem V.dX4_product_266 : decode cX4_product 266 = .ok (.iconst 1, 1) := by decide +kernel
theorem V.dX4_product_267 : decode cX4_product 267 = .ok (.goto 4, 3) := by decide +kernel
theorem V.dX4_product_270 : decode cX4_product 270 = .ok (.iconst 0, 1) := by decide +kernel
theorem V.dX4_product_271 : decode cX4_product 271 = .ok (.invokevirtual 153, 3) := by decide +kernel
theorem V.dX4_product_274 : decode cX4_product 274 = .ok (.lreturn, 1) := by decide +kernel
theorem V.fdX4_159 : FD RX4 159 5 5 1 := ⟨(RX5, TX5, 6), tyX5, rfl, rfl, in_X5, by decide, Or.inr ⟨_, q592⟩, rfl⟩
/-! ModuleEngine$Numbers.product(LModuleEngine$Numbers$Format;JJ)J -/
def V.Num_product_p52  (σ : HS) (x0 : Nat) : Option (Int64 × HS) :=
  ck (tg σ x0 = 6) <|
  some (gJ σ x0 4, σ)
theorem V.gX4_product_p52 {X : CX}  (σ : HS) (x0 : Nat) : G X RX4 "product" cX4_product 29 (some .long) 4 86 enJ 52 [(0, av x0)] [] σ (Num_product_p52 σ x0) := by
  unfold Num_product_p52
  refine g_aload_n 0 0 dX4_product_52 rfl rfl ?_
  refine g_getJ fdX4_114 dX4_product_53 ?_
  refine g_goto 69 dX4_product_56 (by decide) ?_
  exact g_lreturn rfl dX4_product_69
def V.Num_product_p36  (σ : HS) (x0 : Nat) (x1 : Int64) (x3 : Int64) (x5 : Int32) : Option (Int64 × HS) :=
  ck (tg σ x0 = 6) <| cl (Fmt_isZero σ x0 x1) fun r2 σ1 =>
  if r2 = 0 then (
    ck (tg σ1 x0 = 6) <| cl (Fmt_isZero σ1 x0 x3) fun r4 σ3 =>
    if r4 = 0 then (
      ck (tg σ3 x0 = 6) <|
      ck (tg σ3 x0 = 6) <| cl (Fmt_signed σ3 x0 x5 (gJ σ3 x0 5)) fun r6 σ5 =>
      some (r6, σ5))
    else (
      Num_product_p52 σ3 x0))
  else (
    Num_product_p52 σ1 x0)
theorem V.gX4_product_p36 {X : CX}  (σ : HS) (x0 : Nat) (x1 : Int64) (x3 : Int64) (x5 : Int32) : G X RX4 "product" cX4_product 29 (some .long) 4 86 enJ 36 [(0, av x0), (1, jv x1), (3, jv x3), (5, iv x5)] [] σ (Num_product_p36 σ x0 x1 x3 x5) := by
  unfold Num_product_p36
  refine g_aload_n 0 0 dX4_product_36 rfl rfl ?_
  refine g_lload_n 1 1 dX4_product_37 rfl rfl ?_
  refine g_callV (fc := fun sς => Fmt_isZero sς x0 x1) (ci := 5) (as := [jv x1]) rfl rfl rfl q2605 q2606 mdX4_140 (ctX5_isZero x0 x1) rfl (Nat.le_of_ble_eq_true rfl) (Nat.le_of_ble_eq_true rfl) (Nat.le_of_ble_eq_true rfl) pu_I dX4_product_38 (fun r2 σ1 => ?_)
  refine g_if_ne 52 dX4_product_41 (by decide) ?_ ?_
  · refine G.sub [0] rfl ?_
    exact gX4_product_p52 _ _
  · refine g_aload_n 0 0 dX4_product_44 rfl rfl ?_
    refine g_lload_n 3 2 dX4_product_45 rfl rfl ?_
    refine g_callV (fc := fun sς => Fmt_isZero sς x0 x3) (ci := 5) (as := [jv x3]) rfl rfl rfl q2605 q2606 mdX4_140 (ctX5_isZero x0 x3) rfl (Nat.le_of_ble_eq_true rfl) (Nat.le_of_ble_eq_true rfl) (Nat.le_of_ble_eq_true rfl) pu_I dX4_product_46 (fun r4 σ3 => ?_)
    refine g_if_eq 59 dX4_product_49 (by decide) ?_ ?_
    · refine g_aload_n 0 0 dX4_product_59 rfl rfl ?_
      refine g_iload 3 dX4_product_60 rfl ?_
      refine g_aload_n 0 0 dX4_product_62 rfl rfl ?_
      refine g_getJ fdX4_159 dX4_product_63 ?_
      refine g_callV (fc := fun sς => Fmt_signed sς x0 x5 (gJ σ3 x0 5)) (ci := 5) (as := [iv x5, jv (gJ σ3 x0 5)]) rfl rfl rfl q2586 q2587 mdX4_110 (ctX5_signed x0 x5 (gJ σ3 x0 5)) rfl (Nat.le_of_ble_eq_true rfl) (Nat.le_of_ble_eq_true rfl) (Nat.le_of_ble_eq_true rfl) pu_J dX4_product_66 (fun r6 σ5 => ?_)
      exact g_lreturn rfl dX4_product_69
    · refine G.sub [0] rfl ?_
      exact gX4_product_p52 _ _
def V.Num_product_p86  (σ : HS) (x0 : Nat) (x5 : Int32) : Option (Int64 × HS) :=
  ck (tg σ x0 = 6) <| cl (Fmt_signed σ x0 x5 (0 : Int64)) fun r2 σ1 =>
  some (r2, σ1)
theorem V.gX4_product_p86 {X : CX}  (σ : HS) (x0 : Nat) (x5 : Int32) : G X RX4 "product" cX4_product 29 (some .long) 4 86 enJ 86 [(0, av x0), (5, iv x5)] [] σ (Num_product_p86 σ x0 x5) := by
  unfold Num_product_p86
  refine g_aload_n 0 0 dX4_product_86 rfl rfl ?_
  refine g_iload 1 dX4_product_87 rfl ?_
  refine g_lconst (v := 0) dX4_product_89 (by decide) ?_
  refine g_callV (fc := fun sς => Fmt_signed sς x0 x5 (0 : Int64)) (ci := 5) (as := [iv x5, jv (0 : Int64)]) rfl rfl rfl q2586 q2587 mdX4_110 (ctX5_signed x0 x5 (0 : Int64)) rfl (Nat.le_of_ble_eq_true rfl) (Nat.le_of_ble_eq_true rfl) (Nat.le_of_ble_eq_true rfl) pu_J dX4_product_90 (fun r2 σ1 => ?_)
  exact g_lreturn rfl dX4_product_93
def V.Num_product_p271  (σ : HS) (s0 : Int32) (s1 : Int32) (s2 : Int64) (s3 : Int32) (s4 : Nat) : Option (Int64 × HS) :=
  ck (tg σ s4 = 6) <| cl (Fmt_round σ s4 s3 s2 s1 s0) fun r2 σ1 =>
  some (r2, σ1)
theorem V.gX4_product_p271 {X : CX}  (σ : HS) (s0 : Int32) (s1 : Int32) (s2 : Int64) (s3 : Int32) (s4 : Nat) : G X RX4 "product" cX4_product 29 (some .long) 4 86 enJ 271 [] [iv s0, iv s1, jv s2, iv s3, av s4] σ (Num_product_p271 σ s0 s1 s2 s3 s4) := by
  unfold Num_product_p271
  refine g_callV (fc := fun sς => Fmt_round sς s4 s3 s2 s1 s0) (ci := 5) (as := [iv s3, jv s2, iv s1, iv s0]) rfl rfl rfl q2617 q2618 mdX4_153 (ctX5_round s4 s3 s2 s1 s0) rfl (Nat.le_of_ble_eq_true rfl) (Nat.le_of_ble_eq_true rfl) (Nat.le_of_ble_eq_true rfl) pu_J dX4_product_271 (fun r2 σ1 => ?_)
  exact g_lreturn rfl dX4_product_274
def V.Num_product_p18  (σ : HS) (x0 : Nat) (x1 : Int64) (x3 : Int64) (s0 : Int32) : Option (Int64 × HS) :=
  ck (tg σ x0 = 6) <| cl (Fmt_isInfinite σ x0 x1) fun r2 σ1 =>
  if r2 = 0 then (
    ck (tg σ1 x0 = 6) <| cl (Fmt_isInfinite σ1 x0 x3) fun r4 σ3 =>
    if r4 = 0 then (
      ck (tg σ3 x0 = 6) <| cl (Fmt_isZero σ3 x0 x1) fun r6 σ5 =>
      if r6 = 0 then (
        ck (tg σ5 x0 = 6) <| cl (Fmt_isZero σ5 x0 x3) fun r8 σ7 =>
        if r8 = 0 then (
          ck (tg σ7 x0 = 6) <| cl (Fmt_significand σ7 x0 x1) fun r10 σ9 =>
          cl (Num_straight σ9 r10) fun r12 σ11 =>
          ck (tg σ11 x0 = 6) <| cl (Fmt_significand σ11 x0 x3) fun r14 σ13 =>
          cl (Num_straight σ13 r14) fun r16 σ15 =>
          ck (tg σ15 x0 = 6) <| cl (Fmt_scale σ15 x0 x1) fun r18 σ17 =>
          ck (tg σ17 x0 = 6) <| cl (Fmt_significand σ17 x0 x1) fun r20 σ19 =>
          cl (Num_places σ19 r20) fun r22 σ21 =>
          ck (tg σ21 x0 = 6) <| cl (Fmt_scale σ21 x0 x3) fun r24 σ23 =>
          ck (tg σ23 x0 = 6) <| cl (Fmt_significand σ23 x0 x3) fun r26 σ25 =>
          cl (Num_places σ25 r26) fun r28 σ27 =>
          bn (((r18 - r22) + r24) - r28) fun y29 =>
          bn (lshr r12 (27 : Int32)) fun y30 =>
          bn (r12 &&& (134217727 : Int64)) fun y31 =>
          bn (lshr r16 (27 : Int32)) fun y32 =>
          bn (r16 &&& (134217727 : Int64)) fun y33 =>
          bn (y31 * y33) fun y34 =>
          bn (((y30 * y33) + (y31 * y32)) + (lshr y34 (27 : Int32))) fun y35 =>
          bn ((y30 * y32) + (lshr y35 (27 : Int32))) fun y36 =>
          bn ((lshl (y35 &&& (134217727 : Int64)) (27 : Int32)) ||| (y34 &&& (134217727 : Int64))) fun y37 =>
          bn ((lshl y36 (8 : Int32)) ||| (lshr y37 (46 : Int32))) fun y38 =>
          if (y37 &&& (70368744177663 : Int64)) = (0 : Int64) then (
            Num_product_p271 σ27 (0 : Int32) (y29 + (46 : Int32)) y38 s0 x0)
          else (
            Num_product_p271 σ27 (1 : Int32) (y29 + (46 : Int32)) y38 s0 x0))
        else (
          Num_product_p86 σ7 x0 s0))
      else (
        Num_product_p86 σ5 x0 s0))
    else (
      Num_product_p36 σ3 x0 x1 x3 s0))
  else (
    Num_product_p36 σ1 x0 x1 x3 s0)
theorem V.gX4_product_p18 {X : CX}  (σ : HS) (x0 : Nat) (x1 : Int64) (x3 : Int64) (s0 : Int32) : G X RX4 "product" cX4_product 29 (some .long) 4 86 enJ 18 [(0, av x0), (1, jv x1), (3, jv x3)] [iv s0] σ (Num_product_p18 σ x0 x1 x3 s0) := by
  unfold Num_product_p18
  refine g_istore dX4_product_18 (by decide) rfl ?_
  refine g_aload_n 0 1 dX4_product_20 rfl rfl ?_
  refine g_lload_n 1 2 dX4_product_21 rfl rfl ?_
  refine g_callV (fc := fun sς => Fmt_isInfinite sς x0 x1) (ci := 5) (as := [jv x1]) rfl rfl rfl q2601 q2602 mdX4_147 (ctX5_isInfinite x0 x1) rfl (Nat.le_of_ble_eq_true rfl) (Nat.le_of_ble_eq_true rfl) (Nat.le_of_ble_eq_true rfl) pu_I dX4_product_22 (fun r2 σ1 => ?_)
  refine g_if_ne 36 dX4_product_25 (by decide) ?_ ?_
  · refine G.sub [1, 2, 3, 0] rfl ?_
    exact gX4_product_p36 _ _ _ _ _
  · refine g_aload_n 0 1 dX4_product_28 rfl rfl ?_
    refine g_lload_n 3 3 dX4_product_29 rfl rfl ?_
    refine g_callV (fc := fun sς => Fmt_isInfinite sς x0 x3) (ci := 5) (as := [jv x3]) rfl rfl rfl q2601 q2602 mdX4_147 (ctX5_isInfinite x0 x3) rfl (Nat.le_of_ble_eq_true rfl) (Nat.le_of_ble_eq_true rfl) (Nat.le_of_ble_eq_true rfl) pu_I dX4_product_30 (fun r4 σ3 => ?_)
    refine g_if_eq 70 dX4_product_33 (by decide) ?_ ?_
    · refine g_aload_n 0 1 dX4_product_70 rfl rfl ?_
      refine g_lload_n 1 2 dX4_product_71 rfl rfl ?_
      refine g_callV (fc := fun sς => Fmt_isZero sς x0 x1) (ci := 5) (as := [jv x1]) rfl rfl rfl q2605 q2606 mdX4_140 (ctX5_isZero x0 x1) rfl (Nat.le_of_ble_eq_true rfl) (Nat.le_of_ble_eq_true rfl) (Nat.le_of_ble_eq_true rfl) pu_I dX4_product_72 (fun r6 σ5 => ?_)
      refine g_if_ne 86 dX4_product_75 (by decide) ?_ ?_
      · refine G.sub [1, 0] rfl ?_
        exact gX4_product_p86 _ _ _
      · refine g_aload_n 0 1 dX4_product_78 rfl rfl ?_
        refine g_lload_n 3 3 dX4_product_79 rfl rfl ?_
        refine g_callV (fc := fun sς => Fmt_isZero sς x0 x3) (ci := 5) (as := [jv x3]) rfl rfl rfl q2605 q2606 mdX4_140 (ctX5_isZero x0 x3) rfl (Nat.le_of_ble_eq_true rfl) (Nat.le_of_ble_eq_true rfl) (Nat.le_of_ble_eq_true rfl) pu_I dX4_product_80 (fun r8 σ7 => ?_)
        refine g_if_eq 94 dX4_product_83 (by decide) ?_ ?_
        · refine g_aload_n 0 1 dX4_product_94 rfl rfl ?_
          refine g_lload_n 1 2 dX4_product_95 rfl rfl ?_
          refine g_callV (fc := fun sς => Fmt_significand sς x0 x1) (ci := 5) (as := [jv x1]) rfl rfl rfl q2609 q2610 mdX4_150 (ctX5_significand x0 x1) rfl (Nat.le_of_ble_eq_true rfl) (Nat.le_of_ble_eq_true rfl) (Nat.le_of_ble_eq_true rfl) pu_J dX4_product_96 (fun r10 σ9 => ?_)
          refine g_callS (fc := fun sς => Num_straight sς r10) (as := [jv r10]) q2626 mdX4_162 (ctX4_straight r10) rfl (Nat.le_of_ble_eq_true rfl) (Nat.le_of_ble_eq_true rfl) (Nat.le_of_ble_eq_true rfl) pu_J dX4_product_99 (fun r12 σ11 => ?_)
          refine g_lstore dX4_product_102 (by decide) rfl ?_
          refine g_aload_n 0 2 dX4_product_104 rfl rfl ?_
          refine g_lload_n 3 4 dX4_product_105 rfl rfl ?_
          refine g_callV (fc := fun sς => Fmt_significand sς x0 x3) (ci := 5) (as := [jv x3]) rfl rfl rfl q2609 q2610 mdX4_150 (ctX5_significand x0 x3) rfl (Nat.le_of_ble_eq_true rfl) (Nat.le_of_ble_eq_true rfl) (Nat.le_of_ble_eq_true rfl) pu_J dX4_product_106 (fun r14 σ13 => ?_)
          refine g_callS (fc := fun sς => Num_straight sς r14) (as := [jv r14]) q2626 mdX4_162 (ctX4_straight r14) rfl (Nat.le_of_ble_eq_true rfl) (Nat.le_of_ble_eq_true rfl) (Nat.le_of_ble_eq_true rfl) pu_J dX4_product_109 (fun r16 σ15 => ?_)
          refine g_lstore dX4_product_112 (by decide) rfl ?_
          refine g_aload_n 0 3 dX4_product_114 rfl rfl ?_
          refine g_lload_n 1 4 dX4_product_115 rfl rfl ?_
          refine g_callV (fc := fun sς => Fmt_scale sς x0 x1) (ci := 5) (as := [jv x1]) rfl rfl rfl q2593 q2594 mdX4_143 (ctX5_scale x0 x1) rfl (Nat.le_of_ble_eq_true rfl) (Nat.le_of_ble_eq_true rfl) (Nat.le_of_ble_eq_true rfl) pu_I dX4_product_116 (fun r18 σ17 => ?_)
          refine g_aload_n 0 3 dX4_product_119 rfl rfl ?_
          refine g_lload_n 1 4 dX4_product_120 rfl rfl ?_
          refine g_callV (fc := fun sς => Fmt_significand sς x0 x1) (ci := 5) (as := [jv x1]) rfl rfl rfl q2609 q2610 mdX4_150 (ctX5_significand x0 x1) rfl (Nat.le_of_ble_eq_true rfl) (Nat.le_of_ble_eq_true rfl) (Nat.le_of_ble_eq_true rfl) pu_J dX4_product_121 (fun r20 σ19 => ?_)
          refine g_callS (fc := fun sς => Num_places sς r20) (as := [jv r20]) q2630 mdX4_165 (ctX4_places r20) rfl (Nat.le_of_ble_eq_true rfl) (Nat.le_of_ble_eq_true rfl) (Nat.le_of_ble_eq_true rfl) pu_I dX4_product_124 (fun r22 σ21 => ?_)
          refine g_isub dX4_product_127 ?_
          refine g_aload_n 0 3 dX4_product_128 rfl rfl ?_
          refine g_lload_n 3 5 dX4_product_129 rfl rfl ?_
          refine g_callV (fc := fun sς => Fmt_scale sς x0 x3) (ci := 5) (as := [jv x3]) rfl rfl rfl q2593 q2594 mdX4_143 (ctX5_scale x0 x3) rfl (Nat.le_of_ble_eq_true rfl) (Nat.le_of_ble_eq_true rfl) (Nat.le_of_ble_eq_true rfl) pu_I dX4_product_130 (fun r24 σ23 => ?_)
          refine g_iadd dX4_product_133 ?_
          refine g_aload_n 0 3 dX4_product_134 rfl rfl ?_
          refine g_lload_n 3 5 dX4_product_135 rfl rfl ?_
          refine g_callV (fc := fun sς => Fmt_significand sς x0 x3) (ci := 5) (as := [jv x3]) rfl rfl rfl q2609 q2610 mdX4_150 (ctX5_significand x0 x3) rfl (Nat.le_of_ble_eq_true rfl) (Nat.le_of_ble_eq_true rfl) (Nat.le_of_ble_eq_true rfl) pu_J dX4_product_136 (fun r26 σ25 => ?_)
          refine g_callS (fc := fun sς => Num_places sς r26) (as := [jv r26]) q2630 mdX4_165 (ctX4_places r26) rfl (Nat.le_of_ble_eq_true rfl) (Nat.le_of_ble_eq_true rfl) (Nat.le_of_ble_eq_true rfl) pu_I dX4_product_139 (fun r28 σ27 => ?_)
          refine g_isub dX4_product_142 ?_
          refine g_nmI (fun y29 => ?_)
          refine g_istore dX4_product_143 (by decide) rfl ?_
          refine g_lload 2 dX4_product_145 rfl ?_
          refine g_bipush (v := 27) dX4_product_147 (by decide) ?_
          refine g_lshr dX4_product_149 ?_
          refine g_nmJ (fun y30 => ?_)
          refine g_lstore dX4_product_150 (by decide) rfl ?_
          refine g_lload 3 dX4_product_152 rfl ?_
          refine g_ldc2 q2640 dX4_product_154 ?_
          refine g_land dX4_product_157 ?_
          refine g_nmJ (fun y31 => ?_)
          refine g_lstore dX4_product_158 (by decide) rfl ?_
          refine g_lload 3 dX4_product_160 rfl ?_
          refine g_bipush (v := 27) dX4_product_162 (by decide) ?_
          refine g_lshr dX4_product_164 ?_
          refine g_nmJ (fun y32 => ?_)
          refine g_lstore dX4_product_165 (by decide) rfl ?_
          refine g_lload 4 dX4_product_167 rfl ?_
          refine g_ldc2 q2640 dX4_product_169 ?_
          refine g_land dX4_product_172 ?_
          refine g_nmJ (fun y33 => ?_)
          refine g_lstore dX4_product_173 (by decide) rfl ?_
          refine g_lload 2 dX4_product_175 rfl ?_
          refine g_lload 0 dX4_product_177 rfl ?_
          refine g_lmul dX4_product_179 ?_
          refine g_nmJ (fun y34 => ?_)
          refine g_lstore dX4_product_180 (by decide) rfl ?_
          refine g_lload 4 dX4_product_182 rfl ?_
          refine g_lload 1 dX4_product_184 rfl ?_
          refine g_lmul dX4_product_186 ?_
          refine g_lload 3 dX4_product_187 rfl ?_
          refine g_lload 2 dX4_product_189 rfl ?_
          refine g_lmul dX4_product_191 ?_
          refine g_ladd dX4_product_192 ?_
          refine g_lload 0 dX4_product_193 rfl ?_
          refine g_bipush (v := 27) dX4_product_195 (by decide) ?_
          refine g_lshr dX4_product_197 ?_
          refine g_ladd dX4_product_198 ?_
          refine g_nmJ (fun y35 => ?_)
          refine g_lstore dX4_product_199 (by decide) rfl ?_
          refine g_lload 5 dX4_product_201 rfl ?_
          refine g_lload 3 dX4_product_203 rfl ?_
          refine g_lmul dX4_product_205 ?_
          refine g_lload 0 dX4_product_206 rfl ?_
          refine g_bipush (v := 27) dX4_product_208 (by decide) ?_
          refine g_lshr dX4_product_210 ?_
          refine g_ladd dX4_product_211 ?_
          refine g_nmJ (fun y36 => ?_)
          refine g_lstore dX4_product_212 (by decide) rfl ?_
          refine g_lload 1 dX4_product_214 rfl ?_
          refine g_ldc2 q2640 dX4_product_216 ?_
          refine g_land dX4_product_219 ?_
          refine g_bipush (v := 27) dX4_product_220 (by decide) ?_
          refine g_lshl dX4_product_222 ?_
          refine g_lload 2 dX4_product_223 rfl ?_
          refine g_ldc2 q2640 dX4_product_225 ?_
          refine g_land dX4_product_228 ?_
          refine g_lor dX4_product_229 ?_
          refine g_nmJ (fun y37 => ?_)
          refine g_lstore dX4_product_230 (by decide) rfl ?_
          refine g_lload 1 dX4_product_232 rfl ?_
          refine g_bipush (v := 8) dX4_product_234 (by decide) ?_
          refine g_lshl dX4_product_236 ?_
          refine g_lload 0 dX4_product_237 rfl ?_
          refine g_bipush (v := 46) dX4_product_239 (by decide) ?_
          refine g_lshr dX4_product_241 ?_
          refine g_lor dX4_product_242 ?_
          refine g_nmJ (fun y38 => ?_)
          refine g_lstore dX4_product_243 (by decide) rfl ?_
          refine g_aload_n 0 13 dX4_product_245 rfl rfl ?_
          refine g_iload 12 dX4_product_246 rfl ?_
          refine g_lload 0 dX4_product_248 rfl ?_
          refine g_iload 9 dX4_product_250 rfl ?_
          refine g_bipush (v := 46) dX4_product_252 (by decide) ?_
          refine g_iadd dX4_product_254 ?_
          refine g_lload 1 dX4_product_255 rfl ?_
          refine g_ldc2 q2641 dX4_product_257 ?_
          refine g_land dX4_product_260 ?_
          refine g_lconst (v := 0) dX4_product_261 (by decide) ?_
          refine g_lcmp_eq 270 dX4_product_262 dX4_product_263 (by decide) ?_ ?_
          · refine g_iconst (v := 0) dX4_product_270 (by decide) ?_
            refine G.sub [] rfl ?_
            exact gX4_product_p271 _ _ _ _ _ _
          · refine g_iconst (v := 1) dX4_product_266 (by decide) ?_
            refine g_goto 271 dX4_product_267 (by decide) ?_
            refine G.sub [] rfl ?_
            exact gX4_product_p271 _ _ _ _ _ _
        · refine G.sub [1, 0] rfl ?_
          exact gX4_product_p86 _ _ _
    · refine G.sub [1, 2, 3, 0] rfl ?_
      exact gX4_product_p36 _ _ _ _ _
def V.Num_product (σ : HS) (x0 : Nat) (x1 : Int64) (x3 : Int64) : Option (Int64 × HS) :=
  ck (tg σ x0 = 6) <| cl (Fmt_sign σ x0 x1) fun r2 σ1 =>
  ck (tg σ1 x0 = 6) <| cl (Fmt_sign σ1 x0 x3) fun r4 σ3 =>
  if r2 = r4 then (
    Num_product_p18 σ3 x0 x1 x3 (0 : Int32))
  else (
    Num_product_p18 σ3 x0 x1 x3 (1 : Int32))
theorem V.ctX4_product (x0 : Nat) (x1 : Int64) (x3 : Int64) : Ct yX4_product  cX4_product 29 (some .long) 4 86 eJ [av x0, jv x1, jv x3] (fun σ => Num_product σ x0 x1 x3) := by
  refine Ct.of (own := RX4) (nm := "product") (desc := "(LModuleEngine$Numbers$Format;JJ)J") rfl (by decide) (Nat.le_of_ble_eq_true rfl) (by decide) (fun X σ => ?_)
  show G X RX4 "product" cX4_product 29 (some .long) 4 86 enJ 0 [(0, av x0), (1, jv x1), (3, jv x3)] [] σ (Num_product σ x0 x1 x3)
  unfold Num_product
  refine g_aload_n 0 0 dX4_product_0 rfl rfl ?_
  refine g_lload_n 1 1 dX4_product_1 rfl rfl ?_
  refine g_callV (fc := fun sς => Fmt_sign sς x0 x1) (ci := 5) (as := [jv x1]) rfl rfl rfl q2548 q2549 mdX4_99 (ctX5_sign x0 x1) rfl (Nat.le_of_ble_eq_true rfl) (Nat.le_of_ble_eq_true rfl) (Nat.le_of_ble_eq_true rfl) pu_I dX4_product_2 (fun r2 σ1 => ?_)
  refine g_aload_n 0 0 dX4_product_5 rfl rfl ?_
  refine g_lload_n 3 2 dX4_product_6 rfl rfl ?_
  refine g_callV (fc := fun sς => Fmt_sign sς x0 x3) (ci := 5) (as := [jv x3]) rfl rfl rfl q2548 q2549 mdX4_99 (ctX5_sign x0 x3) rfl (Nat.le_of_ble_eq_true rfl) (Nat.le_of_ble_eq_true rfl) (Nat.le_of_ble_eq_true rfl) pu_I dX4_product_7 (fun r4 σ3 => ?_)
  refine g_icmp_eq 17 dX4_product_10 (by decide) ?_ ?_
  · refine g_iconst (v := 0) dX4_product_17 (by decide) ?_
    exact gX4_product_p18 _ _ _ _ _
  · refine g_iconst (v := 1) dX4_product_13 (by decide) ?_
    refine g_goto 18 dX4_product_14 (by decide) ?_
    exact gX4_product_p18 _ _ _ _ _
theorem V.dX4_ratio_0 : decode cX4_ratio 0 = .ok (.aload_n 0, 1) := by decide +kernel
theorem V.dX4_ratio_1 : decode cX4_ratio 1 = .ok (.lload_n 1, 1) := by decide +kernel
theorem V.dX4_ratio_2 : decode cX4_ratio 2 = .ok (.invokevirtual 99, 3) := by decide +kernel
theorem V.dX4_ratio_5 : decode cX4_ratio 5 = .ok (.aload_n 0, 1) := by decide +kernel
theorem V.dX4_ratio_6 : decode cX4_ratio 6 = .ok (.lload_n 3, 1) := by decide +kernel
theorem V.dX4_ratio_7 : decode cX4_ratio 7 = .ok (.invokevirtual 99, 3) := by decide +kernel
theorem V.dX4_ratio_10 : decode cX4_ratio 10 = .ok (.if_icmp .eq 7, 3) := by decide +kernel
theorem V.dX4_ratio_13 : decode cX4_ratio 13 = .ok (.iconst 1, 1) := by decide +kernel
theorem V.dX4_ratio_14 : decode cX4_ratio 14 = .ok (.goto 4, 3) := by decide +kernel
theorem V.dX4_ratio_17 : decode cX4_ratio 17 = .ok (.iconst 0, 1) := by decide +kernel
theorem V.dX4_ratio_18 : decode cX4_ratio 18 = .ok (.istore 5, 2) := by decide +kernel
theorem V.dX4_ratio_20 : decode cX4_ratio 20 = .ok (.aload_n 0, 1) := by decide +kernel
theorem V.dX4_ratio_21 : decode cX4_ratio 21 = .ok (.lload_n 1, 1) := by decide +kernel
theorem V.dX4_ratio_22 : decode cX4_ratio 22 = .ok (.invokevirtual 147, 3) := by decide +kernel
theorem V.dX4_ratio_25 : decode cX4_ratio 25 = .ok (.ifCond .eq 29, 3) := by decide +kernel
theorem V.dX4_ratio_28 : decode cX4_ratio 28 = .ok (.aload_n 0, 1) := by decide +kernel
theorem V.dX4_ratio_29 : decode cX4_ratio 29 = .ok (.lload_n 3, 1) := by decide +kernel
theorem V.dX4_ratio_30 : decode cX4_ratio 30 = .ok (.invokevirtual 147, 3) := by decide +kernel
theorem V.dX4_ratio_33 : decode cX4_ratio 33 = .ok (.ifCond .eq 10, 3) := by decide +kernel
theorem V.dX4_ratio_36 : decode cX4_ratio 36 = .ok (.aload_n 0, 1) := by decide +kernel
theorem V.dX4_ratio_37 : decode cX4_ratio 37 = .ok (.getfield 114, 3) := by decide +kernel
theorem V.dX4_ratio_40 : decode cX4_ratio 40 = .ok (.goto 13, 3) := by decide +kernel
theorem V.dX4_ratio_43 : decode cX4_ratio 43 = .ok (.aload_n 0, 1) := by decide +kernel
theorem V.dX4_ratio_44 : decode cX4_ratio 44 = .ok (.iload 5, 2) := by decide +kernel
theorem V.dX4_ratio_46 : decode cX4_ratio 46 = .ok (.aload_n 0, 1) := by decide +kernel
theorem V.dX4_ratio_47 : decode cX4_ratio 47 = .ok (.getfield 159, 3) := by decide +kernel
theorem V.dX4_ratio_50 : decode cX4_ratio 50 = .ok (.invokevirtual 110, 3) := by decide +kernel
theorem V.dX4_ratio_53 : decode cX4_ratio 53 = .ok (.lreturn, 1) := by decide +kernel
theorem V.dX4_ratio_54 : decode cX4_ratio 54 = .ok (.aload_n 0, 1) := by decide +kernel
theorem V.dX4_ratio_55 : decode cX4_ratio 55 = .ok (.lload_n 3, 1) := by decide +kernel
theorem V.dX4_ratio_56 : decode cX4_ratio 56 = .ok (.invokevirtual 140, 3) := by decide +kernel
theorem V.dX4_ratio_59 : decode cX4_ratio 59 = .ok (.ifCond .eq 29, 3) := by decide +kernel
theorem V.dX4_ratio_62 : decode cX4_ratio 62 = .ok (.aload_n 0, 1) := by decide +kernel
theorem V.dX4_ratio_63 : decode cX4_ratio 63 = .ok (.lload_n 1, 1) := by decide +kernel
theorem V.dX4_ratio_64 : decode cX4_ratio 64 = .ok (.invokevirtual 140, 3) := by decide +kernel
theorem V.dX4_ratio_67 : decode cX4_ratio 67 = .ok (.ifCond .eq 10, 3) := by decide +kernel
theorem V.dX4_ratio_70 : decode cX4_ratio 70 = .ok (.aload_n 0, 1) := by decide +kernel
theorem V.dX4_ratio_71 : decode cX4_ratio 71 = .ok (.getfield 114, 3) := by decide +kernel
theorem V.dX4_ratio_74 : decode cX4_ratio 74 = .ok (.goto 13, 3) := by decide +kernel
theorem V.dX4_ratio_77 : decode cX4_ratio 77 = .ok (.aload_n 0, 1) := by decide +kernel
theorem V.dX4_ratio_78 : decode cX4_ratio 78 = .ok (.iload 5, 2) := by decide +kernel
theorem V.dX4_ratio_80 : decode cX4_ratio 80 = .ok (.aload_n 0, 1) := by decide +kernel
theorem V.dX4_ratio_81 : decode cX4_ratio 81 = .ok (.getfield 159, 3) := by decide +kernel
theorem V.dX4_ratio_84 : decode cX4_ratio 84 = .ok (.invokevirtual 110, 3) := by decide +kernel
theorem V.dX4_ratio_87 : decode cX4_ratio 87 = .ok (.lreturn, 1) := by decide +kernel
theorem V.dX4_ratio_88 : decode cX4_ratio 88 = .ok (.aload_n 0, 1) := by decide +kernel
theorem V.dX4_ratio_89 : decode cX4_ratio 89 = .ok (.lload_n 3, 1) := by decide +kernel
theorem V.dX4_ratio_90 : decode cX4_ratio 90 = .ok (.invokevirtual 147, 3) := by decide +kernel
theorem V.dX4_ratio_93 : decode cX4_ratio 93 = .ok (.ifCond .ne 11, 3) := by decide +kernel
theorem V.dX4_ratio_96 : decode cX4_ratio 96 = .ok (.aload_n 0, 1) := by decide +kernel
theorem V.dX4_ratio_97 : decode cX4_ratio 97 = .ok (.lload_n 1, 1) := by decide +kernel
theorem V.dX4_ratio_98 : decode cX4_ratio 98 = .ok (.invokevirtual 140, 3) := by decide +kernel
theorem V.dX4_ratio_101 : decode cX4_ratio 101 = .ok (.ifCond .eq 11, 3) := by decide +kernel
theorem V.dX4_ratio_104 : decode cX4_ratio 104 = .ok (.aload_n 0, 1) := by decide +kernel
theorem V.dX4_ratio_105 : decode cX4_ratio 105 = .ok (.iload 5, 2) := by decide +kernel
theorem V.dX4_ratio_107 : decode cX4_ratio 107 = .ok (.lconst 0, 1) := by decide +kernel
theorem V.dX4_ratio_108 : decode cX4_ratio 108 = .ok (.invokevirtual 110, 3) := by decide +kernel
theorem V.dX4_ratio_111 : decode cX4_ratio 111 = .ok (.lreturn, 1) := by decide +kernel
theorem V.dX4_ratio_112 : decode cX4_ratio 112 = .ok (.aload_n 0, 1) := by decide +kernel
theorem V.dX4_ratio_113 : decode cX4_ratio 113 = .ok (.lload_n 1, 1) := by decide +kernel
theorem V.dX4_ratio_114 : decode cX4_ratio 114 = .ok (.invokevirtual 150, 3) := by decide +kernel
theorem V.dX4_ratio_117 : decode cX4_ratio 117 = .ok (.invokestatic 162, 3) := by decide +kernel
theorem V.dX4_ratio_120 : decode cX4_ratio 120 = .ok (.lstore 6, 2) := by decide +kernel
theorem V.dX4_ratio_122 : decode cX4_ratio 122 = .ok (.aload_n 0, 1) := by decide +kernel
theorem V.dX4_ratio_123 : decode cX4_ratio 123 = .ok (.lload_n 3, 1) := by decide +kernel
theorem V.dX4_ratio_124 : decode cX4_ratio 124 = .ok (.invokevirtual 150, 3) := by decide +kernel
theorem V.dX4_ratio_127 : decode cX4_ratio 127 = .ok (.invokestatic 162, 3) := by decide +kernel
theorem V.dX4_ratio_130 : decode cX4_ratio 130 = .ok (.lstore 8, 2) := by decide +kernel
theorem V.dX4_ratio_132 : decode cX4_ratio 132 = .ok (.aload_n 0, 1) := by decide +kernel
theorem V.dX4_ratio_133 : decode cX4_ratio 133 = .ok (.lload_n 1, 1) := by decide +kernel
theorem V.dX4_ratio_134 : decode cX4_ratio 134 = .ok (.invokevirtual 143, 3) := by decide +kernel
theorem V.dX4_ratio_137 : decode cX4_ratio 137 = .ok (.aload_n 0, 1) := by decide +kernel
theorem V.dX4_ratio_138 : decode cX4_ratio 138 = .ok (.lload_n 1, 1) := by decide +kernel
theorem V.dX4_ratio_139 : decode cX4_ratio 139 = .ok (.invokevirtual 150, 3) := by decide +kernel
theorem V.dX4_ratio_142 : decode cX4_ratio 142 = .ok (.invokestatic 165, 3) := by decide +kernel
theorem V.dX4_ratio_145 : decode cX4_ratio 145 = .ok (.isub, 1) := by decide +kernel
theorem V.dX4_ratio_146 : decode cX4_ratio 146 = .ok (.aload_n 0, 1) := by decide +kernel
theorem V.dX4_ratio_147 : decode cX4_ratio 147 = .ok (.lload_n 3, 1) := by decide +kernel
theorem V.dX4_ratio_148 : decode cX4_ratio 148 = .ok (.invokevirtual 143, 3) := by decide +kernel
theorem V.dX4_ratio_151 : decode cX4_ratio 151 = .ok (.isub, 1) := by decide +kernel
theorem V.dX4_ratio_152 : decode cX4_ratio 152 = .ok (.aload_n 0, 1) := by decide +kernel
theorem V.dX4_ratio_153 : decode cX4_ratio 153 = .ok (.lload_n 3, 1) := by decide +kernel
theorem V.dX4_ratio_154 : decode cX4_ratio 154 = .ok (.invokevirtual 150, 3) := by decide +kernel
theorem V.dX4_ratio_157 : decode cX4_ratio 157 = .ok (.invokestatic 165, 3) := by decide +kernel
theorem V.dX4_ratio_160 : decode cX4_ratio 160 = .ok (.iadd, 1) := by decide +kernel
theorem V.dX4_ratio_161 : decode cX4_ratio 161 = .ok (.istore 10, 2) := by decide +kernel
theorem V.dX4_ratio_163 : decode cX4_ratio 163 = .ok (.lconst 0, 1) := by decide +kernel
theorem V.dX4_ratio_164 : decode cX4_ratio 164 = .ok (.lstore 11, 2) := by decide +kernel
theorem V.dX4_ratio_166 : decode cX4_ratio 166 = .ok (.iconst 0, 1) := by decide +kernel
theorem V.dX4_ratio_167 : decode cX4_ratio 167 = .ok (.istore 13, 2) := by decide +kernel
theorem V.dX4_ratio_169 : decode cX4_ratio 169 = .ok (.iload 13, 2) := by decide +kernel
theorem V.dX4_ratio_171 : decode cX4_ratio 171 = .ok (.bipush 60, 2) := by decide +kernel
theorem V.dX4_ratio_173 : decode cX4_ratio 173 = .ok (.if_icmp .ge 64, 3) := by decide +kernel
theorem V.dX4_ratio_176 : decode cX4_ratio 176 = .ok (.lload 6, 2) := by decide +kernel
theorem V.dX4_ratio_178 : decode cX4_ratio 178 = .ok (.lload 8, 2) := by decide +kernel
theorem V.dX4_ratio_180 : decode cX4_ratio 180 = .ok (.lcmp, 1) := by decide +kernel
theorem V.dX4_ratio_181 : decode cX4_ratio 181 = .ok (.ifCond .lt 7, 3) := by decide +kernel
theorem V.dX4_ratio_184 : decode cX4_ratio 184 = .ok (.iconst 1, 1) := by decide +kernel
theorem V.dX4_ratio_185 : decode cX4_ratio 185 = .ok (.goto 4, 3) := by decide +kernel
theorem V.dX4_ratio_188 : decode cX4_ratio 188 = .ok (.iconst 0, 1) := by decide +kernel
theorem V.dX4_ratio_189 : decode cX4_ratio 189 = .ok (.istore 14, 2) := by decide +kernel
theorem V.dX4_ratio_191 : decode cX4_ratio 191 = .ok (.ldc2_w 93, 3) := by decide +kernel
theorem V.dX4_ratio_194 : decode cX4_ratio 194 = .ok (.lload 11, 2) := by decide +kernel
theorem V.dX4_ratio_196 : decode cX4_ratio 196 = .ok (.lmul, 1) := by decide +kernel
theorem V.dX4_ratio_197 : decode cX4_ratio 197 = .ok (.iload 14, 2) := by decide +kernel
theorem V.dX4_ratio_199 : decode cX4_ratio 199 = .ok (.ifCond .eq 7, 3) := by decide +kernel
theorem V.dX4_ratio_202 : decode cX4_ratio 202 = .ok (.lconst 1, 1) := by decide +kernel
theorem V.dX4_ratio_203 : decode cX4_ratio 203 = .ok (.goto 4, 3) := by decide +kernel
theorem V.dX4_ratio_206 : decode cX4_ratio 206 = .ok (.lconst 0, 1) := by decide +kernel
theorem V.dX4_ratio_207 : decode cX4_ratio 207 = .ok (.ladd, 1) := by decide +kernel
theorem V.dX4_ratio_208 : decode cX4_ratio 208 = .ok (.lstore 11, 2) := by decide +kernel
theorem V.dX4_ratio_210 : decode cX4_ratio 210 = .ok (.ldc2_w 93, 3) := by decide +kernel
theorem V.dX4_ratio_213 : decode cX4_ratio 213 = .ok (.iload 14, 2) := by decide +kernel
theorem V.dX4_ratio_215 : decode cX4_ratio 215 = .ok (.ifCond .eq 11, 3) := by decide +kernel
theorem V.dX4_ratio_218 : decode cX4_ratio 218 = .ok (.lload 6, 2) := by decide +kernel
theorem V.dX4_ratio_220 : decode cX4_ratio 220 = .ok (.lload 8, 2) := by decide +kernel
theorem V.dX4_ratio_222 : decode cX4_ratio 222 = .ok (.lsub, 1) := by decide +kernel
theorem V.dX4_ratio_223 : decode cX4_ratio 223 = .ok (.goto 5, 3) := by decide +kernel
theorem V.dX4_ratio_226 : decode cX4_ratio 226 = .ok (.lload 6, 2) := by decide +kernel
theorem V.dX4_ratio_228 : decode cX4_ratio 228 = .ok (.lmul, 1) := by decide +kernel
theorem V.dX4_ratio_229 : decode cX4_ratio 229 = .ok (.lstore 6, 2) := by decide +kernel
theorem V.dX4_ratio_231 : decode cX4_ratio 231 = .ok (.iinc 13 1, 3) := by decide +kernel
theorem V.dX4_ratio_234 : decode cX4_ratio 234 = .ok (.goto (-65), 3) := by decide +kernel
theorem V.dX4_ratio_237 : decode cX4_ratio 237 = .ok (.aload_n 0, 1) := by decide +kernel
theorem V.dX4_ratio_238 : decode cX4_ratio 238 = .ok (.iload 5, 2) := by decide +kernel
theorem V.dX4_ratio_240 : decode cX4_ratio 240 = .ok (.lload 11, 2) := by decide +kernel
theorem V.dX4_ratio_242 : decode cX4_ratio 242 = .ok (.iload 10, 2) := by decide +kernel
theorem V.dX4_ratio_244 : decode cX4_ratio 244 = .ok (.bipush 59, 2) := by decide +kernel
theorem V.dX4_ratio_246 : decode cX4_ratio 246 = .ok (.isub, 1) := by decide +kernel
theorem V.dX4_ratio_247 : decode cX4_ratio 247 = .ok (.lload 6, 2) := by decide +kernel
theorem V.dX4_ratio_249 : decode cX4_ratio 249 = .ok (.lconst 0, 1) := by decide +kernel
theorem V.dX4_ratio_250 : decode cX4_ratio 250 = .ok (.lcmp, 1) := by decide +kernel
theorem V.dX4_ratio_251 : decode cX4_ratio 251 = .ok (.ifCond .eq 7, 3) := by decide +kernel
theorem V.dX4_ratio_254 : decode cX4_ratio 254 = .ok (.iconst 1, 1) := by decide +kernel
theorem V.dX4_ratio_255 : decode cX4_ratio 255 = .ok (.goto 4, 3) := by decide +kernel
theorem V.dX4_ratio_258 : decode cX4_ratio 258 = .ok (.iconst 0, 1) := by decide +kernel
theorem V.dX4_ratio_259 : decode cX4_ratio 259 = .ok (.invokevirtual 153, 3) := by decide +kernel
theorem V.dX4_ratio_262 : decode cX4_ratio 262 = .ok (.lreturn, 1) := by decide +kernel
/-! ModuleEngine$Numbers.ratio(LModuleEngine$Numbers$Format;JJ)J -/
def V.Num_ratio_p104  (σ : HS) (x0 : Nat) (x5 : Int32) : Option (Int64 × HS) :=
  ck (tg σ x0 = 6) <| cl (Fmt_signed σ x0 x5 (0 : Int64)) fun r2 σ1 =>
  some (r2, σ1)
theorem V.gX4_ratio_p104 {X : CX}  (σ : HS) (x0 : Nat) (x5 : Int32) : G X RX4 "ratio" cX4_ratio 15 (some .long) 4 86 enJ 104 [(0, av x0), (5, iv x5)] [] σ (Num_ratio_p104 σ x0 x5) := by
  unfold Num_ratio_p104
  refine g_aload_n 0 0 dX4_ratio_104 rfl rfl ?_
  refine g_iload 1 dX4_ratio_105 rfl ?_
  refine g_lconst (v := 0) dX4_ratio_107 (by decide) ?_
  refine g_callV (fc := fun sς => Fmt_signed sς x0 x5 (0 : Int64)) (ci := 5) (as := [iv x5, jv (0 : Int64)]) rfl rfl rfl q2586 q2587 mdX4_110 (ctX5_signed x0 x5 (0 : Int64)) rfl (Nat.le_of_ble_eq_true rfl) (Nat.le_of_ble_eq_true rfl) (Nat.le_of_ble_eq_true rfl) pu_J dX4_ratio_108 (fun r2 σ1 => ?_)
  exact g_lreturn rfl dX4_ratio_111
def V.Num_ratio_p259  (σ : HS) (s0 : Int32) (s1 : Int32) (s2 : Int64) (s3 : Int32) (s4 : Nat) : Option (Int64 × HS) :=
  ck (tg σ s4 = 6) <| cl (Fmt_round σ s4 s3 s2 s1 s0) fun r2 σ1 =>
  some (r2, σ1)
theorem V.gX4_ratio_p259 {X : CX}  (σ : HS) (s0 : Int32) (s1 : Int32) (s2 : Int64) (s3 : Int32) (s4 : Nat) : G X RX4 "ratio" cX4_ratio 15 (some .long) 4 86 enJ 259 [] [iv s0, iv s1, jv s2, iv s3, av s4] σ (Num_ratio_p259 σ s0 s1 s2 s3 s4) := by
  unfold Num_ratio_p259
  refine g_callV (fc := fun sς => Fmt_round sς s4 s3 s2 s1 s0) (ci := 5) (as := [iv s3, jv s2, iv s1, iv s0]) rfl rfl rfl q2617 q2618 mdX4_153 (ctX5_round s4 s3 s2 s1 s0) rfl (Nat.le_of_ble_eq_true rfl) (Nat.le_of_ble_eq_true rfl) (Nat.le_of_ble_eq_true rfl) pu_J dX4_ratio_259 (fun r2 σ1 => ?_)
  exact g_lreturn rfl dX4_ratio_262
def V.Num_ratio_p228 (rec169 : HS → Nat → Int32 → Int64 → Int64 → Int32 → Int64 → Int32 → Option (Int64 × HS)) (σ : HS) (x0 : Nat) (x5 : Int32) (x8 : Int64) (x10 : Int32) (x11 : Int64) (x13 : Int32) (s0 : Int64) (s1 : Int64) : Option (Int64 × HS) :=
  bn (s1 * s0) fun y1 =>
  bn (x13 + (1 : Int32)) fun y2 =>
  rec169 σ x0 x5 y1 x8 x10 x11 y2
theorem V.gX4_ratio_p228 {X : CX} (rec169 : HS → Nat → Int32 → Int64 → Int64 → Int32 → Int64 → Int32 → Option (Int64 × HS)) (hrec169 : ∀ (σ : HS) (x0 : Nat) (x5 : Int32) (x6 : Int64) (x8 : Int64) (x10 : Int32) (x11 : Int64) (x13 : Int32), G X RX4 "ratio" cX4_ratio 15 (some .long) 4 86 enJ 169 [(0, av x0), (5, iv x5), (6, jv x6), (8, jv x8), (10, iv x10), (11, jv x11), (13, iv x13)] [] σ (rec169 σ x0 x5 x6 x8 x10 x11 x13)) (σ : HS) (x0 : Nat) (x5 : Int32) (x8 : Int64) (x10 : Int32) (x11 : Int64) (x13 : Int32) (s0 : Int64) (s1 : Int64) : G X RX4 "ratio" cX4_ratio 15 (some .long) 4 86 enJ 228 [(0, av x0), (5, iv x5), (8, jv x8), (10, iv x10), (11, jv x11), (13, iv x13)] [jv s0, jv s1] σ (Num_ratio_p228 rec169 σ x0 x5 x8 x10 x11 x13 s0 s1) := by
  unfold Num_ratio_p228
  refine g_lmul dX4_ratio_228 ?_
  refine g_nmJ (fun y1 => ?_)
  refine g_lstore dX4_ratio_229 (by decide) rfl ?_
  refine g_iincB (w := 1) 6 dX4_ratio_231 rfl (by decide) (by decide) (fun _ => rfl) (fun y2 => ?_)
  refine g_goto 169 dX4_ratio_234 (by decide) ?_
  refine G.sub [2, 3, 1, 4, 5, 6, 0] rfl ?_
  exact hrec169 _ _ _ _ _ _ _ _
def V.Num_ratio_p207 (rec169 : HS → Nat → Int32 → Int64 → Int64 → Int32 → Int64 → Int32 → Option (Int64 × HS)) (σ : HS) (x0 : Nat) (x5 : Int32) (x6 : Int64) (x8 : Int64) (x10 : Int32) (x13 : Int32) (x14 : Int32) (s0 : Int64) (s1 : Int64) : Option (Int64 × HS) :=
  bn (s1 + s0) fun y1 =>
  if x14 = 0 then (
    Num_ratio_p228 rec169 σ x0 x5 x8 x10 y1 x13 x6 (2 : Int64))
  else (
    Num_ratio_p228 rec169 σ x0 x5 x8 x10 y1 x13 (x6 - x8) (2 : Int64))
theorem V.gX4_ratio_p207 {X : CX} (rec169 : HS → Nat → Int32 → Int64 → Int64 → Int32 → Int64 → Int32 → Option (Int64 × HS)) (hrec169 : ∀ (σ : HS) (x0 : Nat) (x5 : Int32) (x6 : Int64) (x8 : Int64) (x10 : Int32) (x11 : Int64) (x13 : Int32), G X RX4 "ratio" cX4_ratio 15 (some .long) 4 86 enJ 169 [(0, av x0), (5, iv x5), (6, jv x6), (8, jv x8), (10, iv x10), (11, jv x11), (13, iv x13)] [] σ (rec169 σ x0 x5 x6 x8 x10 x11 x13)) (σ : HS) (x0 : Nat) (x5 : Int32) (x6 : Int64) (x8 : Int64) (x10 : Int32) (x13 : Int32) (x14 : Int32) (s0 : Int64) (s1 : Int64) : G X RX4 "ratio" cX4_ratio 15 (some .long) 4 86 enJ 207 [(0, av x0), (5, iv x5), (6, jv x6), (8, jv x8), (10, iv x10), (13, iv x13), (14, iv x14)] [jv s0, jv s1] σ (Num_ratio_p207 rec169 σ x0 x5 x6 x8 x10 x13 x14 s0 s1) := by
  unfold Num_ratio_p207
  refine g_ladd dX4_ratio_207 ?_
  refine g_nmJ (fun y1 => ?_)
  refine g_lstore dX4_ratio_208 (by decide) rfl ?_
  refine g_ldc2 q2574 dX4_ratio_210 ?_
  refine g_iload 7 dX4_ratio_213 rfl ?_
  refine g_if_eq 226 dX4_ratio_215 (by decide) ?_ ?_
  · refine g_lload 3 dX4_ratio_226 rfl ?_
    refine G.sub [1, 2, 4, 5, 0, 6] rfl ?_
    exact gX4_ratio_p228 rec169 hrec169 _ _ _ _ _ _ _ _ _
  · refine g_lload 3 dX4_ratio_218 rfl ?_
    refine g_lload 4 dX4_ratio_220 rfl ?_
    refine g_lsub dX4_ratio_222 ?_
    refine g_goto 228 dX4_ratio_223 (by decide) ?_
    refine G.sub [1, 2, 4, 5, 0, 6] rfl ?_
    exact gX4_ratio_p228 rec169 hrec169 _ _ _ _ _ _ _ _ _
def V.Num_ratio_p189 (rec169 : HS → Nat → Int32 → Int64 → Int64 → Int32 → Int64 → Int32 → Option (Int64 × HS)) (σ : HS) (x0 : Nat) (x5 : Int32) (x6 : Int64) (x8 : Int64) (x10 : Int32) (x11 : Int64) (x13 : Int32) (s0 : Int32) : Option (Int64 × HS) :=
  if s0 = 0 then (
    Num_ratio_p207 rec169 σ x0 x5 x6 x8 x10 x13 s0 (0 : Int64) ((2 : Int64) * x11))
  else (
    Num_ratio_p207 rec169 σ x0 x5 x6 x8 x10 x13 s0 (1 : Int64) ((2 : Int64) * x11))
theorem V.gX4_ratio_p189 {X : CX} (rec169 : HS → Nat → Int32 → Int64 → Int64 → Int32 → Int64 → Int32 → Option (Int64 × HS)) (hrec169 : ∀ (σ : HS) (x0 : Nat) (x5 : Int32) (x6 : Int64) (x8 : Int64) (x10 : Int32) (x11 : Int64) (x13 : Int32), G X RX4 "ratio" cX4_ratio 15 (some .long) 4 86 enJ 169 [(0, av x0), (5, iv x5), (6, jv x6), (8, jv x8), (10, iv x10), (11, jv x11), (13, iv x13)] [] σ (rec169 σ x0 x5 x6 x8 x10 x11 x13)) (σ : HS) (x0 : Nat) (x5 : Int32) (x6 : Int64) (x8 : Int64) (x10 : Int32) (x11 : Int64) (x13 : Int32) (s0 : Int32) : G X RX4 "ratio" cX4_ratio 15 (some .long) 4 86 enJ 189 [(0, av x0), (5, iv x5), (6, jv x6), (8, jv x8), (10, iv x10), (11, jv x11), (13, iv x13)] [iv s0] σ (Num_ratio_p189 rec169 σ x0 x5 x6 x8 x10 x11 x13 s0) := by
  unfold Num_ratio_p189
  refine g_istore dX4_ratio_189 (by decide) rfl ?_
  refine g_ldc2 q2574 dX4_ratio_191 ?_
  refine g_lload 6 dX4_ratio_194 rfl ?_
  refine g_lmul dX4_ratio_196 ?_
  refine g_iload 0 dX4_ratio_197 rfl ?_
  refine g_if_eq 206 dX4_ratio_199 (by decide) ?_ ?_
  · refine g_lconst (v := 0) dX4_ratio_206 (by decide) ?_
    refine G.sub [1, 2, 3, 4, 5, 7, 0] rfl ?_
    exact gX4_ratio_p207 rec169 hrec169 _ _ _ _ _ _ _ _ _ _
  · refine g_lconst (v := 1) dX4_ratio_202 (by decide) ?_
    refine g_goto 207 dX4_ratio_203 (by decide) ?_
    refine G.sub [1, 2, 3, 4, 5, 7, 0] rfl ?_
    exact gX4_ratio_p207 rec169 hrec169 _ _ _ _ _ _ _ _ _ _
def V.Num_ratio_p169  : Nat → HS → Nat → Int32 → Int64 → Int64 → Int32 → Int64 → Int32 → Option (Int64 × HS)
  | 0, _, _, _, _, _, _, _, _ => none
  | n + 1, σ, x0, x5, x6, x8, x10, x11, x13 =>
    if (60 : Int32) ≤ x13 then (
      if x6 = (0 : Int64) then (
        Num_ratio_p259 σ (0 : Int32) (x10 - (59 : Int32)) x11 x5 x0)
      else (
        Num_ratio_p259 σ (1 : Int32) (x10 - (59 : Int32)) x11 x5 x0))
    else (
      if x6 < x8 then (
        Num_ratio_p189 (Num_ratio_p169 n) σ x0 x5 x6 x8 x10 x11 x13 (0 : Int32))
      else (
        Num_ratio_p189 (Num_ratio_p169 n) σ x0 x5 x6 x8 x10 x11 x13 (1 : Int32)))
theorem V.gX4_ratio_p169 {X : CX}  : ∀ (n : Nat) (σ : HS) (x0 : Nat) (x5 : Int32) (x6 : Int64) (x8 : Int64) (x10 : Int32) (x11 : Int64) (x13 : Int32), G X RX4 "ratio" cX4_ratio 15 (some .long) 4 86 enJ 169 [(0, av x0), (5, iv x5), (6, jv x6), (8, jv x8), (10, iv x10), (11, jv x11), (13, iv x13)] [] σ (Num_ratio_p169 n σ x0 x5 x6 x8 x10 x11 x13)
  | 0, σ, x0, x5, x6, x8, x10, x11, x13 => by rw [Num_ratio_p169]; exact G.nul
  | n + 1, σ, x0, x5, x6, x8, x10, x11, x13 => by
    rw [Num_ratio_p169]
    refine g_iload 6 dX4_ratio_169 rfl ?_
    refine g_bipush (v := 60) dX4_ratio_171 (by decide) ?_
    refine g_icmp_ge 237 dX4_ratio_173 (by decide) ?_ ?_
    · refine g_aload_n 0 0 dX4_ratio_237 rfl rfl ?_
      refine g_iload 1 dX4_ratio_238 rfl ?_
      refine g_lload 5 dX4_ratio_240 rfl ?_
      refine g_iload 4 dX4_ratio_242 rfl ?_
      refine g_bipush (v := 59) dX4_ratio_244 (by decide) ?_
      refine g_isub dX4_ratio_246 ?_
      refine g_lload 2 dX4_ratio_247 rfl ?_
      refine g_lconst (v := 0) dX4_ratio_249 (by decide) ?_
      refine g_lcmp_eq 258 dX4_ratio_250 dX4_ratio_251 (by decide) ?_ ?_
      · refine g_iconst (v := 0) dX4_ratio_258 (by decide) ?_
        refine G.sub [] rfl ?_
        exact gX4_ratio_p259 _ _ _ _ _ _
      · refine g_iconst (v := 1) dX4_ratio_254 (by decide) ?_
        refine g_goto 259 dX4_ratio_255 (by decide) ?_
        refine G.sub [] rfl ?_
        exact gX4_ratio_p259 _ _ _ _ _ _
    · refine g_lload 2 dX4_ratio_176 rfl ?_
      refine g_lload 3 dX4_ratio_178 rfl ?_
      refine g_lcmp_lt 188 dX4_ratio_180 dX4_ratio_181 (by decide) ?_ ?_
      · refine g_iconst (v := 0) dX4_ratio_188 (by decide) ?_
        exact gX4_ratio_p189 (Num_ratio_p169 n) (gX4_ratio_p169 n) _ _ _ _ _ _ _ _ _
      · refine g_iconst (v := 1) dX4_ratio_184 (by decide) ?_
        refine g_goto 189 dX4_ratio_185 (by decide) ?_
        exact gX4_ratio_p189 (Num_ratio_p169 n) (gX4_ratio_p169 n) _ _ _ _ _ _ _ _ _
def V.Num_ratio_p18  (σ : HS) (x0 : Nat) (x1 : Int64) (x3 : Int64) (s0 : Int32) : Option (Int64 × HS) :=
  ck (tg σ x0 = 6) <| cl (Fmt_isInfinite σ x0 x1) fun r2 σ1 =>
  if r2 = 0 then (
    ck (tg σ1 x0 = 6) <| cl (Fmt_isZero σ1 x0 x3) fun r4 σ3 =>
    if r4 = 0 then (
      ck (tg σ3 x0 = 6) <| cl (Fmt_isInfinite σ3 x0 x3) fun r6 σ5 =>
      if r6 = 0 then (
        ck (tg σ5 x0 = 6) <| cl (Fmt_isZero σ5 x0 x1) fun r8 σ7 =>
        if r8 = 0 then (
          ck (tg σ7 x0 = 6) <| cl (Fmt_significand σ7 x0 x1) fun r10 σ9 =>
          cl (Num_straight σ9 r10) fun r12 σ11 =>
          ck (tg σ11 x0 = 6) <| cl (Fmt_significand σ11 x0 x3) fun r14 σ13 =>
          cl (Num_straight σ13 r14) fun r16 σ15 =>
          ck (tg σ15 x0 = 6) <| cl (Fmt_scale σ15 x0 x1) fun r18 σ17 =>
          ck (tg σ17 x0 = 6) <| cl (Fmt_significand σ17 x0 x1) fun r20 σ19 =>
          cl (Num_places σ19 r20) fun r22 σ21 =>
          ck (tg σ21 x0 = 6) <| cl (Fmt_scale σ21 x0 x3) fun r24 σ23 =>
          ck (tg σ23 x0 = 6) <| cl (Fmt_significand σ23 x0 x3) fun r26 σ25 =>
          cl (Num_places σ25 r26) fun r28 σ27 =>
          bn (((r18 - r22) - r24) + r28) fun y29 =>
          Num_ratio_p169 FU σ27 x0 s0 r12 r16 y29 (0 : Int64) (0 : Int32))
        else (
          Num_ratio_p104 σ7 x0 s0))
      else (
        Num_ratio_p104 σ5 x0 s0))
    else (
      ck (tg σ3 x0 = 6) <| cl (Fmt_isZero σ3 x0 x1) fun r31 σ30 =>
      if r31 = 0 then (
        ck (tg σ30 x0 = 6) <|
        ck (tg σ30 x0 = 6) <| cl (Fmt_signed σ30 x0 s0 (gJ σ30 x0 5)) fun r33 σ32 =>
        some (r33, σ32))
      else (
        ck (tg σ30 x0 = 6) <|
        some (gJ σ30 x0 4, σ30))))
  else (
    ck (tg σ1 x0 = 6) <| cl (Fmt_isInfinite σ1 x0 x3) fun r35 σ34 =>
    if r35 = 0 then (
      ck (tg σ34 x0 = 6) <|
      ck (tg σ34 x0 = 6) <| cl (Fmt_signed σ34 x0 s0 (gJ σ34 x0 5)) fun r37 σ36 =>
      some (r37, σ36))
    else (
      ck (tg σ34 x0 = 6) <|
      some (gJ σ34 x0 4, σ34)))
theorem V.gX4_ratio_p18 {X : CX}  (σ : HS) (x0 : Nat) (x1 : Int64) (x3 : Int64) (s0 : Int32) : G X RX4 "ratio" cX4_ratio 15 (some .long) 4 86 enJ 18 [(0, av x0), (1, jv x1), (3, jv x3)] [iv s0] σ (Num_ratio_p18 σ x0 x1 x3 s0) := by
  unfold Num_ratio_p18
  refine g_istore dX4_ratio_18 (by decide) rfl ?_
  refine g_aload_n 0 1 dX4_ratio_20 rfl rfl ?_
  refine g_lload_n 1 2 dX4_ratio_21 rfl rfl ?_
  refine g_callV (fc := fun sς => Fmt_isInfinite sς x0 x1) (ci := 5) (as := [jv x1]) rfl rfl rfl q2601 q2602 mdX4_147 (ctX5_isInfinite x0 x1) rfl (Nat.le_of_ble_eq_true rfl) (Nat.le_of_ble_eq_true rfl) (Nat.le_of_ble_eq_true rfl) pu_I dX4_ratio_22 (fun r2 σ1 => ?_)
  refine g_if_eq 54 dX4_ratio_25 (by decide) ?_ ?_
  · refine g_aload_n 0 1 dX4_ratio_54 rfl rfl ?_
    refine g_lload_n 3 3 dX4_ratio_55 rfl rfl ?_
    refine g_callV (fc := fun sς => Fmt_isZero sς x0 x3) (ci := 5) (as := [jv x3]) rfl rfl rfl q2605 q2606 mdX4_140 (ctX5_isZero x0 x3) rfl (Nat.le_of_ble_eq_true rfl) (Nat.le_of_ble_eq_true rfl) (Nat.le_of_ble_eq_true rfl) pu_I dX4_ratio_56 (fun r4 σ3 => ?_)
    refine g_if_eq 88 dX4_ratio_59 (by decide) ?_ ?_
    · refine g_aload_n 0 1 dX4_ratio_88 rfl rfl ?_
      refine g_lload_n 3 3 dX4_ratio_89 rfl rfl ?_
      refine g_callV (fc := fun sς => Fmt_isInfinite sς x0 x3) (ci := 5) (as := [jv x3]) rfl rfl rfl q2601 q2602 mdX4_147 (ctX5_isInfinite x0 x3) rfl (Nat.le_of_ble_eq_true rfl) (Nat.le_of_ble_eq_true rfl) (Nat.le_of_ble_eq_true rfl) pu_I dX4_ratio_90 (fun r6 σ5 => ?_)
      refine g_if_ne 104 dX4_ratio_93 (by decide) ?_ ?_
      · refine G.sub [1, 0] rfl ?_
        exact gX4_ratio_p104 _ _ _
      · refine g_aload_n 0 1 dX4_ratio_96 rfl rfl ?_
        refine g_lload_n 1 2 dX4_ratio_97 rfl rfl ?_
        refine g_callV (fc := fun sς => Fmt_isZero sς x0 x1) (ci := 5) (as := [jv x1]) rfl rfl rfl q2605 q2606 mdX4_140 (ctX5_isZero x0 x1) rfl (Nat.le_of_ble_eq_true rfl) (Nat.le_of_ble_eq_true rfl) (Nat.le_of_ble_eq_true rfl) pu_I dX4_ratio_98 (fun r8 σ7 => ?_)
        refine g_if_eq 112 dX4_ratio_101 (by decide) ?_ ?_
        · refine g_aload_n 0 1 dX4_ratio_112 rfl rfl ?_
          refine g_lload_n 1 2 dX4_ratio_113 rfl rfl ?_
          refine g_callV (fc := fun sς => Fmt_significand sς x0 x1) (ci := 5) (as := [jv x1]) rfl rfl rfl q2609 q2610 mdX4_150 (ctX5_significand x0 x1) rfl (Nat.le_of_ble_eq_true rfl) (Nat.le_of_ble_eq_true rfl) (Nat.le_of_ble_eq_true rfl) pu_J dX4_ratio_114 (fun r10 σ9 => ?_)
          refine g_callS (fc := fun sς => Num_straight sς r10) (as := [jv r10]) q2626 mdX4_162 (ctX4_straight r10) rfl (Nat.le_of_ble_eq_true rfl) (Nat.le_of_ble_eq_true rfl) (Nat.le_of_ble_eq_true rfl) pu_J dX4_ratio_117 (fun r12 σ11 => ?_)
          refine g_lstore dX4_ratio_120 (by decide) rfl ?_
          refine g_aload_n 0 2 dX4_ratio_122 rfl rfl ?_
          refine g_lload_n 3 4 dX4_ratio_123 rfl rfl ?_
          refine g_callV (fc := fun sς => Fmt_significand sς x0 x3) (ci := 5) (as := [jv x3]) rfl rfl rfl q2609 q2610 mdX4_150 (ctX5_significand x0 x3) rfl (Nat.le_of_ble_eq_true rfl) (Nat.le_of_ble_eq_true rfl) (Nat.le_of_ble_eq_true rfl) pu_J dX4_ratio_124 (fun r14 σ13 => ?_)
          refine g_callS (fc := fun sς => Num_straight sς r14) (as := [jv r14]) q2626 mdX4_162 (ctX4_straight r14) rfl (Nat.le_of_ble_eq_true rfl) (Nat.le_of_ble_eq_true rfl) (Nat.le_of_ble_eq_true rfl) pu_J dX4_ratio_127 (fun r16 σ15 => ?_)
          refine g_lstore dX4_ratio_130 (by decide) rfl ?_
          refine g_aload_n 0 3 dX4_ratio_132 rfl rfl ?_
          refine g_lload_n 1 4 dX4_ratio_133 rfl rfl ?_
          refine g_callV (fc := fun sς => Fmt_scale sς x0 x1) (ci := 5) (as := [jv x1]) rfl rfl rfl q2593 q2594 mdX4_143 (ctX5_scale x0 x1) rfl (Nat.le_of_ble_eq_true rfl) (Nat.le_of_ble_eq_true rfl) (Nat.le_of_ble_eq_true rfl) pu_I dX4_ratio_134 (fun r18 σ17 => ?_)
          refine g_aload_n 0 3 dX4_ratio_137 rfl rfl ?_
          refine g_lload_n 1 4 dX4_ratio_138 rfl rfl ?_
          refine g_callV (fc := fun sς => Fmt_significand sς x0 x1) (ci := 5) (as := [jv x1]) rfl rfl rfl q2609 q2610 mdX4_150 (ctX5_significand x0 x1) rfl (Nat.le_of_ble_eq_true rfl) (Nat.le_of_ble_eq_true rfl) (Nat.le_of_ble_eq_true rfl) pu_J dX4_ratio_139 (fun r20 σ19 => ?_)
          refine g_callS (fc := fun sς => Num_places sς r20) (as := [jv r20]) q2630 mdX4_165 (ctX4_places r20) rfl (Nat.le_of_ble_eq_true rfl) (Nat.le_of_ble_eq_true rfl) (Nat.le_of_ble_eq_true rfl) pu_I dX4_ratio_142 (fun r22 σ21 => ?_)
          refine g_isub dX4_ratio_145 ?_
          refine g_aload_n 0 3 dX4_ratio_146 rfl rfl ?_
          refine g_lload_n 3 5 dX4_ratio_147 rfl rfl ?_
          refine g_callV (fc := fun sς => Fmt_scale sς x0 x3) (ci := 5) (as := [jv x3]) rfl rfl rfl q2593 q2594 mdX4_143 (ctX5_scale x0 x3) rfl (Nat.le_of_ble_eq_true rfl) (Nat.le_of_ble_eq_true rfl) (Nat.le_of_ble_eq_true rfl) pu_I dX4_ratio_148 (fun r24 σ23 => ?_)
          refine g_isub dX4_ratio_151 ?_
          refine g_aload_n 0 3 dX4_ratio_152 rfl rfl ?_
          refine g_lload_n 3 5 dX4_ratio_153 rfl rfl ?_
          refine g_callV (fc := fun sς => Fmt_significand sς x0 x3) (ci := 5) (as := [jv x3]) rfl rfl rfl q2609 q2610 mdX4_150 (ctX5_significand x0 x3) rfl (Nat.le_of_ble_eq_true rfl) (Nat.le_of_ble_eq_true rfl) (Nat.le_of_ble_eq_true rfl) pu_J dX4_ratio_154 (fun r26 σ25 => ?_)
          refine g_callS (fc := fun sς => Num_places sς r26) (as := [jv r26]) q2630 mdX4_165 (ctX4_places r26) rfl (Nat.le_of_ble_eq_true rfl) (Nat.le_of_ble_eq_true rfl) (Nat.le_of_ble_eq_true rfl) pu_I dX4_ratio_157 (fun r28 σ27 => ?_)
          refine g_iadd dX4_ratio_160 ?_
          refine g_nmI (fun y29 => ?_)
          refine g_istore dX4_ratio_161 (by decide) rfl ?_
          refine g_lconst (v := 0) dX4_ratio_163 (by decide) ?_
          refine g_lstore dX4_ratio_164 (by decide) rfl ?_
          refine g_iconst (v := 0) dX4_ratio_166 (by decide) ?_
          refine g_istore dX4_ratio_167 (by decide) rfl ?_
          refine G.sub [6, 5, 4, 3, 2, 1, 0] rfl ?_
          exact gX4_ratio_p169 FU _ _ _ _ _ _ _ _
        · refine G.sub [1, 0] rfl ?_
          exact gX4_ratio_p104 _ _ _
    · refine g_aload_n 0 1 dX4_ratio_62 rfl rfl ?_
      refine g_lload_n 1 2 dX4_ratio_63 rfl rfl ?_
      refine g_callV (fc := fun sς => Fmt_isZero sς x0 x1) (ci := 5) (as := [jv x1]) rfl rfl rfl q2605 q2606 mdX4_140 (ctX5_isZero x0 x1) rfl (Nat.le_of_ble_eq_true rfl) (Nat.le_of_ble_eq_true rfl) (Nat.le_of_ble_eq_true rfl) pu_I dX4_ratio_64 (fun r31 σ30 => ?_)
      refine g_if_eq 77 dX4_ratio_67 (by decide) ?_ ?_
      · refine g_aload_n 0 1 dX4_ratio_77 rfl rfl ?_
        refine g_iload 0 dX4_ratio_78 rfl ?_
        refine g_aload_n 0 1 dX4_ratio_80 rfl rfl ?_
        refine g_getJ fdX4_159 dX4_ratio_81 ?_
        refine g_callV (fc := fun sς => Fmt_signed sς x0 s0 (gJ σ30 x0 5)) (ci := 5) (as := [iv s0, jv (gJ σ30 x0 5)]) rfl rfl rfl q2586 q2587 mdX4_110 (ctX5_signed x0 s0 (gJ σ30 x0 5)) rfl (Nat.le_of_ble_eq_true rfl) (Nat.le_of_ble_eq_true rfl) (Nat.le_of_ble_eq_true rfl) pu_J dX4_ratio_84 (fun r33 σ32 => ?_)
        exact g_lreturn rfl dX4_ratio_87
      · refine g_aload_n 0 1 dX4_ratio_70 rfl rfl ?_
        refine g_getJ fdX4_114 dX4_ratio_71 ?_
        refine g_goto 87 dX4_ratio_74 (by decide) ?_
        exact g_lreturn rfl dX4_ratio_87
  · refine g_aload_n 0 1 dX4_ratio_28 rfl rfl ?_
    refine g_lload_n 3 3 dX4_ratio_29 rfl rfl ?_
    refine g_callV (fc := fun sς => Fmt_isInfinite sς x0 x3) (ci := 5) (as := [jv x3]) rfl rfl rfl q2601 q2602 mdX4_147 (ctX5_isInfinite x0 x3) rfl (Nat.le_of_ble_eq_true rfl) (Nat.le_of_ble_eq_true rfl) (Nat.le_of_ble_eq_true rfl) pu_I dX4_ratio_30 (fun r35 σ34 => ?_)
    refine g_if_eq 43 dX4_ratio_33 (by decide) ?_ ?_
    · refine g_aload_n 0 1 dX4_ratio_43 rfl rfl ?_
      refine g_iload 0 dX4_ratio_44 rfl ?_
      refine g_aload_n 0 1 dX4_ratio_46 rfl rfl ?_
      refine g_getJ fdX4_159 dX4_ratio_47 ?_
      refine g_callV (fc := fun sς => Fmt_signed sς x0 s0 (gJ σ34 x0 5)) (ci := 5) (as := [iv s0, jv (gJ σ34 x0 5)]) rfl rfl rfl q2586 q2587 mdX4_110 (ctX5_signed x0 s0 (gJ σ34 x0 5)) rfl (Nat.le_of_ble_eq_true rfl) (Nat.le_of_ble_eq_true rfl) (Nat.le_of_ble_eq_true rfl) pu_J dX4_ratio_50 (fun r37 σ36 => ?_)
      exact g_lreturn rfl dX4_ratio_53
    · refine g_aload_n 0 1 dX4_ratio_36 rfl rfl ?_
      refine g_getJ fdX4_114 dX4_ratio_37 ?_
      refine g_goto 53 dX4_ratio_40 (by decide) ?_
      exact g_lreturn rfl dX4_ratio_53
def V.Num_ratio (σ : HS) (x0 : Nat) (x1 : Int64) (x3 : Int64) : Option (Int64 × HS) :=
  ck (tg σ x0 = 6) <| cl (Fmt_sign σ x0 x1) fun r2 σ1 =>
  ck (tg σ1 x0 = 6) <| cl (Fmt_sign σ1 x0 x3) fun r4 σ3 =>
  if r2 = r4 then (
    Num_ratio_p18 σ3 x0 x1 x3 (0 : Int32))
  else (
    Num_ratio_p18 σ3 x0 x1 x3 (1 : Int32))
theorem V.ctX4_ratio (x0 : Nat) (x1 : Int64) (x3 : Int64) : Ct yX4_ratio  cX4_ratio 15 (some .long) 4 86 eJ [av x0, jv x1, jv x3] (fun σ => Num_ratio σ x0 x1 x3) := by
  refine Ct.of (own := RX4) (nm := "ratio") (desc := "(LModuleEngine$Numbers$Format;JJ)J") rfl (by decide) (Nat.le_of_ble_eq_true rfl) (by decide) (fun X σ => ?_)
  show G X RX4 "ratio" cX4_ratio 15 (some .long) 4 86 enJ 0 [(0, av x0), (1, jv x1), (3, jv x3)] [] σ (Num_ratio σ x0 x1 x3)
  unfold Num_ratio
  refine g_aload_n 0 0 dX4_ratio_0 rfl rfl ?_
  refine g_lload_n 1 1 dX4_ratio_1 rfl rfl ?_
  refine g_callV (fc := fun sς => Fmt_sign sς x0 x1) (ci := 5) (as := [jv x1]) rfl rfl rfl q2548 q2549 mdX4_99 (ctX5_sign x0 x1) rfl (Nat.le_of_ble_eq_true rfl) (Nat.le_of_ble_eq_true rfl) (Nat.le_of_ble_eq_true rfl) pu_I dX4_ratio_2 (fun r2 σ1 => ?_)
  refine g_aload_n 0 0 dX4_ratio_5 rfl rfl ?_
  refine g_lload_n 3 2 dX4_ratio_6 rfl rfl ?_
  refine g_callV (fc := fun sς => Fmt_sign sς x0 x3) (ci := 5) (as := [jv x3]) rfl rfl rfl q2548 q2549 mdX4_99 (ctX5_sign x0 x3) rfl (Nat.le_of_ble_eq_true rfl) (Nat.le_of_ble_eq_true rfl) (Nat.le_of_ble_eq_true rfl) pu_I dX4_ratio_7 (fun r4 σ3 => ?_)
  refine g_icmp_eq 17 dX4_ratio_10 (by decide) ?_ ?_
  · refine g_iconst (v := 0) dX4_ratio_17 (by decide) ?_
    exact gX4_ratio_p18 _ _ _ _ _
  · refine g_iconst (v := 1) dX4_ratio_13 (by decide) ?_
    refine g_goto 18 dX4_ratio_14 (by decide) ?_
    exact gX4_ratio_p18 _ _ _ _ _
theorem V.dX4_lesser_0 : decode cX4_lesser 0 = .ok (.aload_n 0, 1) := by decide +kernel
theorem V.dX4_lesser_1 : decode cX4_lesser 1 = .ok (.lload_n 2, 1) := by decide +kernel
theorem V.dX4_lesser_2 : decode cX4_lesser 2 = .ok (.invokevirtual 140, 3) := by decide +kernel
theorem V.dX4_lesser_5 : decode cX4_lesser 5 = .ok (.ifCond .eq 28, 3) := by decide +kernel
theorem V.dX4_lesser_8 : decode cX4_lesser 8 = .ok (.aload_n 0, 1) := by decide +kernel
theorem V.dX4_lesser_9 : decode cX4_lesser 9 = .ok (.lload 4, 2) := by decide +kernel
theorem V.dX4_lesser_11 : decode cX4_lesser 11 = .ok (.invokevirtual 140, 3) := by decide +kernel
theorem V.dX4_lesser_14 : decode cX4_lesser 14 = .ok (.ifCond .eq 19, 3) := by decide +kernel
theorem V.dX4_lesser_17 : decode cX4_lesser 17 = .ok (.iload_n 1, 1) := by decide +kernel
theorem V.dX4_lesser_18 : decode cX4_lesser 18 = .ok (.aload_n 0, 1) := by decide +kernel
theorem V.dX4_lesser_19 : decode cX4_lesser 19 = .ok (.lload_n 2, 1) := by decide +kernel
theorem V.dX4_lesser_20 : decode cX4_lesser 20 = .ok (.invokevirtual 99, 3) := by decide +kernel
theorem V.dX4_lesser_23 : decode cX4_lesser 23 = .ok (.if_icmp .ne 7, 3) := by decide +kernel
theorem V.dX4_lesser_26 : decode cX4_lesser 26 = .ok (.lload_n 2, 1) := by decide +kernel
theorem V.dX4_lesser_27 : decode cX4_lesser 27 = .ok (.goto 5, 3) := by decide +kernel
theorem V.dX4_lesser_30 : decode cX4_lesser 30 = .ok (.lload 4, 2) := by decide +kernel
theorem V.dX4_lesser_32 : decode cX4_lesser 32 = .ok (.lreturn, 1) := by decide +kernel
theorem V.dX4_lesser_33 : decode cX4_lesser 33 = .ok (.aload_n 0, 1) := by decide +kernel
theorem V.dX4_lesser_34 : decode cX4_lesser 34 = .ok (.iload_n 1, 1) := by decide +kernel
theorem V.dX4_lesser_35 : decode cX4_lesser 35 = .ok (.ifCond .eq 7, 3) := by decide +kernel
theorem V.dX4_lesser_38 : decode cX4_lesser 38 = .ok (.iconst 2, 1) := by decide +kernel
theorem V.dX4_lesser_39 : decode cX4_lesser 39 = .ok (.goto 4, 3) := by decide +kernel
theorem V.dX4_lesser_42 : decode cX4_lesser 42 = .ok (.iconst 3, 1) := by decide +kernel
theorem V.dX4_lesser_43 : decode cX4_lesser 43 = .ok (.lload_n 2, 1) := by decide +kernel
theorem V.dX4_lesser_44 : decode cX4_lesser 44 = .ok (.lload 4, 2) := by decide +kernel
theorem V.dX4_lesser_46 : decode cX4_lesser 46 = .ok (.invokestatic 37, 3) := by decide +kernel
theorem V.dX4_lesser_49 : decode cX4_lesser 49 = .ok (.ifCond .eq 7, 3) := by decide +kernel
theorem V.dX4_lesser_52 : decode cX4_lesser 52 = .ok (.lload_n 2, 1) := by decide +kernel
theorem V.dX4_lesser_53 : decode cX4_lesser 53 = .ok (.goto 5, 3) := by decide +kernel
theorem V.dX4_lesser_56 : decode cX4_lesser 56 = .ok (.lload 4, 2) := by decide +kernel
theorem V.dX4_lesser_58 : decode cX4_lesser 58 = .ok (.lreturn, 1) := by decide +kernel
theorem V.mdX4_37 : MD RX4 37 yX4_compareFloating cX4_compareFloating 10 (some .boolean) 4 := ⟨Or.inl q2532, q364, q2534, by decide, by decide, by decide +kernel⟩
/-! ModuleEngine$Numbers.lesser(LModuleEngine$Numbers$Format;ZJJ)J -/
def V.Num_lesser_p43  (σ : HS) (x2 : Int64) (x4 : Int64) (s0 : Int32) (s1 : Nat) : Option (Int64 × HS) :=
  cl (Num_compareFloating σ s1 s0 x2 x4) fun r2 σ1 =>
  if r2 = 0 then (
    some (x4, σ1))
  else (
    some (x2, σ1))
theorem V.gX4_lesser_p43 {X : CX}  (σ : HS) (x2 : Int64) (x4 : Int64) (s0 : Int32) (s1 : Nat) : G X RX4 "lesser" cX4_lesser 6 (some .long) 4 93 enJ 43 [(2, jv x2), (4, jv x4)] [iv s0, av s1] σ (Num_lesser_p43 σ x2 x4 s0 s1) := by
  unfold Num_lesser_p43
  refine g_lload_n 2 0 dX4_lesser_43 rfl rfl ?_
  refine g_lload 1 dX4_lesser_44 rfl ?_
  refine g_callS (fc := fun sς => Num_compareFloating sς s1 s0 x2 x4) (as := [av s1, iv s0, jv x2, jv x4]) q2533 mdX4_37 (ctX4_compareFloating s1 s0 x2 x4) rfl (Nat.le_of_ble_eq_true rfl) (Nat.le_of_ble_eq_true rfl) (Nat.le_of_ble_eq_true rfl) pu_I dX4_lesser_46 (fun r2 σ1 => ?_)
  refine g_if_eq 56 dX4_lesser_49 (by decide) ?_ ?_
  · refine g_lload 1 dX4_lesser_56 rfl ?_
    exact g_lreturn rfl dX4_lesser_58
  · refine g_lload_n 2 0 dX4_lesser_52 rfl rfl ?_
    refine g_goto 58 dX4_lesser_53 (by decide) ?_
    exact g_lreturn rfl dX4_lesser_58
def V.Num_lesser_p33  (σ : HS) (x0 : Nat) (x1 : Int32) (x2 : Int64) (x4 : Int64) : Option (Int64 × HS) :=
  if x1 = 0 then (
    Num_lesser_p43 σ x2 x4 (3 : Int32) x0)
  else (
    Num_lesser_p43 σ x2 x4 (2 : Int32) x0)
theorem V.gX4_lesser_p33 {X : CX}  (σ : HS) (x0 : Nat) (x1 : Int32) (x2 : Int64) (x4 : Int64) : G X RX4 "lesser" cX4_lesser 6 (some .long) 4 93 enJ 33 [(0, av x0), (1, iv x1), (2, jv x2), (4, jv x4)] [] σ (Num_lesser_p33 σ x0 x1 x2 x4) := by
  unfold Num_lesser_p33
  refine g_aload_n 0 0 dX4_lesser_33 rfl rfl ?_
  refine g_iload_n 1 1 dX4_lesser_34 rfl rfl ?_
  refine g_if_eq 42 dX4_lesser_35 (by decide) ?_ ?_
  · refine g_iconst (v := 3) dX4_lesser_42 (by decide) ?_
    refine G.sub [2, 3] rfl ?_
    exact gX4_lesser_p43 _ _ _ _ _
  · refine g_iconst (v := 2) dX4_lesser_38 (by decide) ?_
    refine g_goto 43 dX4_lesser_39 (by decide) ?_
    refine G.sub [2, 3] rfl ?_
    exact gX4_lesser_p43 _ _ _ _ _
def V.Num_lesser (σ : HS) (x0 : Nat) (x1 : Int32) (x2 : Int64) (x4 : Int64) : Option (Int64 × HS) :=
  ck (tg σ x0 = 6) <| cl (Fmt_isZero σ x0 x2) fun r2 σ1 =>
  if r2 = 0 then (
    Num_lesser_p33 σ1 x0 x1 x2 x4)
  else (
    ck (tg σ1 x0 = 6) <| cl (Fmt_isZero σ1 x0 x4) fun r4 σ3 =>
    if r4 = 0 then (
      Num_lesser_p33 σ3 x0 x1 x2 x4)
    else (
      ck (tg σ3 x0 = 6) <| cl (Fmt_sign σ3 x0 x2) fun r6 σ5 =>
      if x1 = r6 then (
        some (x2, σ5))
      else (
        some (x4, σ5))))
theorem V.ctX4_lesser (x0 : Nat) (x1 : Int32) (x2 : Int64) (x4 : Int64) : Ct yX4_lesser  cX4_lesser 6 (some .long) 4 93 eJ [av x0, iv x1, jv x2, jv x4] (fun σ => Num_lesser σ x0 x1 x2 x4) := by
  refine Ct.of (own := RX4) (nm := "lesser") (desc := "(LModuleEngine$Numbers$Format;ZJJ)J") rfl (by decide) (Nat.le_of_ble_eq_true rfl) (by decide) (fun X σ => ?_)
  show G X RX4 "lesser" cX4_lesser 6 (some .long) 4 93 enJ 0 [(0, av x0), (1, iv x1), (2, jv x2), (4, jv x4)] [] σ (Num_lesser σ x0 x1 x2 x4)
  unfold Num_lesser
  refine g_aload_n 0 0 dX4_lesser_0 rfl rfl ?_
  refine g_lload_n 2 2 dX4_lesser_1 rfl rfl ?_
  refine g_callV (fc := fun sς => Fmt_isZero sς x0 x2) (ci := 5) (as := [jv x2]) rfl rfl rfl q2605 q2606 mdX4_140 (ctX5_isZero x0 x2) rfl (Nat.le_of_ble_eq_true rfl) (Nat.le_of_ble_eq_true rfl) (Nat.le_of_ble_eq_true rfl) pu_I dX4_lesser_2 (fun r2 σ1 => ?_)
  refine g_if_eq 33 dX4_lesser_5 (by decide) ?_ ?_
  · exact gX4_lesser_p33 _ _ _ _ _
  · refine g_aload_n 0 0 dX4_lesser_8 rfl rfl ?_
    refine g_lload 3 dX4_lesser_9 rfl ?_
    refine g_callV (fc := fun sς => Fmt_isZero sς x0 x4) (ci := 5) (as := [jv x4]) rfl rfl rfl q2605 q2606 mdX4_140 (ctX5_isZero x0 x4) rfl (Nat.le_of_ble_eq_true rfl) (Nat.le_of_ble_eq_true rfl) (Nat.le_of_ble_eq_true rfl) pu_I dX4_lesser_11 (fun r4 σ3 => ?_)
    refine g_if_eq 33 dX4_lesser_14 (by decide) ?_ ?_
    · exact gX4_lesser_p33 _ _ _ _ _
    · refine g_iload_n 1 1 dX4_lesser_17 rfl rfl ?_
      refine g_aload_n 0 0 dX4_lesser_18 rfl rfl ?_
      refine g_lload_n 2 2 dX4_lesser_19 rfl rfl ?_
      refine g_callV (fc := fun sς => Fmt_sign sς x0 x2) (ci := 5) (as := [jv x2]) rfl rfl rfl q2548 q2549 mdX4_99 (ctX5_sign x0 x2) rfl (Nat.le_of_ble_eq_true rfl) (Nat.le_of_ble_eq_true rfl) (Nat.le_of_ble_eq_true rfl) pu_I dX4_lesser_20 (fun r6 σ5 => ?_)
      refine g_icmp_ne 30 dX4_lesser_23 (by decide) ?_ ?_
      · refine g_lload 3 dX4_lesser_30 rfl ?_
        exact g_lreturn rfl dX4_lesser_32
      · refine g_lload_n 2 2 dX4_lesser_26 rfl rfl ?_
        refine g_goto 32 dX4_lesser_27 (by decide) ?_
        exact g_lreturn rfl dX4_lesser_32
theorem V.dX4_floating_0 : decode cX4_floating 0 = .ok (.aload_n 1, 1) := by decide +kernel
theorem V.dX4_floating_1 : decode cX4_floating 1 = .ok (.invokevirtual 106, 3) := by decide +kernel
theorem V.dX4_floating_4 : decode cX4_floating 4 = .ok (.aload_n 1, 1) := by decide +kernel
theorem V.dX4_floating_5 : decode cX4_floating 5 = .ok (.invokevirtual 106, 3) := by decide +kernel
theorem V.dX4_floating_8 : decode cX4_floating 8 = .ok (.lconst 1, 1) := by decide +kernel
theorem V.dX4_floating_9 : decode cX4_floating 9 = .ok (.lsub, 1) := by decide +kernel
theorem V.dX4_floating_10 : decode cX4_floating 10 = .ok (.lor, 1) := by decide +kernel
theorem V.dX4_floating_11 : decode cX4_floating 11 = .ok (.lstore 7, 2) := by decide +kernel
theorem V.dX4_floating_13 : decode cX4_floating 13 = .ok (.lload_n 3, 1) := by decide +kernel
theorem V.dX4_floating_14 : decode cX4_floating 14 = .ok (.lload 7, 2) := by decide +kernel
theorem V.dX4_floating_16 : decode cX4_floating 16 = .ok (.land, 1) := by decide +kernel
theorem V.dX4_floating_17 : decode cX4_floating 17 = .ok (.lstore 9, 2) := by decide +kernel
theorem V.dX4_floating_19 : decode cX4_floating 19 = .ok (.lload 5, 2) := by decide +kernel
theorem V.dX4_floating_21 : decode cX4_floating 21 = .ok (.lload 7, 2) := by decide +kernel
theorem V.dX4_floating_23 : decode cX4_floating 23 = .ok (.land, 1) := by decide +kernel
theorem V.dX4_floating_24 : decode cX4_floating 24 = .ok (.lstore 11, 2) := by decide +kernel
theorem V.dX4_floating_26 : decode cX4_floating 26 = .ok (.iload_n 2, 1) := by decide +kernel
theorem V.dX4_floating_27 : decode cX4_floating 27 = .ok (.ifCond .ne 10, 3) := by decide +kernel
theorem V.dX4_floating_30 : decode cX4_floating 30 = .ok (.aload_n 1, 1) := by decide +kernel
theorem V.dX4_floating_31 : decode cX4_floating 31 = .ok (.lload 9, 2) := by decide +kernel
theorem V.dX4_floating_33 : decode cX4_floating 33 = .ok (.invokevirtual 102, 3) := by decide +kernel
theorem V.dX4_floating_36 : decode cX4_floating 36 = .ok (.lreturn, 1) := by decide +kernel
theorem V.dX4_floating_37 : decode cX4_floating 37 = .ok (.iload_n 2, 1) := by decide +kernel
theorem V.dX4_floating_38 : decode cX4_floating 38 = .ok (.iconst 1, 1) := by decide +kernel
theorem V.dX4_floating_39 : decode cX4_floating 39 = .ok (.if_icmp .ne 11, 3) := by decide +kernel
theorem V.dX4_floating_42 : decode cX4_floating 42 = .ok (.lload 9, 2) := by decide +kernel
theorem V.dX4_floating_44 : decode cX4_floating 44 = .ok (.aload_n 1, 1) := by decide +kernel
theorem V.dX4_floating_45 : decode cX4_floating 45 = .ok (.invokevirtual 106, 3) := by decide +kernel
theorem V.dX4_floating_48 : decode cX4_floating 48 = .ok (.lxor, 1) := by decide +kernel
theorem V.dX4_floating_49 : decode cX4_floating 49 = .ok (.lreturn, 1) := by decide +kernel
theorem V.dX4_floating_50 : decode cX4_floating 50 = .ok (.iload_n 2, 1) := by decide +kernel
theorem V.dX4_floating_51 : decode cX4_floating 51 = .ok (.bipush 13, 2) := by decide +kernel
theorem V.dX4_floating_53 : decode cX4_floating 53 = .ok (.if_icmp .ne 20, 3) := by decide +kernel
theorem V.dX4_floating_56 : decode cX4_floating 56 = .ok (.aload_n 1, 1) := by decide +kernel
theorem V.dX4_floating_57 : decode cX4_floating 57 = .ok (.aload_n 1, 1) := by decide +kernel
theorem V.dX4_floating_58 : decode cX4_floating 58 = .ok (.lload 11, 2) := by decide +kernel
theorem V.dX4_floating_60 : decode cX4_floating 60 = .ok (.invokevirtual 99, 3) := by decide +kernel
theorem V.dX4_floating_63 : decode cX4_floating 63 = .ok (.aload_n 1, 1) := by decide +kernel
theorem V.dX4_floating_64 : decode cX4_floating 64 = .ok (.lload 9, 2) := by decide +kernel
theorem V.dX4_floating_66 : decode cX4_floating 66 = .ok (.invokevirtual 102, 3) := by decide +kernel
theorem V.dX4_floating_69 : decode cX4_floating 69 = .ok (.invokevirtual 110, 3) := by decide +kernel
theorem V.dX4_floating_72 : decode cX4_floating 72 = .ok (.lreturn, 1) := by decide +kernel
theorem V.dX4_floating_73 : decode cX4_floating 73 = .ok (.aload_n 1, 1) := by decide +kernel
theorem V.dX4_floating_74 : decode cX4_floating 74 = .ok (.lload 9, 2) := by decide +kernel
theorem V.dX4_floating_76 : decode cX4_floating 76 = .ok (.invokevirtual 95, 3) := by decide +kernel
theorem V.dX4_floating_79 : decode cX4_floating 79 = .ok (.ifCond .ne 18, 3) := by decide +kernel
theorem V.dX4_floating_82 : decode cX4_floating 82 = .ok (.iload_n 2, 1) := by decide +kernel
theorem V.dX4_floating_83 : decode cX4_floating 83 = .ok (.bipush 6, 2) := by decide +kernel
theorem V.dX4_floating_85 : decode cX4_floating 85 = .ok (.if_icmp .le 17, 3) := by decide +kernel
theorem V.dX4_floating_88 : decode cX4_floating 88 = .ok (.aload_n 1, 1) := by decide +kernel
theorem V.dX4_floating_89 : decode cX4_floating 89 = .ok (.lload 11, 2) := by decide +kernel
theorem V.dX4_floating_91 : decode cX4_floating 91 = .ok (.invokevirtual 95, 3) := by decide +kernel
theorem V.dX4_floating_94 : decode cX4_floating 94 = .ok (.ifCond .eq 8, 3) := by decide +kernel
theorem V.dX4_floating_97 : decode cX4_floating 97 = .ok (.aload_n 1, 1) := by decide +kernel
theorem V.dX4_floating_98 : decode cX4_floating 98 = .ok (.getfield 114, 3) := by decide +kernel
theorem V.dX4_floating_101 : decode cX4_floating 101 = .ok (.lreturn, 1) := by decide +kernel
theorem V.dX4_floating_102 : decode cX4_floating 102 = .ok (.iload_n 2, 1) := by decide +kernel
theorem V.dX4_floating_103 : decode cX4_floating 103 = .ok (.tableswitch 105 2 10 #[49, 49, 49, 49, 57, 64, 73, 87, 96], 49) := by decide +kernel
theorem V.dX4_floating_152 : decode cX4_floating 152 = .ok (.aload_n 1, 1) := by decide +kernel
theorem V.dX4_floating_153 : decode cX4_floating 153 = .ok (.iload_n 2, 1) := by decide +kernel
theorem V.dX4_floating_154 : decode cX4_floating 154 = .ok (.lload 9, 2) := by decide +kernel
theorem V.dX4_floating_156 : decode cX4_floating 156 = .ok (.invokestatic 118, 3) := by decide +kernel
theorem V.dX4_floating_159 : decode cX4_floating 159 = .ok (.lreturn, 1) := by decide +kernel
theorem V.dX4_floating_160 : decode cX4_floating 160 = .ok (.aload_n 1, 1) := by decide +kernel
theorem V.dX4_floating_161 : decode cX4_floating 161 = .ok (.lload 9, 2) := by decide +kernel
theorem V.dX4_floating_163 : decode cX4_floating 163 = .ok (.invokestatic 122, 3) := by decide +kernel
theorem V.dX4_floating_166 : decode cX4_floating 166 = .ok (.lreturn, 1) := by decide +kernel
theorem V.dX4_floating_167 : decode cX4_floating 167 = .ok (.aload_n 1, 1) := by decide +kernel
theorem V.dX4_floating_168 : decode cX4_floating 168 = .ok (.lload 9, 2) := by decide +kernel
theorem V.dX4_floating_170 : decode cX4_floating 170 = .ok (.lload 11, 2) := by decide +kernel
theorem V.dX4_floating_172 : decode cX4_floating 172 = .ok (.invokestatic 126, 3) := by decide +kernel
theorem V.dX4_floating_175 : decode cX4_floating 175 = .ok (.lreturn, 1) := by decide +kernel
theorem V.dX4_floating_176 : decode cX4_floating 176 = .ok (.aload_n 1, 1) := by decide +kernel
theorem V.dX4_floating_177 : decode cX4_floating 177 = .ok (.lload 9, 2) := by decide +kernel
theorem V.dX4_floating_179 : decode cX4_floating 179 = .ok (.lload 11, 2) := by decide +kernel
theorem V.dX4_floating_181 : decode cX4_floating 181 = .ok (.aload_n 1, 1) := by decide +kernel
theorem V.dX4_floating_182 : decode cX4_floating 182 = .ok (.invokevirtual 106, 3) := by decide +kernel
theorem V.dX4_floating_185 : decode cX4_floating 185 = .ok (.lxor, 1) := by decide +kernel
theorem V.dX4_floating_186 : decode cX4_floating 186 = .ok (.invokestatic 126, 3) := by decide +kernel
theorem V.dX4_floating_189 : decode cX4_floating 189 = .ok (.lreturn, 1) := by decide +kernel
theorem V.dX4_floating_190 : decode cX4_floating 190 = .ok (.aload_n 1, 1) := by decide +kernel
theorem V.dX4_floating_191 : decode cX4_floating 191 = .ok (.lload 9, 2) := by decide +kernel
theorem V.dX4_floating_193 : decode cX4_floating 193 = .ok (.lload 11, 2) := by decide +kernel
theorem V.dX4_floating_195 : decode cX4_floating 195 = .ok (.invokestatic 130, 3) := by decide +kernel
theorem V.dX4_floating_198 : decode cX4_floating 198 = .ok (.lreturn, 1) := by decide +kernel
theorem V.dX4_floating_199 : decode cX4_floating 199 = .ok (.aload_n 1, 1) := by decide +kernel
theorem V.dX4_floating_200 : decode cX4_floating 200 = .ok (.lload 9, 2) := by decide +kernel
theorem V.dX4_floating_202 : decode cX4_floating 202 = .ok (.lload 11, 2) := by decide +kernel
theorem V.dX4_floating_204 : decode cX4_floating 204 = .ok (.invokestatic 133, 3) := by decide +kernel
theorem V.dX4_floating_207 : decode cX4_floating 207 = .ok (.lreturn, 1) := by decide +kernel
theorem V.dX4_floating_208 : decode cX4_floating 208 = .ok (.aload_n 1, 1) := by decide +kernel
theorem V.dX4_floating_209 : decode cX4_floating 209 = .ok (.iload_n 2, 1) := by decide +kernel
theorem V.dX4_floating_210 : decode cX4_floating 210 = .ok (.bipush 11, 2) := by decide +kernel
theorem V.dX4_floating_212 : decode cX4_floating 212 = .ok (.if_icmp .ne 7, 3) := by decide +kernel
theorem V.dX4_floating_215 : decode cX4_floating 215 = .ok (.iconst 1, 1) := by decide +kernel
theorem V.dX4_floating_216 : decode cX4_floating 216 = .ok (.goto 4, 3) := by decide +kernel
theorem V.dX4_floating_219 : decode cX4_floating 219 = .ok (.iconst 0, 1) := by decide +kernel
theorem V.dX4_floating_220 : decode cX4_floating 220 = .ok (.lload 9, 2) := by decide +kernel
theorem V.dX4_floating_222 : decode cX4_floating 222 = .ok (.lload 11, 2) := by decide +kernel
theorem V.dX4_floating_224 : decode cX4_floating 224 = .ok (.invokestatic 136, 3) := by decide +kernel
theorem V.dX4_floating_227 : decode cX4_floating 227 = .ok (.lreturn, 1) := by decide +kernel
theorem V.mdX4_106 : MD RX4 106 yX5_signBit cX5_signBit 1 (some .long) 0 := ⟨Or.inl q2584, q365, q2546, by decide, by decide, by decide +kernel⟩
theorem V.mdX4_122 : MD RX4 122 yX4_root cX4_root 12 (some .long) 2 := ⟨Or.inl q2622, q364, q2624, by decide, by decide, by decide +kernel⟩
theorem V.mdX4_126 : MD RX4 126 yX4_sum cX4_sum 19 (some .long) 3 := ⟨Or.inl q2634, q364, q2636, by decide, by decide, by decide +kernel⟩
theorem V.mdX4_130 : MD RX4 130 yX4_product cX4_product 29 (some .long) 3 := ⟨Or.inl q2637, q364, q2639, by decide, by decide, by decide +kernel⟩
theorem V.mdX4_133 : MD RX4 133 yX4_ratio cX4_ratio 15 (some .long) 3 := ⟨Or.inl q2642, q364, q2644, by decide, by decide, by decide +kernel⟩
theorem V.mdX4_118 : MD RX4 118 yX4_integral cX4_integral 15 (some .long) 3 := ⟨Or.inl q2589, q364, q2591, by decide, by decide, by decide +kernel⟩
theorem V.mdX4_136 : MD RX4 136 yX4_lesser cX4_lesser 6 (some .long) 4 := ⟨Or.inl q2645, q364, q2647, by decide, by decide, by decide +kernel⟩
/-! ModuleEngine$Numbers.floating(LModuleEngine$Numbers$Format;IJJ)J -/
def V.Num_floating_p97  (σ : HS) (x1 : Nat) : Option (Int64 × HS) :=
  ck (tg σ x1 = 6) <|
  some (gJ σ x1 4, σ)
theorem V.gX4_floating_p97 {X : CX}  (σ : HS) (x1 : Nat) : G X RX4 "floating" cX4_floating 13 (some .long) 5 134 enJ 97 [(1, av x1)] [] σ (Num_floating_p97 σ x1) := by
  unfold Num_floating_p97
  refine g_aload_n 1 0 dX4_floating_97 rfl rfl ?_
  refine g_getJ fdX4_114 dX4_floating_98 ?_
  exact g_lreturn rfl dX4_floating_101
def V.Num_floating_p152  (σ : HS) (x1 : Nat) (x2 : Int32) (x9 : Int64) : Option (Int64 × HS) :=
  cl (Num_integral σ x1 x2 x9) fun r2 σ1 =>
  some (r2, σ1)
theorem V.gX4_floating_p152 {X : CX}  (σ : HS) (x1 : Nat) (x2 : Int32) (x9 : Int64) : G X RX4 "floating" cX4_floating 13 (some .long) 5 134 enJ 152 [(1, av x1), (2, iv x2), (9, jv x9)] [] σ (Num_floating_p152 σ x1 x2 x9) := by
  unfold Num_floating_p152
  refine g_aload_n 1 0 dX4_floating_152 rfl rfl ?_
  refine g_iload_n 2 1 dX4_floating_153 rfl rfl ?_
  refine g_lload 2 dX4_floating_154 rfl ?_
  refine g_callS (fc := fun sς => Num_integral sς x1 x2 x9) (as := [av x1, iv x2, jv x9]) q2590 mdX4_118 (ctX4_integral x1 x2 x9) rfl (Nat.le_of_ble_eq_true rfl) (Nat.le_of_ble_eq_true rfl) (Nat.le_of_ble_eq_true rfl) pu_J dX4_floating_156 (fun r2 σ1 => ?_)
  exact g_lreturn rfl dX4_floating_159
def V.Num_floating_p220  (σ : HS) (x9 : Int64) (x11 : Int64) (s0 : Int32) (s1 : Nat) : Option (Int64 × HS) :=
  cl (Num_lesser σ s1 s0 x9 x11) fun r2 σ1 =>
  some (r2, σ1)
theorem V.gX4_floating_p220 {X : CX}  (σ : HS) (x9 : Int64) (x11 : Int64) (s0 : Int32) (s1 : Nat) : G X RX4 "floating" cX4_floating 13 (some .long) 5 134 enJ 220 [(9, jv x9), (11, jv x11)] [iv s0, av s1] σ (Num_floating_p220 σ x9 x11 s0 s1) := by
  unfold Num_floating_p220
  refine g_lload 0 dX4_floating_220 rfl ?_
  refine g_lload 1 dX4_floating_222 rfl ?_
  refine g_callS (fc := fun sς => Num_lesser sς s1 s0 x9 x11) (as := [av s1, iv s0, jv x9, jv x11]) q2646 mdX4_136 (ctX4_lesser s1 s0 x9 x11) rfl (Nat.le_of_ble_eq_true rfl) (Nat.le_of_ble_eq_true rfl) (Nat.le_of_ble_eq_true rfl) pu_J dX4_floating_224 (fun r2 σ1 => ?_)
  exact g_lreturn rfl dX4_floating_227
def V.Num_floating_p102  (σ : HS) (x1 : Nat) (x2 : Int32) (x9 : Int64) (x11 : Int64) : Option (Int64 × HS) :=
  swx x2 [
    (2, (
      Num_floating_p152 σ x1 x2 x9)),
    (3, (
      Num_floating_p152 σ x1 x2 x9)),
    (4, (
      Num_floating_p152 σ x1 x2 x9)),
    (5, (
      Num_floating_p152 σ x1 x2 x9)),
    (6, (
      cl (Num_root σ x1 x9) fun r2 σ1 =>
      some (r2, σ1))),
    (7, (
      cl (Num_sum σ x1 x9 x11) fun r4 σ3 =>
      some (r4, σ3))),
    (8, (
      ck (tg σ x1 = 6) <| cl (Fmt_signBit σ x1 ) fun r6 σ5 =>
      cl (Num_sum σ5 x1 x9 (x11 ^^^ r6)) fun r8 σ7 =>
      some (r8, σ7))),
    (9, (
      cl (Num_product σ x1 x9 x11) fun r10 σ9 =>
      some (r10, σ9))),
    (10, (
      cl (Num_ratio σ x1 x9 x11) fun r12 σ11 =>
      some (r12, σ11)))
    ] (
    if x2 = (11 : Int32) then (
      Num_floating_p220 σ x9 x11 (1 : Int32) x1)
    else (
      Num_floating_p220 σ x9 x11 (0 : Int32) x1))
theorem V.gX4_floating_p102 {X : CX}  (σ : HS) (x1 : Nat) (x2 : Int32) (x9 : Int64) (x11 : Int64) : G X RX4 "floating" cX4_floating 13 (some .long) 5 134 enJ 102 [(1, av x1), (2, iv x2), (9, jv x9), (11, jv x11)] [] σ (Num_floating_p102 σ x1 x2 x9 x11) := by
  unfold Num_floating_p102
  refine g_iload_n 2 1 dX4_floating_102 rfl rfl ?_
  refine g_tsw dX4_floating_103 (by decide +kernel) ?_
  refine g_case ex0 (t := 152) (by decide +kernel) ?_ (fun hx => ?_)
  · refine G.sub [0, 1, 2] rfl ?_
    exact gX4_floating_p152 _ _ _ _
  refine g_case hx (t := 152) (by decide +kernel) ?_ (fun hx => ?_)
  · refine G.sub [0, 1, 2] rfl ?_
    exact gX4_floating_p152 _ _ _ _
  refine g_case hx (t := 152) (by decide +kernel) ?_ (fun hx => ?_)
  · refine G.sub [0, 1, 2] rfl ?_
    exact gX4_floating_p152 _ _ _ _
  refine g_case hx (t := 152) (by decide +kernel) ?_ (fun hx => ?_)
  · refine G.sub [0, 1, 2] rfl ?_
    exact gX4_floating_p152 _ _ _ _
  refine g_case hx (t := 160) (by decide +kernel) ?_ (fun hx => ?_)
  · refine g_aload_n 1 0 dX4_floating_160 rfl rfl ?_
    refine g_lload 2 dX4_floating_161 rfl ?_
    refine g_callS (fc := fun sς => Num_root sς x1 x9) (as := [av x1, jv x9]) q2623 mdX4_122 (ctX4_root x1 x9) rfl (Nat.le_of_ble_eq_true rfl) (Nat.le_of_ble_eq_true rfl) (Nat.le_of_ble_eq_true rfl) pu_J dX4_floating_163 (fun r2 σ1 => ?_)
    exact g_lreturn rfl dX4_floating_166
  refine g_case hx (t := 167) (by decide +kernel) ?_ (fun hx => ?_)
  · refine g_aload_n 1 0 dX4_floating_167 rfl rfl ?_
    refine g_lload 2 dX4_floating_168 rfl ?_
    refine g_lload 3 dX4_floating_170 rfl ?_
    refine g_callS (fc := fun sς => Num_sum sς x1 x9 x11) (as := [av x1, jv x9, jv x11]) q2635 mdX4_126 (ctX4_sum x1 x9 x11) rfl (Nat.le_of_ble_eq_true rfl) (Nat.le_of_ble_eq_true rfl) (Nat.le_of_ble_eq_true rfl) pu_J dX4_floating_172 (fun r4 σ3 => ?_)
    exact g_lreturn rfl dX4_floating_175
  refine g_case hx (t := 176) (by decide +kernel) ?_ (fun hx => ?_)
  · refine g_aload_n 1 0 dX4_floating_176 rfl rfl ?_
    refine g_lload 2 dX4_floating_177 rfl ?_
    refine g_lload 3 dX4_floating_179 rfl ?_
    refine g_aload_n 1 0 dX4_floating_181 rfl rfl ?_
    refine g_callV (fc := fun sς => Fmt_signBit sς x1 ) (ci := 5) (as := []) rfl rfl rfl q2544 q2545 mdX4_106 (ctX5_signBit x1 ) rfl (Nat.le_of_ble_eq_true rfl) (Nat.le_of_ble_eq_true rfl) (Nat.le_of_ble_eq_true rfl) pu_J dX4_floating_182 (fun r6 σ5 => ?_)
    refine g_lxor dX4_floating_185 ?_
    refine g_callS (fc := fun sς => Num_sum sς x1 x9 (x11 ^^^ r6)) (as := [av x1, jv x9, jv (x11 ^^^ r6)]) q2635 mdX4_126 (ctX4_sum x1 x9 (x11 ^^^ r6)) rfl (Nat.le_of_ble_eq_true rfl) (Nat.le_of_ble_eq_true rfl) (Nat.le_of_ble_eq_true rfl) pu_J dX4_floating_186 (fun r8 σ7 => ?_)
    exact g_lreturn rfl dX4_floating_189
  refine g_case hx (t := 190) (by decide +kernel) ?_ (fun hx => ?_)
  · refine g_aload_n 1 0 dX4_floating_190 rfl rfl ?_
    refine g_lload 2 dX4_floating_191 rfl ?_
    refine g_lload 3 dX4_floating_193 rfl ?_
    refine g_callS (fc := fun sς => Num_product sς x1 x9 x11) (as := [av x1, jv x9, jv x11]) q2638 mdX4_130 (ctX4_product x1 x9 x11) rfl (Nat.le_of_ble_eq_true rfl) (Nat.le_of_ble_eq_true rfl) (Nat.le_of_ble_eq_true rfl) pu_J dX4_floating_195 (fun r10 σ9 => ?_)
    exact g_lreturn rfl dX4_floating_198
  refine g_case hx (t := 199) (by decide +kernel) ?_ (fun hx => ?_)
  · refine g_aload_n 1 0 dX4_floating_199 rfl rfl ?_
    refine g_lload 2 dX4_floating_200 rfl ?_
    refine g_lload 3 dX4_floating_202 rfl ?_
    refine g_callS (fc := fun sς => Num_ratio sς x1 x9 x11) (as := [av x1, jv x9, jv x11]) q2643 mdX4_133 (ctX4_ratio x1 x9 x11) rfl (Nat.le_of_ble_eq_true rfl) (Nat.le_of_ble_eq_true rfl) (Nat.le_of_ble_eq_true rfl) pu_J dX4_floating_204 (fun r12 σ11 => ?_)
    exact g_lreturn rfl dX4_floating_207
  refine g_dflt (t := 208) (tswT_d (by decide +kernel) (by decide +kernel) hx) ?_
  refine g_aload_n 1 0 dX4_floating_208 rfl rfl ?_
  refine g_iload_n 2 1 dX4_floating_209 rfl rfl ?_
  refine g_bipush (v := 11) dX4_floating_210 (by decide) ?_
  refine g_icmp_ne 219 dX4_floating_212 (by decide) ?_ ?_
  · refine g_iconst (v := 0) dX4_floating_219 (by decide) ?_
    refine G.sub [2, 3] rfl ?_
    exact gX4_floating_p220 _ _ _ _ _
  · refine g_iconst (v := 1) dX4_floating_215 (by decide) ?_
    refine g_goto 220 dX4_floating_216 (by decide) ?_
    refine G.sub [2, 3] rfl ?_
    exact gX4_floating_p220 _ _ _ _ _
def V.Num_floating (σ : HS) (x0 : Nat) (x1 : Nat) (x2 : Int32) (x3 : Int64) (x5 : Int64) : Option (Int64 × HS) :=
  ck (tg σ x1 = 6) <| cl (Fmt_signBit σ x1 ) fun r2 σ1 =>
  ck (tg σ1 x1 = 6) <| cl (Fmt_signBit σ1 x1 ) fun r4 σ3 =>
  bn (r2 ||| (r4 - (1 : Int64))) fun y5 =>
  bn (x3 &&& y5) fun y6 =>
  bn (x5 &&& y5) fun y7 =>
  if x2 = 0 then (
    ck (tg σ3 x1 = 6) <| cl (Fmt_rest σ3 x1 y6) fun r21 σ20 =>
    some (r21, σ20))
  else (
    if x2 = (1 : Int32) then (
      ck (tg σ3 x1 = 6) <| cl (Fmt_signBit σ3 x1 ) fun r19 σ18 =>
      some (y6 ^^^ r19, σ18))
    else (
      if x2 = (13 : Int32) then (
        ck (tg σ3 x1 = 6) <| cl (Fmt_sign σ3 x1 y7) fun r13 σ12 =>
        ck (tg σ12 x1 = 6) <| cl (Fmt_rest σ12 x1 y6) fun r15 σ14 =>
        ck (tg σ14 x1 = 6) <| cl (Fmt_signed σ14 x1 r13 r15) fun r17 σ16 =>
        some (r17, σ16))
      else (
        ck (tg σ3 x1 = 6) <| cl (Fmt_isNone σ3 x1 y6) fun r9 σ8 =>
        if r9 = 0 then (
          if x2 ≤ (6 : Int32) then (
            Num_floating_p102 σ8 x1 x2 y6 y7)
          else (
            ck (tg σ8 x1 = 6) <| cl (Fmt_isNone σ8 x1 y7) fun r11 σ10 =>
            if r11 = 0 then (
              Num_floating_p102 σ10 x1 x2 y6 y7)
            else (
              Num_floating_p97 σ10 x1)))
        else (
          Num_floating_p97 σ8 x1))))
theorem V.ctX4_floating (x0 : Nat) (x1 : Nat) (x2 : Int32) (x3 : Int64) (x5 : Int64) : Ct yX4_floating  cX4_floating 13 (some .long) 5 134 eJ [av x0, av x1, iv x2, jv x3, jv x5] (fun σ => Num_floating σ x0 x1 x2 x3 x5) := by
  refine Ct.of (own := RX4) (nm := "floating") (desc := "(LModuleEngine$Numbers$Format;IJJ)J") rfl (by decide) (Nat.le_of_ble_eq_true rfl) (by decide) (fun X σ => ?_)
  show G X RX4 "floating" cX4_floating 13 (some .long) 5 134 enJ 0 [(0, av x0), (1, av x1), (2, iv x2), (3, jv x3), (5, jv x5)] [] σ (Num_floating σ x0 x1 x2 x3 x5)
  unfold Num_floating
  refine g_aload_n 1 1 dX4_floating_0 rfl rfl ?_
  refine g_callV (fc := fun sς => Fmt_signBit sς x1 ) (ci := 5) (as := []) rfl rfl rfl q2544 q2545 mdX4_106 (ctX5_signBit x1 ) rfl (Nat.le_of_ble_eq_true rfl) (Nat.le_of_ble_eq_true rfl) (Nat.le_of_ble_eq_true rfl) pu_J dX4_floating_1 (fun r2 σ1 => ?_)
  refine g_aload_n 1 1 dX4_floating_4 rfl rfl ?_
  refine g_callV (fc := fun sς => Fmt_signBit sς x1 ) (ci := 5) (as := []) rfl rfl rfl q2544 q2545 mdX4_106 (ctX5_signBit x1 ) rfl (Nat.le_of_ble_eq_true rfl) (Nat.le_of_ble_eq_true rfl) (Nat.le_of_ble_eq_true rfl) pu_J dX4_floating_5 (fun r4 σ3 => ?_)
  refine g_lconst (v := 1) dX4_floating_8 (by decide) ?_
  refine g_lsub dX4_floating_9 ?_
  refine g_lor dX4_floating_10 ?_
  refine g_nmJ (fun y5 => ?_)
  refine g_lstore dX4_floating_11 (by decide) rfl ?_
  refine g_lload_n 3 4 dX4_floating_13 rfl rfl ?_
  refine g_lload 0 dX4_floating_14 rfl ?_
  refine g_land dX4_floating_16 ?_
  refine g_nmJ (fun y6 => ?_)
  refine g_lstore dX4_floating_17 (by decide) rfl ?_
  refine g_lload 6 dX4_floating_19 rfl ?_
  refine g_lload 1 dX4_floating_21 rfl ?_
  refine g_land dX4_floating_23 ?_
  refine g_nmJ (fun y7 => ?_)
  refine g_lstore dX4_floating_24 (by decide) rfl ?_
  refine g_iload_n 2 5 dX4_floating_26 rfl rfl ?_
  refine g_if_ne 37 dX4_floating_27 (by decide) ?_ ?_
  · refine g_iload_n 2 5 dX4_floating_37 rfl rfl ?_
    refine g_iconst (v := 1) dX4_floating_38 (by decide) ?_
    refine g_icmp_ne 50 dX4_floating_39 (by decide) ?_ ?_
    · refine g_iload_n 2 5 dX4_floating_50 rfl rfl ?_
      refine g_bipush (v := 13) dX4_floating_51 (by decide) ?_
      refine g_icmp_ne 73 dX4_floating_53 (by decide) ?_ ?_
      · refine g_aload_n 1 4 dX4_floating_73 rfl rfl ?_
        refine g_lload 1 dX4_floating_74 rfl ?_
        refine g_callV (fc := fun sς => Fmt_isNone sς x1 y6) (ci := 5) (as := [jv y6]) rfl rfl rfl q2536 q2537 mdX4_95 (ctX5_isNone x1 y6) rfl (Nat.le_of_ble_eq_true rfl) (Nat.le_of_ble_eq_true rfl) (Nat.le_of_ble_eq_true rfl) pu_I dX4_floating_76 (fun r9 σ8 => ?_)
        refine g_if_ne 97 dX4_floating_79 (by decide) ?_ ?_
        · refine G.sub [4] rfl ?_
          exact gX4_floating_p97 _ _
        · refine g_iload_n 2 5 dX4_floating_82 rfl rfl ?_
          refine g_bipush (v := 6) dX4_floating_83 (by decide) ?_
          refine g_icmp_le 102 dX4_floating_85 (by decide) ?_ ?_
          · refine G.sub [4, 5, 1, 0] rfl ?_
            exact gX4_floating_p102 _ _ _ _ _
          · refine g_aload_n 1 4 dX4_floating_88 rfl rfl ?_
            refine g_lload 0 dX4_floating_89 rfl ?_
            refine g_callV (fc := fun sς => Fmt_isNone sς x1 y7) (ci := 5) (as := [jv y7]) rfl rfl rfl q2536 q2537 mdX4_95 (ctX5_isNone x1 y7) rfl (Nat.le_of_ble_eq_true rfl) (Nat.le_of_ble_eq_true rfl) (Nat.le_of_ble_eq_true rfl) pu_I dX4_floating_91 (fun r11 σ10 => ?_)
            refine g_if_eq 102 dX4_floating_94 (by decide) ?_ ?_
            · refine G.sub [4, 5, 1, 0] rfl ?_
              exact gX4_floating_p102 _ _ _ _ _
            · refine G.sub [4] rfl ?_
              exact gX4_floating_p97 _ _
      · refine g_aload_n 1 4 dX4_floating_56 rfl rfl ?_
        refine g_aload_n 1 4 dX4_floating_57 rfl rfl ?_
        refine g_lload 0 dX4_floating_58 rfl ?_
        refine g_callV (fc := fun sς => Fmt_sign sς x1 y7) (ci := 5) (as := [jv y7]) rfl rfl rfl q2548 q2549 mdX4_99 (ctX5_sign x1 y7) rfl (Nat.le_of_ble_eq_true rfl) (Nat.le_of_ble_eq_true rfl) (Nat.le_of_ble_eq_true rfl) pu_I dX4_floating_60 (fun r13 σ12 => ?_)
        refine g_aload_n 1 4 dX4_floating_63 rfl rfl ?_
        refine g_lload 1 dX4_floating_64 rfl ?_
        refine g_callV (fc := fun sς => Fmt_rest sς x1 y6) (ci := 5) (as := [jv y6]) rfl rfl rfl q2540 q2541 mdX4_102 (ctX5_rest x1 y6) rfl (Nat.le_of_ble_eq_true rfl) (Nat.le_of_ble_eq_true rfl) (Nat.le_of_ble_eq_true rfl) pu_J dX4_floating_66 (fun r15 σ14 => ?_)
        refine g_callV (fc := fun sς => Fmt_signed sς x1 r13 r15) (ci := 5) (as := [iv r13, jv r15]) rfl rfl rfl q2586 q2587 mdX4_110 (ctX5_signed x1 r13 r15) rfl (Nat.le_of_ble_eq_true rfl) (Nat.le_of_ble_eq_true rfl) (Nat.le_of_ble_eq_true rfl) pu_J dX4_floating_69 (fun r17 σ16 => ?_)
        exact g_lreturn rfl dX4_floating_72
    · refine g_lload 1 dX4_floating_42 rfl ?_
      refine g_aload_n 1 4 dX4_floating_44 rfl rfl ?_
      refine g_callV (fc := fun sς => Fmt_signBit sς x1 ) (ci := 5) (as := []) rfl rfl rfl q2544 q2545 mdX4_106 (ctX5_signBit x1 ) rfl (Nat.le_of_ble_eq_true rfl) (Nat.le_of_ble_eq_true rfl) (Nat.le_of_ble_eq_true rfl) pu_J dX4_floating_45 (fun r19 σ18 => ?_)
      refine g_lxor dX4_floating_48 ?_
      exact g_lreturn rfl dX4_floating_49
  · refine g_aload_n 1 4 dX4_floating_30 rfl rfl ?_
    refine g_lload 1 dX4_floating_31 rfl ?_
    refine g_callV (fc := fun sς => Fmt_rest sς x1 y6) (ci := 5) (as := [jv y6]) rfl rfl rfl q2540 q2541 mdX4_102 (ctX5_rest x1 y6) rfl (Nat.le_of_ble_eq_true rfl) (Nat.le_of_ble_eq_true rfl) (Nat.le_of_ble_eq_true rfl) pu_J dX4_floating_33 (fun r21 σ20 => ?_)
    exact g_lreturn rfl dX4_floating_36
