set_option maxRecDepth 100000
theorem V.dX16_bytesOf_0 : decode cX16_bytesOf 0 = .ok (.iload_n 0, 1) := by decide +kernel
theorem V.dX16_bytesOf_1 : decode cX16_bytesOf 1 = .ok (.tableswitch 114 40 62 #[107, 109, 107, 109, 114, 114, 112, 112, 114, 114, 112, 112, 107, 107, 107, 109, 107, 109, 114, 112, 114, 112, 107], 107) := by decide +kernel
theorem V.dX16_bytesOf_108 : decode cX16_bytesOf 108 = .ok (.iconst 4, 1) := by decide +kernel
theorem V.dX16_bytesOf_109 : decode cX16_bytesOf 109 = .ok (.ireturn, 1) := by decide +kernel
theorem V.dX16_bytesOf_110 : decode cX16_bytesOf 110 = .ok (.bipush 8, 2) := by decide +kernel
theorem V.dX16_bytesOf_112 : decode cX16_bytesOf 112 = .ok (.ireturn, 1) := by decide +kernel
theorem V.dX16_bytesOf_113 : decode cX16_bytesOf 113 = .ok (.iconst 2, 1) := by decide +kernel
theorem V.dX16_bytesOf_114 : decode cX16_bytesOf 114 = .ok (.ireturn, 1) := by decide +kernel
theorem V.dX16_bytesOf_115 : decode cX16_bytesOf 115 = .ok (.iconst 1, 1) := by decide +kernel
theorem V.dX16_bytesOf_116 : decode cX16_bytesOf 116 = .ok (.ireturn, 1) := by decide +kernel
/-! ModuleEngine$Runner.bytesOf(I)I -/
def V.Run_bytesOf (σ : HS) (x0 : Int32) : Option (Int32 × HS) :=
  swx x0 [
    (40, (
      some ((4 : Int32), σ))),
    (41, (
      some ((8 : Int32), σ))),
    (42, (
      some ((4 : Int32), σ))),
    (43, (
      some ((8 : Int32), σ))),
    (46, (
      some ((2 : Int32), σ))),
    (47, (
      some ((2 : Int32), σ))),
    (50, (
      some ((2 : Int32), σ))),
    (51, (
      some ((2 : Int32), σ))),
    (52, (
      some ((4 : Int32), σ))),
    (53, (
      some ((4 : Int32), σ))),
    (54, (
      some ((4 : Int32), σ))),
    (55, (
      some ((8 : Int32), σ))),
    (56, (
      some ((4 : Int32), σ))),
    (57, (
      some ((8 : Int32), σ))),
    (59, (
      some ((2 : Int32), σ))),
    (61, (
      some ((2 : Int32), σ))),
    (62, (
      some ((4 : Int32), σ)))
    ] (
    some ((1 : Int32), σ))
theorem V.ctX16_bytesOf (x0 : Int32) : Ct yX16_bytesOf  cX16_bytesOf 1 (some .int) 0 0 eI [iv x0] (fun σ => Run_bytesOf σ x0) := by
  refine Ct.of (own := RX16) (nm := "bytesOf") (desc := "(I)I") rfl (by decide) (Nat.le_of_ble_eq_true rfl) (by decide) (fun X σ => ?_)
  show G X RX16 "bytesOf" cX16_bytesOf 1 (some .int) 0 0 enI 0 [(0, iv x0)] [] σ (Run_bytesOf σ x0)
  unfold Run_bytesOf
  refine g_iload_n 0 0 dX16_bytesOf_0 rfl rfl ?_
  refine g_tsw dX16_bytesOf_1 (by decide +kernel) ?_
  refine g_case ex0 (t := 108) (by decide +kernel) ?_ (fun hx => ?_)
  · refine g_iconst (v := 4) dX16_bytesOf_108 (by decide) ?_
    exact g_ireturn rfl dX16_bytesOf_109
  refine g_case hx (t := 110) (by decide +kernel) ?_ (fun hx => ?_)
  · refine g_bipush (v := 8) dX16_bytesOf_110 (by decide) ?_
    exact g_ireturn rfl dX16_bytesOf_112
  refine g_case hx (t := 108) (by decide +kernel) ?_ (fun hx => ?_)
  · refine g_iconst (v := 4) dX16_bytesOf_108 (by decide) ?_
    exact g_ireturn rfl dX16_bytesOf_109
  refine g_case hx (t := 110) (by decide +kernel) ?_ (fun hx => ?_)
  · refine g_bipush (v := 8) dX16_bytesOf_110 (by decide) ?_
    exact g_ireturn rfl dX16_bytesOf_112
  refine g_case hx (t := 113) (by decide +kernel) ?_ (fun hx => ?_)
  · refine g_iconst (v := 2) dX16_bytesOf_113 (by decide) ?_
    exact g_ireturn rfl dX16_bytesOf_114
  refine g_case hx (t := 113) (by decide +kernel) ?_ (fun hx => ?_)
  · refine g_iconst (v := 2) dX16_bytesOf_113 (by decide) ?_
    exact g_ireturn rfl dX16_bytesOf_114
  refine g_case hx (t := 113) (by decide +kernel) ?_ (fun hx => ?_)
  · refine g_iconst (v := 2) dX16_bytesOf_113 (by decide) ?_
    exact g_ireturn rfl dX16_bytesOf_114
  refine g_case hx (t := 113) (by decide +kernel) ?_ (fun hx => ?_)
  · refine g_iconst (v := 2) dX16_bytesOf_113 (by decide) ?_
    exact g_ireturn rfl dX16_bytesOf_114
  refine g_case hx (t := 108) (by decide +kernel) ?_ (fun hx => ?_)
  · refine g_iconst (v := 4) dX16_bytesOf_108 (by decide) ?_
    exact g_ireturn rfl dX16_bytesOf_109
  refine g_case hx (t := 108) (by decide +kernel) ?_ (fun hx => ?_)
  · refine g_iconst (v := 4) dX16_bytesOf_108 (by decide) ?_
    exact g_ireturn rfl dX16_bytesOf_109
  refine g_case hx (t := 108) (by decide +kernel) ?_ (fun hx => ?_)
  · refine g_iconst (v := 4) dX16_bytesOf_108 (by decide) ?_
    exact g_ireturn rfl dX16_bytesOf_109
  refine g_case hx (t := 110) (by decide +kernel) ?_ (fun hx => ?_)
  · refine g_bipush (v := 8) dX16_bytesOf_110 (by decide) ?_
    exact g_ireturn rfl dX16_bytesOf_112
  refine g_case hx (t := 108) (by decide +kernel) ?_ (fun hx => ?_)
  · refine g_iconst (v := 4) dX16_bytesOf_108 (by decide) ?_
    exact g_ireturn rfl dX16_bytesOf_109
  refine g_case hx (t := 110) (by decide +kernel) ?_ (fun hx => ?_)
  · refine g_bipush (v := 8) dX16_bytesOf_110 (by decide) ?_
    exact g_ireturn rfl dX16_bytesOf_112
  refine g_case hx (t := 113) (by decide +kernel) ?_ (fun hx => ?_)
  · refine g_iconst (v := 2) dX16_bytesOf_113 (by decide) ?_
    exact g_ireturn rfl dX16_bytesOf_114
  refine g_case hx (t := 113) (by decide +kernel) ?_ (fun hx => ?_)
  · refine g_iconst (v := 2) dX16_bytesOf_113 (by decide) ?_
    exact g_ireturn rfl dX16_bytesOf_114
  refine g_case hx (t := 108) (by decide +kernel) ?_ (fun hx => ?_)
  · refine g_iconst (v := 4) dX16_bytesOf_108 (by decide) ?_
    exact g_ireturn rfl dX16_bytesOf_109
  refine g_dflt (t := 115) (tswT_d (by decide +kernel) (by decide +kernel) hx) ?_
  refine g_iconst (v := 1) dX16_bytesOf_115 (by decide) ?_
  exact g_ireturn rfl dX16_bytesOf_116
theorem V.dX16_isIn_0 : decode cX16_isIn 0 = .ok (.lload_n 2, 1) := by decide +kernel
theorem V.dX16_isIn_1 : decode cX16_isIn 1 = .ok (.iload_n 1, 1) := by decide +kernel
theorem V.dX16_isIn_2 : decode cX16_isIn 2 = .ok (.invokestatic 243, 3) := by decide +kernel
theorem V.dX16_isIn_5 : decode cX16_isIn 5 = .ok (.i2l, 1) := by decide +kernel
theorem V.dX16_isIn_6 : decode cX16_isIn 6 = .ok (.ladd, 1) := by decide +kernel
theorem V.dX16_isIn_7 : decode cX16_isIn 7 = .ok (.aload_n 0, 1) := by decide +kernel
theorem V.dX16_isIn_8 : decode cX16_isIn 8 = .ok (.getfield 54, 3) := by decide +kernel
theorem V.dX16_isIn_11 : decode cX16_isIn 11 = .ok (.getfield 246, 3) := by decide +kernel
theorem V.dX16_isIn_14 : decode cX16_isIn 14 = .ok (.aload_n 0, 1) := by decide +kernel
theorem V.dX16_isIn_15 : decode cX16_isIn 15 = .ok (.invokevirtual 250, 3) := by decide +kernel
theorem V.dX16_isIn_18 : decode cX16_isIn 18 = .ok (.invokevirtual 253, 3) := by decide +kernel
theorem V.dX16_isIn_21 : decode cX16_isIn 21 = .ok (.lcmp, 1) := by decide +kernel
theorem V.dX16_isIn_22 : decode cX16_isIn 22 = .ok (.ifCond .gt 5, 3) := by decide +kernel
theorem V.dX16_isIn_25 : decode cX16_isIn 25 = .ok (.iconst 1, 1) := by decide +kernel
theorem V.dX16_isIn_26 : decode cX16_isIn 26 = .ok (.ireturn, 1) := by decide +kernel
theorem V.dX16_isIn_27 : decode cX16_isIn 27 = .ok (.aload_n 0, 1) := by decide +kernel
theorem V.dX16_isIn_28 : decode cX16_isIn 28 = .ok (.iconst 5, 1) := by decide +kernel
theorem V.dX16_isIn_29 : decode cX16_isIn 29 = .ok (.invokevirtual 226, 3) := by decide +kernel
theorem V.dX16_isIn_32 : decode cX16_isIn 32 = .ok (.iconst 0, 1) := by decide +kernel
theorem V.dX16_isIn_33 : decode cX16_isIn 33 = .ok (.ireturn, 1) := by decide +kernel
theorem V.mdX16_243 : MD RX16 243 yX16_bytesOf cX16_bytesOf 1 (some .int) 1 := ⟨Or.inl q2817, q376, q2819, by decide, by decide, by decide +kernel⟩
/-! ModuleEngine$Runner.isIn(IJ)Z -/
def V.Run_isIn (σ : HS) (x0 : Nat) (x1 : Int32) (x2 : Int64) : Option (Int32 × HS) :=
  cl (Run_bytesOf σ x1) fun r2 σ1 =>
  ck (tg σ1 x0 = 17) <|
  ck (tg σ1 (gR σ1 x0 3) = 14) <|
  ck (tg σ1 x0 = 17) <| cl (Run_memory σ1 x0 ) fun r4 σ3 =>
  ck (tg σ3 (gR σ1 (gR σ1 x0 3) 8) = 16) <| cl (Pag_end σ3 (gR σ1 (gR σ1 x0 3) 8) r4) fun r6 σ5 =>
  if r6 < (x2 + r2.toInt64) then (
    ck (tg σ5 x0 = 17) <| cl (Run_stop σ5 x0 (5 : Int32)) fun _ σ7 =>
    some ((0 : Int32), σ7))
  else (
    some ((1 : Int32), σ5))
theorem V.ctX16_isIn (x0 : Nat) (x1 : Int32) (x2 : Int64) : Ct yX16_isIn  cX16_isIn 4 (some .boolean) 3 61 eI [av x0, iv x1, jv x2] (fun σ => Run_isIn σ x0 x1 x2) := by
  refine Ct.of (own := RX16) (nm := "isIn") (desc := "(IJ)Z") rfl (by decide) (Nat.le_of_ble_eq_true rfl) (by decide) (fun X σ => ?_)
  show G X RX16 "isIn" cX16_isIn 4 (some .boolean) 3 61 enI 0 [(0, av x0), (1, iv x1), (2, jv x2)] [] σ (Run_isIn σ x0 x1 x2)
  unfold Run_isIn
  refine g_lload_n 2 2 dX16_isIn_0 rfl rfl ?_
  refine g_iload_n 1 1 dX16_isIn_1 rfl rfl ?_
  refine g_callS (fc := fun sς => Run_bytesOf sς x1) (as := [iv x1]) q2818 mdX16_243 (ctX16_bytesOf x1) rfl (Nat.le_of_ble_eq_true rfl) (Nat.le_of_ble_eq_true rfl) (Nat.le_of_ble_eq_true rfl) pu_I dX16_isIn_2 (fun r2 σ1 => ?_)
  refine g_i2l dX16_isIn_5 ?_
  refine g_ladd dX16_isIn_6 ?_
  refine g_aload_n 0 0 dX16_isIn_7 rfl rfl ?_
  refine g_getR fdX16_54 dX16_isIn_8 ?_
  refine g_getR fdX16_246 dX16_isIn_11 ?_
  refine g_aload_n 0 0 dX16_isIn_14 rfl rfl ?_
  refine g_callV (fc := fun sς => Run_memory sς x0 ) (ci := 16) (as := []) rfl rfl rfl q2754 qs189 mdX16_250 (ctX16_memory x0 ) rfl (Nat.le_of_ble_eq_true rfl) (Nat.le_of_ble_eq_true rfl) (Nat.le_of_ble_eq_true rfl) pu_I dX16_isIn_15 (fun r4 σ3 => ?_)
  refine g_callV (fc := fun sς => Pag_end sς (gR σ1 (gR σ1 x0 3) 8) r4) (ci := 15) (as := [iv r4]) rfl rfl rfl q2340 q2341 mdX16_253 (ctX15_end (gR σ1 (gR σ1 x0 3) 8) r4) rfl (Nat.le_of_ble_eq_true rfl) (Nat.le_of_ble_eq_true rfl) (Nat.le_of_ble_eq_true rfl) pu_J dX16_isIn_18 (fun r6 σ5 => ?_)
  refine g_lcmp_gt 27 dX16_isIn_21 dX16_isIn_22 (by decide) ?_ ?_
  · refine g_aload_n 0 0 dX16_isIn_27 rfl rfl ?_
    refine g_iconst (v := 5) dX16_isIn_28 (by decide) ?_
    refine g_callV (fc := fun sς => Run_stop sς x0 (5 : Int32)) (ci := 16) (as := [iv (5 : Int32)]) rfl rfl rfl q2364 q2365 mdX16_226 (ctX16_stop x0 (5 : Int32)) rfl (Nat.le_of_ble_eq_true rfl) (Nat.le_of_ble_eq_true rfl) (Nat.le_of_ble_eq_true rfl) pu_V dX16_isIn_29 (fun _ σ7 => ?_)
    refine g_iconst (v := 0) dX16_isIn_32 (by decide) ?_
    exact g_zreturn rfl (by decide +kernel) dX16_isIn_33
  · refine g_iconst (v := 1) dX16_isIn_25 (by decide) ?_
    exact g_zreturn rfl (by decide +kernel) dX16_isIn_26
theorem V.dX16_load_0 : decode cX16_load 0 = .ok (.iload_n 1, 1) := by decide +kernel
theorem V.dX16_load_1 : decode cX16_load 1 = .ok (.invokestatic 243, 3) := by decide +kernel
theorem V.dX16_load_4 : decode cX16_load 4 = .ok (.istore 4, 2) := by decide +kernel
theorem V.dX16_load_6 : decode cX16_load 6 = .ok (.aload_n 0, 1) := by decide +kernel
theorem V.dX16_load_7 : decode cX16_load 7 = .ok (.getfield 54, 3) := by decide +kernel
theorem V.dX16_load_10 : decode cX16_load 10 = .ok (.getfield 246, 3) := by decide +kernel
theorem V.dX16_load_13 : decode cX16_load 13 = .ok (.aload_n 0, 1) := by decide +kernel
theorem V.dX16_load_14 : decode cX16_load 14 = .ok (.invokevirtual 250, 3) := by decide +kernel
theorem V.dX16_load_17 : decode cX16_load 17 = .ok (.lload_n 2, 1) := by decide +kernel
theorem V.dX16_load_18 : decode cX16_load 18 = .ok (.iload 4, 2) := by decide +kernel
theorem V.dX16_load_20 : decode cX16_load 20 = .ok (.invokevirtual 258, 3) := by decide +kernel
theorem V.dX16_load_23 : decode cX16_load 23 = .ok (.lstore 5, 2) := by decide +kernel
theorem V.dX16_load_25 : decode cX16_load 25 = .ok (.iload_n 1, 1) := by decide +kernel
theorem V.dX16_load_26 : decode cX16_load 26 = .ok (.bipush 44, 2) := by decide +kernel
theorem V.dX16_load_28 : decode cX16_load 28 = .ok (.if_icmp .lt 10, 3) := by decide +kernel
theorem V.dX16_load_31 : decode cX16_load 31 = .ok (.iload_n 1, 1) := by decide +kernel
theorem V.dX16_load_32 : decode cX16_load 32 = .ok (.iconst 2, 1) := by decide +kernel
theorem V.dX16_load_33 : decode cX16_load 33 = .ok (.irem, 1) := by decide +kernel
theorem V.dX16_load_34 : decode cX16_load 34 = .ok (.iconst 1, 1) := by decide +kernel
theorem V.dX16_load_35 : decode cX16_load 35 = .ok (.if_icmp .ne 6, 3) := by decide +kernel
theorem V.dX16_load_38 : decode cX16_load 38 = .ok (.lload 5, 2) := by decide +kernel
theorem V.dX16_load_40 : decode cX16_load 40 = .ok (.lreturn, 1) := by decide +kernel
theorem V.dX16_load_41 : decode cX16_load 41 = .ok (.lload 5, 2) := by decide +kernel
theorem V.dX16_load_43 : decode cX16_load 43 = .ok (.bipush 64, 2) := by decide +kernel
theorem V.dX16_load_45 : decode cX16_load 45 = .ok (.bipush 8, 2) := by decide +kernel
theorem V.dX16_load_47 : decode cX16_load 47 = .ok (.iload 4, 2) := by decide +kernel
theorem V.dX16_load_49 : decode cX16_load 49 = .ok (.imul, 1) := by decide +kernel
theorem V.dX16_load_50 : decode cX16_load 50 = .ok (.isub, 1) := by decide +kernel
theorem V.dX16_load_51 : decode cX16_load 51 = .ok (.lshl, 1) := by decide +kernel
theorem V.dX16_load_52 : decode cX16_load 52 = .ok (.bipush 64, 2) := by decide +kernel
theorem V.dX16_load_54 : decode cX16_load 54 = .ok (.bipush 8, 2) := by decide +kernel
theorem V.dX16_load_56 : decode cX16_load 56 = .ok (.iload 4, 2) := by decide +kernel
theorem V.dX16_load_58 : decode cX16_load 58 = .ok (.imul, 1) := by decide +kernel
theorem V.dX16_load_59 : decode cX16_load 59 = .ok (.isub, 1) := by decide +kernel
theorem V.dX16_load_60 : decode cX16_load 60 = .ok (.lshr, 1) := by decide +kernel
theorem V.dX16_load_61 : decode cX16_load 61 = .ok (.lstore 7, 2) := by decide +kernel
theorem V.dX16_load_63 : decode cX16_load 63 = .ok (.iload_n 1, 1) := by decide +kernel
theorem V.dX16_load_64 : decode cX16_load 64 = .ok (.bipush 48, 2) := by decide +kernel
theorem V.dX16_load_66 : decode cX16_load 66 = .ok (.if_icmp .ge 12, 3) := by decide +kernel
theorem V.dX16_load_69 : decode cX16_load 69 = .ok (.lload 7, 2) := by decide +kernel
theorem V.dX16_load_71 : decode cX16_load 71 = .ok (.ldc2_w 262, 3) := by decide +kernel
theorem V.dX16_load_74 : decode cX16_load 74 = .ok (.land, 1) := by decide +kernel
theorem V.dX16_load_75 : decode cX16_load 75 = .ok (.goto 5, 3) := by decide +kernel
theorem V.dX16_load_78 : decode cX16_load 78 = .ok (.lload 7, 2) := by decide +kernel
theorem V.dX16_load_80 : decode cX16_load 80 = .ok (.lreturn, 1) := by decide +kernel
theorem V.mdX16_258 : MD RX16 258 yX15_read cX15_read 8 (some .long) 3 := ⟨Or.inl q2829, q375, q2832, by decide, by decide, by decide +kernel⟩
/-! ModuleEngine$Runner.load(IJ)J -/
def V.Run_load (σ : HS) (x0 : Nat) (x1 : Int32) (x2 : Int64) : Option (Int64 × HS) :=
  cl (Run_bytesOf σ x1) fun r2 σ1 =>
  ck (tg σ1 x0 = 17) <|
  ck (tg σ1 (gR σ1 x0 3) = 14) <|
  ck (tg σ1 x0 = 17) <| cl (Run_memory σ1 x0 ) fun r4 σ3 =>
  ck (tg σ3 (gR σ1 (gR σ1 x0 3) 8) = 16) <| cl (Pag_read σ3 (gR σ1 (gR σ1 x0 3) 8) r4 x2 r2) fun r6 σ5 =>
  if x1 < (44 : Int32) then (
    some (r6, σ5))
  else (
    ck (¬ (2 : Int32) = 0) <|
    if (x1 - x1 / (2 : Int32) * (2 : Int32)) = (1 : Int32) then (
      some (r6, σ5))
    else (
      bn (lshr (lshl r6 ((64 : Int32) - ((8 : Int32) * r2))) ((64 : Int32) - ((8 : Int32) * r2))) fun y7 =>
      if (48 : Int32) ≤ x1 then (
        some (y7, σ5))
      else (
        some (y7 &&& (4294967295 : Int64), σ5))))
theorem V.ctX16_load (x0 : Nat) (x1 : Int32) (x2 : Int64) : Ct yX16_load  cX16_load 9 (some .long) 3 73 eJ [av x0, iv x1, jv x2] (fun σ => Run_load σ x0 x1 x2) := by
  refine Ct.of (own := RX16) (nm := "load") (desc := "(IJ)J") rfl (by decide) (Nat.le_of_ble_eq_true rfl) (by decide) (fun X σ => ?_)
  show G X RX16 "load" cX16_load 9 (some .long) 3 73 enJ 0 [(0, av x0), (1, iv x1), (2, jv x2)] [] σ (Run_load σ x0 x1 x2)
  unfold Run_load
  refine g_iload_n 1 1 dX16_load_0 rfl rfl ?_
  refine g_callS (fc := fun sς => Run_bytesOf sς x1) (as := [iv x1]) q2818 mdX16_243 (ctX16_bytesOf x1) rfl (Nat.le_of_ble_eq_true rfl) (Nat.le_of_ble_eq_true rfl) (Nat.le_of_ble_eq_true rfl) pu_I dX16_load_1 (fun r2 σ1 => ?_)
  refine g_istore dX16_load_4 (by decide) rfl ?_
  refine g_aload_n 0 1 dX16_load_6 rfl rfl ?_
  refine g_getR fdX16_54 dX16_load_7 ?_
  refine g_getR fdX16_246 dX16_load_10 ?_
  refine g_aload_n 0 1 dX16_load_13 rfl rfl ?_
  refine g_callV (fc := fun sς => Run_memory sς x0 ) (ci := 16) (as := []) rfl rfl rfl q2754 qs189 mdX16_250 (ctX16_memory x0 ) rfl (Nat.le_of_ble_eq_true rfl) (Nat.le_of_ble_eq_true rfl) (Nat.le_of_ble_eq_true rfl) pu_I dX16_load_14 (fun r4 σ3 => ?_)
  refine g_lload_n 2 3 dX16_load_17 rfl rfl ?_
  refine g_iload 0 dX16_load_18 rfl ?_
  refine g_callV (fc := fun sς => Pag_read sς (gR σ1 (gR σ1 x0 3) 8) r4 x2 r2) (ci := 15) (as := [iv r4, jv x2, iv r2]) rfl rfl rfl q2830 q2831 mdX16_258 (ctX15_read (gR σ1 (gR σ1 x0 3) 8) r4 x2 r2) rfl (Nat.le_of_ble_eq_true rfl) (Nat.le_of_ble_eq_true rfl) (Nat.le_of_ble_eq_true rfl) pu_J dX16_load_20 (fun r6 σ5 => ?_)
  refine g_lstore dX16_load_23 (by decide) rfl ?_
  refine g_iload_n 1 3 dX16_load_25 rfl rfl ?_
  refine g_bipush (v := 44) dX16_load_26 (by decide) ?_
  refine g_icmp_lt 38 dX16_load_28 (by decide) ?_ ?_
  · refine g_lload 0 dX16_load_38 rfl ?_
    exact g_lreturn rfl dX16_load_40
  · refine g_iload_n 1 3 dX16_load_31 rfl rfl ?_
    refine g_iconst (v := 2) dX16_load_32 (by decide) ?_
    refine g_irem dX16_load_33 ?_
    refine g_iconst (v := 1) dX16_load_34 (by decide) ?_
    refine g_icmp_ne 41 dX16_load_35 (by decide) ?_ ?_
    · refine g_lload 0 dX16_load_41 rfl ?_
      refine g_bipush (v := 64) dX16_load_43 (by decide) ?_
      refine g_bipush (v := 8) dX16_load_45 (by decide) ?_
      refine g_iload 1 dX16_load_47 rfl ?_
      refine g_imul dX16_load_49 ?_
      refine g_isub dX16_load_50 ?_
      refine g_lshl dX16_load_51 ?_
      refine g_bipush (v := 64) dX16_load_52 (by decide) ?_
      refine g_bipush (v := 8) dX16_load_54 (by decide) ?_
      refine g_iload 1 dX16_load_56 rfl ?_
      refine g_imul dX16_load_58 ?_
      refine g_isub dX16_load_59 ?_
      refine g_lshr dX16_load_60 ?_
      refine g_nmJ (fun y7 => ?_)
      refine g_lstore dX16_load_61 (by decide) rfl ?_
      refine g_iload_n 1 4 dX16_load_63 rfl rfl ?_
      refine g_bipush (v := 48) dX16_load_64 (by decide) ?_
      refine g_icmp_ge 78 dX16_load_66 (by decide) ?_ ?_
      · refine g_lload 0 dX16_load_78 rfl ?_
        exact g_lreturn rfl dX16_load_80
      · refine g_lload 0 dX16_load_69 rfl ?_
        refine g_ldc2 q2717 dX16_load_71 ?_
        refine g_land dX16_load_74 ?_
        refine g_goto 80 dX16_load_75 (by decide) ?_
        exact g_lreturn rfl dX16_load_80
    · refine g_lload 0 dX16_load_38 rfl ?_
      exact g_lreturn rfl dX16_load_40
theorem V.dX16_moveRegisters_0 : decode cX16_moveRegisters 0 = .ok (.aload_n 0, 1) := by decide +kernel
theorem V.dX16_moveRegisters_1 : decode cX16_moveRegisters 1 = .ok (.iload_n 1, 1) := by decide +kernel
theorem V.dX16_moveRegisters_2 : decode cX16_moveRegisters 2 = .ok (.lload_n 3, 1) := by decide +kernel
theorem V.dX16_moveRegisters_3 : decode cX16_moveRegisters 3 = .ok (.invokevirtual 382, 3) := by decide +kernel
theorem V.dX16_moveRegisters_6 : decode cX16_moveRegisters 6 = .ok (.ifCond .ne 4, 3) := by decide +kernel
theorem V.dX16_moveRegisters_9 : decode cX16_moveRegisters 9 = .ok (.return_, 1) := by decide +kernel
theorem V.dX16_moveRegisters_10 : decode cX16_moveRegisters 10 = .ok (.iload_n 1, 1) := by decide +kernel
theorem V.dX16_moveRegisters_11 : decode cX16_moveRegisters 11 = .ok (.bipush 53, 2) := by decide +kernel
theorem V.dX16_moveRegisters_13 : decode cX16_moveRegisters 13 = .ok (.if_icmp .le 30, 3) := by decide +kernel
theorem V.dX16_moveRegisters_16 : decode cX16_moveRegisters 16 = .ok (.aload_n 0, 1) := by decide +kernel
theorem V.dX16_moveRegisters_17 : decode cX16_moveRegisters 17 = .ok (.getfield 54, 3) := by decide +kernel
theorem V.dX16_moveRegisters_20 : decode cX16_moveRegisters 20 = .ok (.getfield 246, 3) := by decide +kernel
theorem V.dX16_moveRegisters_23 : decode cX16_moveRegisters 23 = .ok (.aload_n 0, 1) := by decide +kernel
theorem V.dX16_moveRegisters_24 : decode cX16_moveRegisters 24 = .ok (.invokevirtual 250, 3) := by decide +kernel
theorem V.dX16_moveRegisters_27 : decode cX16_moveRegisters 27 = .ok (.lload_n 3, 1) := by decide +kernel
theorem V.dX16_moveRegisters_28 : decode cX16_moveRegisters 28 = .ok (.iload_n 1, 1) := by decide +kernel
theorem V.dX16_moveRegisters_29 : decode cX16_moveRegisters 29 = .ok (.invokestatic 243, 3) := by decide +kernel
theorem V.dX16_moveRegisters_32 : decode cX16_moveRegisters 32 = .ok (.aload_n 0, 1) := by decide +kernel
theorem V.dX16_moveRegisters_33 : decode cX16_moveRegisters 33 = .ok (.iload_n 2, 1) := by decide +kernel
theorem V.dX16_moveRegisters_34 : decode cX16_moveRegisters 34 = .ok (.invokevirtual 396, 3) := by decide +kernel
theorem V.dX16_moveRegisters_37 : decode cX16_moveRegisters 37 = .ok (.invokevirtual 386, 3) := by decide +kernel
theorem V.dX16_moveRegisters_40 : decode cX16_moveRegisters 40 = .ok (.goto 14, 3) := by decide +kernel
theorem V.dX16_moveRegisters_43 : decode cX16_moveRegisters 43 = .ok (.aload_n 0, 1) := by decide +kernel
theorem V.dX16_moveRegisters_44 : decode cX16_moveRegisters 44 = .ok (.iload_n 2, 1) := by decide +kernel
theorem V.dX16_moveRegisters_45 : decode cX16_moveRegisters 45 = .ok (.aload_n 0, 1) := by decide +kernel
theorem V.dX16_moveRegisters_46 : decode cX16_moveRegisters 46 = .ok (.iload_n 1, 1) := by decide +kernel
theorem V.dX16_moveRegisters_47 : decode cX16_moveRegisters 47 = .ok (.lload_n 3, 1) := by decide +kernel
theorem V.dX16_moveRegisters_48 : decode cX16_moveRegisters 48 = .ok (.invokevirtual 389, 3) := by decide +kernel
theorem V.dX16_moveRegisters_51 : decode cX16_moveRegisters 51 = .ok (.invokevirtual 398, 3) := by decide +kernel
theorem V.dX16_moveRegisters_54 : decode cX16_moveRegisters 54 = .ok (.return_, 1) := by decide +kernel
theorem V.mdX16_382 : MD RX16 382 yX16_isIn cX16_isIn 4 (some .boolean) 2 := ⟨Or.inl q2813, q376, q2816, by decide, by decide, by decide +kernel⟩
theorem V.mdX16_389 : MD RX16 389 yX16_load cX16_load 9 (some .long) 2 := ⟨Or.inl q2825, q376, q2828, by decide, by decide, by decide +kernel⟩
theorem V.mdX16_398 : MD RX16 398 yX16_set cX16_set 4 none 2 := ⟨Or.inl q2713, q376, q2716, by decide, by decide, by decide +kernel⟩
theorem V.mdX16_396 : MD RX16 396 yX16_get cX16_get 2 (some .long) 1 := ⟨Or.inl q2709, q376, q2712, by decide, by decide, by decide +kernel⟩
theorem V.mdX16_386 : MD RX16 386 yX15_write cX15_write 8 none 4 := ⟨Or.inl q2820, q375, q2823, by decide, by decide, by decide +kernel⟩
/-! ModuleEngine$Runner.moveRegisters(IIJ)V -/
def V.Run_moveRegisters (σ : HS) (x0 : Nat) (x1 : Int32) (x2 : Int32) (x3 : Int64) : Option (Unit × HS) :=
  ck (tg σ x0 = 17) <| cl (Run_isIn σ x0 x1 x3) fun r2 σ1 =>
  if r2 = 0 then (
    some ((), σ1))
  else (
    if x1 ≤ (53 : Int32) then (
      ck (tg σ1 x0 = 17) <| cl (Run_load σ1 x0 x1 x3) fun r4 σ3 =>
      ck (tg σ3 x0 = 17) <| cl (Run_set σ3 x0 x2 r4) fun _ σ5 =>
      some ((), σ5))
    else (
      ck (tg σ1 x0 = 17) <|
      ck (tg σ1 (gR σ1 x0 3) = 14) <|
      ck (tg σ1 x0 = 17) <| cl (Run_memory σ1 x0 ) fun r7 σ6 =>
      cl (Run_bytesOf σ6 x1) fun r9 σ8 =>
      ck (tg σ8 x0 = 17) <| cl (Run_get σ8 x0 x2) fun r11 σ10 =>
      ck (tg σ10 (gR σ1 (gR σ1 x0 3) 8) = 16) <| cl (Pag_write σ10 (gR σ1 (gR σ1 x0 3) 8) r7 x3 r9 r11) fun _ σ12 =>
      some ((), σ12)))
theorem V.ctX16_moveRegisters (x0 : Nat) (x1 : Int32) (x2 : Int32) (x3 : Int64) : Ct yX16_moveRegisters  cX16_moveRegisters 5 none 4 101 eV [av x0, iv x1, iv x2, jv x3] (fun σ => Run_moveRegisters σ x0 x1 x2 x3) := by
  refine Ct.of (own := RX16) (nm := "moveRegisters") (desc := "(IIJ)V") rfl (by decide) (Nat.le_of_ble_eq_true rfl) (by decide) (fun X σ => ?_)
  show G X RX16 "moveRegisters" cX16_moveRegisters 5 none 4 101 enV 0 [(0, av x0), (1, iv x1), (2, iv x2), (3, jv x3)] [] σ (Run_moveRegisters σ x0 x1 x2 x3)
  unfold Run_moveRegisters
  refine g_aload_n 0 0 dX16_moveRegisters_0 rfl rfl ?_
  refine g_iload_n 1 1 dX16_moveRegisters_1 rfl rfl ?_
  refine g_lload_n 3 3 dX16_moveRegisters_2 rfl rfl ?_
  refine g_callV (fc := fun sς => Run_isIn sς x0 x1 x3) (ci := 16) (as := [iv x1, jv x3]) rfl rfl rfl q2815 qs197 mdX16_382 (ctX16_isIn x0 x1 x3) rfl (Nat.le_of_ble_eq_true rfl) (Nat.le_of_ble_eq_true rfl) (Nat.le_of_ble_eq_true rfl) pu_I dX16_moveRegisters_3 (fun r2 σ1 => ?_)
  refine g_if_ne 10 dX16_moveRegisters_6 (by decide) ?_ ?_
  · refine g_iload_n 1 1 dX16_moveRegisters_10 rfl rfl ?_
    refine g_bipush (v := 53) dX16_moveRegisters_11 (by decide) ?_
    refine g_icmp_le 43 dX16_moveRegisters_13 (by decide) ?_ ?_
    · refine g_aload_n 0 0 dX16_moveRegisters_43 rfl rfl ?_
      refine g_iload_n 2 2 dX16_moveRegisters_44 rfl rfl ?_
      refine g_aload_n 0 0 dX16_moveRegisters_45 rfl rfl ?_
      refine g_iload_n 1 1 dX16_moveRegisters_46 rfl rfl ?_
      refine g_lload_n 3 3 dX16_moveRegisters_47 rfl rfl ?_
      refine g_callV (fc := fun sς => Run_load sς x0 x1 x3) (ci := 16) (as := [iv x1, jv x3]) rfl rfl rfl q2827 qs198 mdX16_389 (ctX16_load x0 x1 x3) rfl (Nat.le_of_ble_eq_true rfl) (Nat.le_of_ble_eq_true rfl) (Nat.le_of_ble_eq_true rfl) pu_J dX16_moveRegisters_48 (fun r4 σ3 => ?_)
      refine g_callV (fc := fun sς => Run_set sς x0 x2 r4) (ci := 16) (as := [iv x2, jv r4]) rfl rfl rfl q2715 qs181 mdX16_398 (ctX16_set x0 x2 r4) rfl (Nat.le_of_ble_eq_true rfl) (Nat.le_of_ble_eq_true rfl) (Nat.le_of_ble_eq_true rfl) pu_V dX16_moveRegisters_51 (fun _ σ5 => ?_)
      exact g_return rfl dX16_moveRegisters_54
    · refine g_aload_n 0 0 dX16_moveRegisters_16 rfl rfl ?_
      refine g_getR fdX16_54 dX16_moveRegisters_17 ?_
      refine g_getR fdX16_246 dX16_moveRegisters_20 ?_
      refine g_aload_n 0 0 dX16_moveRegisters_23 rfl rfl ?_
      refine g_callV (fc := fun sς => Run_memory sς x0 ) (ci := 16) (as := []) rfl rfl rfl q2754 qs189 mdX16_250 (ctX16_memory x0 ) rfl (Nat.le_of_ble_eq_true rfl) (Nat.le_of_ble_eq_true rfl) (Nat.le_of_ble_eq_true rfl) pu_I dX16_moveRegisters_24 (fun r7 σ6 => ?_)
      refine g_lload_n 3 3 dX16_moveRegisters_27 rfl rfl ?_
      refine g_iload_n 1 1 dX16_moveRegisters_28 rfl rfl ?_
      refine g_callS (fc := fun sς => Run_bytesOf sς x1) (as := [iv x1]) q2818 mdX16_243 (ctX16_bytesOf x1) rfl (Nat.le_of_ble_eq_true rfl) (Nat.le_of_ble_eq_true rfl) (Nat.le_of_ble_eq_true rfl) pu_I dX16_moveRegisters_29 (fun r9 σ8 => ?_)
      refine g_aload_n 0 0 dX16_moveRegisters_32 rfl rfl ?_
      refine g_iload_n 2 2 dX16_moveRegisters_33 rfl rfl ?_
      refine g_callV (fc := fun sς => Run_get sς x0 x2) (ci := 16) (as := [iv x2]) rfl rfl rfl q2711 qs180 mdX16_396 (ctX16_get x0 x2) rfl (Nat.le_of_ble_eq_true rfl) (Nat.le_of_ble_eq_true rfl) (Nat.le_of_ble_eq_true rfl) pu_J dX16_moveRegisters_34 (fun r11 σ10 => ?_)
      refine g_callV (fc := fun sς => Pag_write sς (gR σ1 (gR σ1 x0 3) 8) r7 x3 r9 r11) (ci := 15) (as := [iv r7, jv x3, iv r9, jv r11]) rfl rfl rfl q2821 q2822 mdX16_386 (ctX15_write (gR σ1 (gR σ1 x0 3) 8) r7 x3 r9 r11) rfl (Nat.le_of_ble_eq_true rfl) (Nat.le_of_ble_eq_true rfl) (Nat.le_of_ble_eq_true rfl) pu_V dX16_moveRegisters_37 (fun _ σ12 => ?_)
      refine g_goto 54 dX16_moveRegisters_40 (by decide) ?_
      exact g_return rfl dX16_moveRegisters_54
  · exact g_return rfl dX16_moveRegisters_9
theorem V.dX16_calculateRegisters_0 : decode cX16_calculateRegisters 0 = .ok (.aload_n 0, 1) := by decide +kernel
theorem V.dX16_calculateRegisters_1 : decode cX16_calculateRegisters 1 = .ok (.getfield 50, 3) := by decide +kernel
theorem V.dX16_calculateRegisters_4 : decode cX16_calculateRegisters 4 = .ok (.iload_n 1, 1) := by decide +kernel
theorem V.dX16_calculateRegisters_5 : decode cX16_calculateRegisters 5 = .ok (.aload_n 0, 1) := by decide +kernel
theorem V.dX16_calculateRegisters_6 : decode cX16_calculateRegisters 6 = .ok (.iload_n 3, 1) := by decide +kernel
theorem V.dX16_calculateRegisters_7 : decode cX16_calculateRegisters 7 = .ok (.invokevirtual 396, 3) := by decide +kernel
theorem V.dX16_calculateRegisters_10 : decode cX16_calculateRegisters 10 = .ok (.aload_n 0, 1) := by decide +kernel
theorem V.dX16_calculateRegisters_11 : decode cX16_calculateRegisters 11 = .ok (.iload 4, 2) := by decide +kernel
theorem V.dX16_calculateRegisters_13 : decode cX16_calculateRegisters 13 = .ok (.invokevirtual 396, 3) := by decide +kernel
theorem V.dX16_calculateRegisters_16 : decode cX16_calculateRegisters 16 = .ok (.invokevirtual 376, 3) := by decide +kernel
theorem V.dX16_calculateRegisters_19 : decode cX16_calculateRegisters 19 = .ok (.lstore 5, 2) := by decide +kernel
theorem V.dX16_calculateRegisters_21 : decode cX16_calculateRegisters 21 = .ok (.aload_n 0, 1) := by decide +kernel
theorem V.dX16_calculateRegisters_22 : decode cX16_calculateRegisters 22 = .ok (.getfield 50, 3) := by decide +kernel
theorem V.dX16_calculateRegisters_25 : decode cX16_calculateRegisters 25 = .ok (.invokevirtual 380, 3) := by decide +kernel
theorem V.dX16_calculateRegisters_28 : decode cX16_calculateRegisters 28 = .ok (.ifCond .le 19, 3) := by decide +kernel
theorem V.dX16_calculateRegisters_31 : decode cX16_calculateRegisters 31 = .ok (.aload_n 0, 1) := by decide +kernel
theorem V.dX16_calculateRegisters_32 : decode cX16_calculateRegisters 32 = .ok (.iconst 1, 1) := by decide +kernel
theorem V.dX16_calculateRegisters_33 : decode cX16_calculateRegisters 33 = .ok (.aload_n 0, 1) := by decide +kernel
theorem V.dX16_calculateRegisters_34 : decode cX16_calculateRegisters 34 = .ok (.getfield 50, 3) := by decide +kernel
theorem V.dX16_calculateRegisters_37 : decode cX16_calculateRegisters 37 = .ok (.invokevirtual 380, 3) := by decide +kernel
theorem V.dX16_calculateRegisters_40 : decode cX16_calculateRegisters 40 = .ok (.iadd, 1) := by decide +kernel
theorem V.dX16_calculateRegisters_41 : decode cX16_calculateRegisters 41 = .ok (.invokevirtual 226, 3) := by decide +kernel
theorem V.dX16_calculateRegisters_44 : decode cX16_calculateRegisters 44 = .ok (.goto 10, 3) := by decide +kernel
theorem V.dX16_calculateRegisters_47 : decode cX16_calculateRegisters 47 = .ok (.aload_n 0, 1) := by decide +kernel
theorem V.dX16_calculateRegisters_48 : decode cX16_calculateRegisters 48 = .ok (.iload_n 2, 1) := by decide +kernel
theorem V.dX16_calculateRegisters_49 : decode cX16_calculateRegisters 49 = .ok (.lload 5, 2) := by decide +kernel
theorem V.dX16_calculateRegisters_51 : decode cX16_calculateRegisters 51 = .ok (.invokevirtual 398, 3) := by decide +kernel
theorem V.dX16_calculateRegisters_54 : decode cX16_calculateRegisters 54 = .ok (.return_, 1) := by decide +kernel
theorem V.fdX16_50 : FD RX16 50 16 2 2 := ⟨(RX16, TX16, 26), tyX16, rfl, rfl, in_X16, by decide, Or.inl q1122, rfl⟩
theorem V.mdX16_376 : MD RX16 376 yX4_apply cX4_apply 6 (some .long) 3 := ⟨Or.inl q2837, q364, q2516, by decide, by decide, by decide +kernel⟩
theorem V.mdX16_380 : MD RX16 380 yX4_trap cX4_trap 1 (some .int) 0 := ⟨Or.inl q2838, q364, q2669, by decide, by decide, by decide +kernel⟩
/-! ModuleEngine$Runner.calculateRegisters(IIII)V -/
def V.Run_calculateRegisters (σ : HS) (x0 : Nat) (x1 : Int32) (x2 : Int32) (x3 : Int32) (x4 : Int32) : Option (Unit × HS) :=
  ck (tg σ x0 = 17) <|
  ck (tg σ x0 = 17) <| cl (Run_get σ x0 x3) fun r2 σ1 =>
  ck (tg σ1 x0 = 17) <| cl (Run_get σ1 x0 x4) fun r4 σ3 =>
  ck (tg σ3 (gR σ x0 2) = 5) <| cl (Num_apply σ3 (gR σ x0 2) x1 r2 r4) fun r6 σ5 =>
  ck (tg σ5 x0 = 17) <|
  ck (tg σ5 (gR σ5 x0 2) = 5) <| cl (Num_trap σ5 (gR σ5 x0 2) ) fun r8 σ7 =>
  if r8 ≤ 0 then (
    ck (tg σ7 x0 = 17) <| cl (Run_set σ7 x0 x2 r6) fun _ σ9 =>
    some ((), σ9))
  else (
    ck (tg σ7 x0 = 17) <|
    ck (tg σ7 (gR σ7 x0 2) = 5) <| cl (Num_trap σ7 (gR σ7 x0 2) ) fun r11 σ10 =>
    ck (tg σ10 x0 = 17) <| cl (Run_stop σ10 x0 ((1 : Int32) + r11)) fun _ σ12 =>
    some ((), σ12))
theorem V.ctX16_calculateRegisters (x0 : Nat) (x1 : Int32) (x2 : Int32) (x3 : Int32) (x4 : Int32) : Ct yX16_calculateRegisters  cX16_calculateRegisters 7 none 7 191 eV [av x0, iv x1, iv x2, iv x3, iv x4] (fun σ => Run_calculateRegisters σ x0 x1 x2 x3 x4) := by
  refine Ct.of (own := RX16) (nm := "calculateRegisters") (desc := "(IIII)V") rfl (by decide) (Nat.le_of_ble_eq_true rfl) (by decide) (fun X σ => ?_)
  show G X RX16 "calculateRegisters" cX16_calculateRegisters 7 none 7 191 enV 0 [(0, av x0), (1, iv x1), (2, iv x2), (3, iv x3), (4, iv x4)] [] σ (Run_calculateRegisters σ x0 x1 x2 x3 x4)
  unfold Run_calculateRegisters
  refine g_aload_n 0 0 dX16_calculateRegisters_0 rfl rfl ?_
  refine g_getR fdX16_50 dX16_calculateRegisters_1 ?_
  refine g_iload_n 1 1 dX16_calculateRegisters_4 rfl rfl ?_
  refine g_aload_n 0 0 dX16_calculateRegisters_5 rfl rfl ?_
  refine g_iload_n 3 3 dX16_calculateRegisters_6 rfl rfl ?_
  refine g_callV (fc := fun sς => Run_get sς x0 x3) (ci := 16) (as := [iv x3]) rfl rfl rfl q2711 qs180 mdX16_396 (ctX16_get x0 x3) rfl (Nat.le_of_ble_eq_true rfl) (Nat.le_of_ble_eq_true rfl) (Nat.le_of_ble_eq_true rfl) pu_J dX16_calculateRegisters_7 (fun r2 σ1 => ?_)
  refine g_aload_n 0 0 dX16_calculateRegisters_10 rfl rfl ?_
  refine g_iload 4 dX16_calculateRegisters_11 rfl ?_
  refine g_callV (fc := fun sς => Run_get sς x0 x4) (ci := 16) (as := [iv x4]) rfl rfl rfl q2711 qs180 mdX16_396 (ctX16_get x0 x4) rfl (Nat.le_of_ble_eq_true rfl) (Nat.le_of_ble_eq_true rfl) (Nat.le_of_ble_eq_true rfl) pu_J dX16_calculateRegisters_13 (fun r4 σ3 => ?_)
  refine g_callV (fc := fun sς => Num_apply sς (gR σ x0 2) x1 r2 r4) (ci := 4) (as := [iv x1, jv r2, jv r4]) rfl rfl rfl q2514 q2515 mdX16_376 (ctX4_apply (gR σ x0 2) x1 r2 r4) rfl (Nat.le_of_ble_eq_true rfl) (Nat.le_of_ble_eq_true rfl) (Nat.le_of_ble_eq_true rfl) pu_J dX16_calculateRegisters_16 (fun r6 σ5 => ?_)
  refine g_lstore dX16_calculateRegisters_19 (by decide) rfl ?_
  refine g_aload_n 0 1 dX16_calculateRegisters_21 rfl rfl ?_
  refine g_getR fdX16_50 dX16_calculateRegisters_22 ?_
  refine g_callV (fc := fun sς => Num_trap sς (gR σ5 x0 2) ) (ci := 4) (as := []) rfl rfl rfl q2667 q2668 mdX16_380 (ctX4_trap (gR σ5 x0 2) ) rfl (Nat.le_of_ble_eq_true rfl) (Nat.le_of_ble_eq_true rfl) (Nat.le_of_ble_eq_true rfl) pu_I dX16_calculateRegisters_25 (fun r8 σ7 => ?_)
  refine g_if_le 47 dX16_calculateRegisters_28 (by decide) ?_ ?_
  · refine g_aload_n 0 1 dX16_calculateRegisters_47 rfl rfl ?_
    refine g_iload_n 2 3 dX16_calculateRegisters_48 rfl rfl ?_
    refine g_lload 0 dX16_calculateRegisters_49 rfl ?_
    refine g_callV (fc := fun sς => Run_set sς x0 x2 r6) (ci := 16) (as := [iv x2, jv r6]) rfl rfl rfl q2715 qs181 mdX16_398 (ctX16_set x0 x2 r6) rfl (Nat.le_of_ble_eq_true rfl) (Nat.le_of_ble_eq_true rfl) (Nat.le_of_ble_eq_true rfl) pu_V dX16_calculateRegisters_51 (fun _ σ9 => ?_)
    exact g_return rfl dX16_calculateRegisters_54
  · refine g_aload_n 0 1 dX16_calculateRegisters_31 rfl rfl ?_
    refine g_iconst (v := 1) dX16_calculateRegisters_32 (by decide) ?_
    refine g_aload_n 0 1 dX16_calculateRegisters_33 rfl rfl ?_
    refine g_getR fdX16_50 dX16_calculateRegisters_34 ?_
    refine g_callV (fc := fun sς => Num_trap sς (gR σ7 x0 2) ) (ci := 4) (as := []) rfl rfl rfl q2667 q2668 mdX16_380 (ctX4_trap (gR σ7 x0 2) ) rfl (Nat.le_of_ble_eq_true rfl) (Nat.le_of_ble_eq_true rfl) (Nat.le_of_ble_eq_true rfl) pu_I dX16_calculateRegisters_37 (fun r11 σ10 => ?_)
    refine g_iadd dX16_calculateRegisters_40 ?_
    refine g_callV (fc := fun sς => Run_stop sς x0 ((1 : Int32) + r11)) (ci := 16) (as := [iv ((1 : Int32) + r11)]) rfl rfl rfl q2364 q2365 mdX16_226 (ctX16_stop x0 ((1 : Int32) + r11)) rfl (Nat.le_of_ble_eq_true rfl) (Nat.le_of_ble_eq_true rfl) (Nat.le_of_ble_eq_true rfl) pu_V dX16_calculateRegisters_41 (fun _ σ12 => ?_)
    refine g_goto 54 dX16_calculateRegisters_44 (by decide) ?_
    exact g_return rfl dX16_calculateRegisters_54
theorem V.dX16_plainRegisters_0 : decode cX16_plainRegisters 0 = .ok (.iload_n 1, 1) := by decide +kernel
theorem V.dX16_plainRegisters_1 : decode cX16_plainRegisters 1 = .ok (.lookupswitch 229 #[(27, 67), (35, 104), (36, 125), (63, 146), (64, 169), (209, 190), (210, 215)], 67) := by decide +kernel
theorem V.dX16_plainRegisters_68 : decode cX16_plainRegisters 68 = .ok (.aload_n 0, 1) := by decide +kernel
theorem V.dX16_plainRegisters_69 : decode cX16_plainRegisters 69 = .ok (.iload_n 2, 1) := by decide +kernel
theorem V.dX16_plainRegisters_70 : decode cX16_plainRegisters 70 = .ok (.aload_n 0, 1) := by decide +kernel
theorem V.dX16_plainRegisters_71 : decode cX16_plainRegisters 71 = .ok (.iload 5, 2) := by decide +kernel
theorem V.dX16_plainRegisters_73 : decode cX16_plainRegisters 73 = .ok (.invokevirtual 396, 3) := by decide +kernel
theorem V.dX16_plainRegisters_76 : decode cX16_plainRegisters 76 = .ok (.ldc2_w 262, 3) := by decide +kernel
theorem V.dX16_plainRegisters_79 : decode cX16_plainRegisters 79 = .ok (.land, 1) := by decide +kernel
theorem V.dX16_plainRegisters_80 : decode cX16_plainRegisters 80 = .ok (.lconst 0, 1) := by decide +kernel
theorem V.dX16_plainRegisters_81 : decode cX16_plainRegisters 81 = .ok (.lcmp, 1) := by decide +kernel
theorem V.dX16_plainRegisters_82 : decode cX16_plainRegisters 82 = .ok (.ifCond .eq 11, 3) := by decide +kernel
theorem V.dX16_plainRegisters_85 : decode cX16_plainRegisters 85 = .ok (.aload_n 0, 1) := by decide +kernel
theorem V.dX16_plainRegisters_86 : decode cX16_plainRegisters 86 = .ok (.iload_n 3, 1) := by decide +kernel
theorem V.dX16_plainRegisters_87 : decode cX16_plainRegisters 87 = .ok (.invokevirtual 396, 3) := by decide +kernel
theorem V.dX16_plainRegisters_90 : decode cX16_plainRegisters 90 = .ok (.goto 9, 3) := by decide +kernel
theorem V.dX16_plainRegisters_93 : decode cX16_plainRegisters 93 = .ok (.aload_n 0, 1) := by decide +kernel
theorem V.dX16_plainRegisters_94 : decode cX16_plainRegisters 94 = .ok (.iload 4, 2) := by decide +kernel
theorem V.dX16_plainRegisters_96 : decode cX16_plainRegisters 96 = .ok (.invokevirtual 396, 3) := by decide +kernel
theorem V.dX16_plainRegisters_99 : decode cX16_plainRegisters 99 = .ok (.invokevirtual 398, 3) := by decide +kernel
theorem V.dX16_plainRegisters_102 : decode cX16_plainRegisters 102 = .ok (.goto 212, 3) := by decide +kernel
theorem V.dX16_plainRegisters_105 : decode cX16_plainRegisters 105 = .ok (.aload_n 0, 1) := by decide +kernel
theorem V.dX16_plainRegisters_106 : decode cX16_plainRegisters 106 = .ok (.iload_n 2, 1) := by decide +kernel
theorem V.dX16_plainRegisters_107 : decode cX16_plainRegisters 107 = .ok (.aload_n 0, 1) := by decide +kernel
theorem V.dX16_plainRegisters_108 : decode cX16_plainRegisters 108 = .ok (.getfield 54, 3) := by decide +kernel
theorem V.dX16_plainRegisters_111 : decode cX16_plainRegisters 111 = .ok (.getfield 347, 3) := by decide +kernel
theorem V.dX16_plainRegisters_114 : decode cX16_plainRegisters 114 = .ok (.aload_n 0, 1) := by decide +kernel
theorem V.dX16_plainRegisters_115 : decode cX16_plainRegisters 115 = .ok (.iload_n 3, 1) := by decide +kernel
theorem V.dX16_plainRegisters_116 : decode cX16_plainRegisters 116 = .ok (.invokevirtual 350, 3) := by decide +kernel
theorem V.dX16_plainRegisters_119 : decode cX16_plainRegisters 119 = .ok (.laload, 1) := by decide +kernel
theorem V.dX16_plainRegisters_120 : decode cX16_plainRegisters 120 = .ok (.invokevirtual 398, 3) := by decide +kernel
theorem V.dX16_plainRegisters_123 : decode cX16_plainRegisters 123 = .ok (.goto 191, 3) := by decide +kernel
theorem V.dX16_plainRegisters_126 : decode cX16_plainRegisters 126 = .ok (.aload_n 0, 1) := by decide +kernel
theorem V.dX16_plainRegisters_127 : decode cX16_plainRegisters 127 = .ok (.getfield 54, 3) := by decide +kernel
theorem V.dX16_plainRegisters_130 : decode cX16_plainRegisters 130 = .ok (.getfield 347, 3) := by decide +kernel
theorem V.dX16_plainRegisters_133 : decode cX16_plainRegisters 133 = .ok (.aload_n 0, 1) := by decide +kernel
theorem V.dX16_plainRegisters_134 : decode cX16_plainRegisters 134 = .ok (.iload_n 2, 1) := by decide +kernel
theorem V.dX16_plainRegisters_135 : decode cX16_plainRegisters 135 = .ok (.invokevirtual 350, 3) := by decide +kernel
theorem V.dX16_plainRegisters_138 : decode cX16_plainRegisters 138 = .ok (.aload_n 0, 1) := by decide +kernel
theorem V.dX16_plainRegisters_139 : decode cX16_plainRegisters 139 = .ok (.iload_n 3, 1) := by decide +kernel
theorem V.dX16_plainRegisters_140 : decode cX16_plainRegisters 140 = .ok (.invokevirtual 396, 3) := by decide +kernel
theorem V.dX16_plainRegisters_143 : decode cX16_plainRegisters 143 = .ok (.lastore, 1) := by decide +kernel
theorem V.dX16_plainRegisters_144 : decode cX16_plainRegisters 144 = .ok (.goto 170, 3) := by decide +kernel
theorem V.dX16_plainRegisters_147 : decode cX16_plainRegisters 147 = .ok (.aload_n 0, 1) := by decide +kernel
theorem V.dX16_plainRegisters_148 : decode cX16_plainRegisters 148 = .ok (.iload_n 2, 1) := by decide +kernel
theorem V.dX16_plainRegisters_149 : decode cX16_plainRegisters 149 = .ok (.aload_n 0, 1) := by decide +kernel
theorem V.dX16_plainRegisters_150 : decode cX16_plainRegisters 150 = .ok (.getfield 54, 3) := by decide +kernel
theorem V.dX16_plainRegisters_153 : decode cX16_plainRegisters 153 = .ok (.getfield 246, 3) := by decide +kernel
theorem V.dX16_plainRegisters_156 : decode cX16_plainRegisters 156 = .ok (.aload_n 0, 1) := by decide +kernel
theorem V.dX16_plainRegisters_157 : decode cX16_plainRegisters 157 = .ok (.invokevirtual 250, 3) := by decide +kernel
theorem V.dX16_plainRegisters_160 : decode cX16_plainRegisters 160 = .ok (.invokevirtual 353, 3) := by decide +kernel
theorem V.dX16_plainRegisters_163 : decode cX16_plainRegisters 163 = .ok (.i2l, 1) := by decide +kernel
theorem V.dX16_plainRegisters_164 : decode cX16_plainRegisters 164 = .ok (.invokevirtual 398, 3) := by decide +kernel
theorem V.dX16_plainRegisters_167 : decode cX16_plainRegisters 167 = .ok (.goto 147, 3) := by decide +kernel
theorem V.dX16_plainRegisters_170 : decode cX16_plainRegisters 170 = .ok (.aload_n 0, 1) := by decide +kernel
theorem V.dX16_plainRegisters_171 : decode cX16_plainRegisters 171 = .ok (.iload_n 2, 1) := by decide +kernel
theorem V.dX16_plainRegisters_172 : decode cX16_plainRegisters 172 = .ok (.aload_n 0, 1) := by decide +kernel
theorem V.dX16_plainRegisters_173 : decode cX16_plainRegisters 173 = .ok (.aload_n 0, 1) := by decide +kernel
theorem V.dX16_plainRegisters_174 : decode cX16_plainRegisters 174 = .ok (.iload_n 3, 1) := by decide +kernel
theorem V.dX16_plainRegisters_175 : decode cX16_plainRegisters 175 = .ok (.invokevirtual 396, 3) := by decide +kernel
theorem V.dX16_plainRegisters_178 : decode cX16_plainRegisters 178 = .ok (.ldc2_w 262, 3) := by decide +kernel
theorem V.dX16_plainRegisters_181 : decode cX16_plainRegisters 181 = .ok (.land, 1) := by decide +kernel
theorem V.dX16_plainRegisters_182 : decode cX16_plainRegisters 182 = .ok (.invokevirtual 354, 3) := by decide +kernel
theorem V.dX16_plainRegisters_185 : decode cX16_plainRegisters 185 = .ok (.invokevirtual 398, 3) := by decide +kernel
theorem V.dX16_plainRegisters_188 : decode cX16_plainRegisters 188 = .ok (.goto 126, 3) := by decide +kernel
theorem V.dX16_plainRegisters_191 : decode cX16_plainRegisters 191 = .ok (.aload_n 0, 1) := by decide +kernel
theorem V.dX16_plainRegisters_192 : decode cX16_plainRegisters 192 = .ok (.iload_n 2, 1) := by decide +kernel
theorem V.dX16_plainRegisters_193 : decode cX16_plainRegisters 193 = .ok (.aload_n 0, 1) := by decide +kernel
theorem V.dX16_plainRegisters_194 : decode cX16_plainRegisters 194 = .ok (.iload_n 3, 1) := by decide +kernel
theorem V.dX16_plainRegisters_195 : decode cX16_plainRegisters 195 = .ok (.invokevirtual 396, 3) := by decide +kernel
theorem V.dX16_plainRegisters_198 : decode cX16_plainRegisters 198 = .ok (.ldc2_w 177, 3) := by decide +kernel
theorem V.dX16_plainRegisters_201 : decode cX16_plainRegisters 201 = .ok (.lcmp, 1) := by decide +kernel
theorem V.dX16_plainRegisters_202 : decode cX16_plainRegisters 202 = .ok (.ifCond .ne 7, 3) := by decide +kernel
theorem V.dX16_plainRegisters_205 : decode cX16_plainRegisters 205 = .ok (.lconst 1, 1) := by decide +kernel
theorem V.dX16_plainRegisters_206 : decode cX16_plainRegisters 206 = .ok (.goto 4, 3) := by decide +kernel
theorem V.dX16_plainRegisters_209 : decode cX16_plainRegisters 209 = .ok (.lconst 0, 1) := by decide +kernel
theorem V.dX16_plainRegisters_210 : decode cX16_plainRegisters 210 = .ok (.invokevirtual 398, 3) := by decide +kernel
theorem V.dX16_plainRegisters_213 : decode cX16_plainRegisters 213 = .ok (.goto 101, 3) := by decide +kernel
theorem V.dX16_plainRegisters_216 : decode cX16_plainRegisters 216 = .ok (.aload_n 0, 1) := by decide +kernel
theorem V.dX16_plainRegisters_217 : decode cX16_plainRegisters 217 = .ok (.iload_n 2, 1) := by decide +kernel
theorem V.dX16_plainRegisters_218 : decode cX16_plainRegisters 218 = .ok (.aload_n 0, 1) := by decide +kernel
theorem V.dX16_plainRegisters_219 : decode cX16_plainRegisters 219 = .ok (.iload_n 3, 1) := by decide +kernel
theorem V.dX16_plainRegisters_220 : decode cX16_plainRegisters 220 = .ok (.invokevirtual 330, 3) := by decide +kernel
theorem V.dX16_plainRegisters_223 : decode cX16_plainRegisters 223 = .ok (.i2l, 1) := by decide +kernel
theorem V.dX16_plainRegisters_224 : decode cX16_plainRegisters 224 = .ok (.invokevirtual 398, 3) := by decide +kernel
theorem V.dX16_plainRegisters_227 : decode cX16_plainRegisters 227 = .ok (.goto 87, 3) := by decide +kernel
theorem V.dX16_plainRegisters_230 : decode cX16_plainRegisters 230 = .ok (.iload_n 1, 1) := by decide +kernel
theorem V.dX16_plainRegisters_231 : decode cX16_plainRegisters 231 = .ok (.sipush 207, 3) := by decide +kernel
theorem V.dX16_plainRegisters_234 : decode cX16_plainRegisters 234 = .ok (.if_icmp .gt 15, 3) := by decide +kernel
theorem V.dX16_plainRegisters_237 : decode cX16_plainRegisters 237 = .ok (.iload_n 1, 1) := by decide +kernel
theorem V.dX16_plainRegisters_238 : decode cX16_plainRegisters 238 = .ok (.bipush 37, 2) := by decide +kernel
theorem V.dX16_plainRegisters_240 : decode cX16_plainRegisters 240 = .ok (.if_icmp .eq 9, 3) := by decide +kernel
theorem V.dX16_plainRegisters_243 : decode cX16_plainRegisters 243 = .ok (.iload_n 1, 1) := by decide +kernel
theorem V.dX16_plainRegisters_244 : decode cX16_plainRegisters 244 = .ok (.bipush 38, 2) := by decide +kernel
theorem V.dX16_plainRegisters_246 : decode cX16_plainRegisters 246 = .ok (.if_icmp .ne 27, 3) := by decide +kernel
theorem V.dX16_plainRegisters_249 : decode cX16_plainRegisters 249 = .ok (.aload_n 0, 1) := by decide +kernel
theorem V.dX16_plainRegisters_250 : decode cX16_plainRegisters 250 = .ok (.iload_n 1, 1) := by decide +kernel
theorem V.dX16_plainRegisters_251 : decode cX16_plainRegisters 251 = .ok (.iload_n 3, 1) := by decide +kernel
theorem V.dX16_plainRegisters_252 : decode cX16_plainRegisters 252 = .ok (.iload 4, 2) := by decide +kernel
theorem V.dX16_plainRegisters_254 : decode cX16_plainRegisters 254 = .ok (.aload_n 0, 1) := by decide +kernel
theorem V.dX16_plainRegisters_255 : decode cX16_plainRegisters 255 = .ok (.getfield 17, 3) := by decide +kernel
theorem V.dX16_plainRegisters_258 : decode cX16_plainRegisters 258 = .ok (.aload_n 0, 1) := by decide +kernel
theorem V.dX16_plainRegisters_259 : decode cX16_plainRegisters 259 = .ok (.getfield 67, 3) := by decide +kernel
theorem V.dX16_plainRegisters_262 : decode cX16_plainRegisters 262 = .ok (.iconst 1, 1) := by decide +kernel
theorem V.dX16_plainRegisters_263 : decode cX16_plainRegisters 263 = .ok (.isub, 1) := by decide +kernel
theorem V.dX16_plainRegisters_264 : decode cX16_plainRegisters 264 = .ok (.iaload, 1) := by decide +kernel
theorem V.dX16_plainRegisters_265 : decode cX16_plainRegisters 265 = .ok (.iload_n 2, 1) := by decide +kernel
theorem V.dX16_plainRegisters_266 : decode cX16_plainRegisters 266 = .ok (.iadd, 1) := by decide +kernel
theorem V.dX16_plainRegisters_267 : decode cX16_plainRegisters 267 = .ok (.invokevirtual 360, 3) := by decide +kernel
theorem V.dX16_plainRegisters_270 : decode cX16_plainRegisters 270 = .ok (.goto 44, 3) := by decide +kernel
theorem V.dX16_plainRegisters_273 : decode cX16_plainRegisters 273 = .ok (.iload_n 1, 1) := by decide +kernel
theorem V.dX16_plainRegisters_274 : decode cX16_plainRegisters 274 = .ok (.bipush 63, 2) := by decide +kernel
theorem V.dX16_plainRegisters_276 : decode cX16_plainRegisters 276 = .ok (.if_icmp .ge 29, 3) := by decide +kernel
theorem V.dX16_plainRegisters_279 : decode cX16_plainRegisters 279 = .ok (.aload_n 0, 1) := by decide +kernel
theorem V.dX16_plainRegisters_280 : decode cX16_plainRegisters 280 = .ok (.iload_n 1, 1) := by decide +kernel
theorem V.dX16_plainRegisters_281 : decode cX16_plainRegisters 281 = .ok (.iload_n 2, 1) := by decide +kernel
theorem V.dX16_plainRegisters_282 : decode cX16_plainRegisters 282 = .ok (.aload_n 0, 1) := by decide +kernel
theorem V.dX16_plainRegisters_283 : decode cX16_plainRegisters 283 = .ok (.iload_n 3, 1) := by decide +kernel
theorem V.dX16_plainRegisters_284 : decode cX16_plainRegisters 284 = .ok (.invokevirtual 396, 3) := by decide +kernel
theorem V.dX16_plainRegisters_287 : decode cX16_plainRegisters 287 = .ok (.ldc2_w 262, 3) := by decide +kernel
theorem V.dX16_plainRegisters_290 : decode cX16_plainRegisters 290 = .ok (.land, 1) := by decide +kernel
theorem V.dX16_plainRegisters_291 : decode cX16_plainRegisters 291 = .ok (.iload 4, 2) := by decide +kernel
theorem V.dX16_plainRegisters_293 : decode cX16_plainRegisters 293 = .ok (.i2l, 1) := by decide +kernel
theorem V.dX16_plainRegisters_294 : decode cX16_plainRegisters 294 = .ok (.ldc2_w 262, 3) := by decide +kernel
theorem V.dX16_plainRegisters_297 : decode cX16_plainRegisters 297 = .ok (.land, 1) := by decide +kernel
theorem V.dX16_plainRegisters_298 : decode cX16_plainRegisters 298 = .ok (.ladd, 1) := by decide +kernel
theorem V.dX16_plainRegisters_299 : decode cX16_plainRegisters 299 = .ok (.invokevirtual 405, 3) := by decide +kernel
theorem V.dX16_plainRegisters_302 : decode cX16_plainRegisters 302 = .ok (.goto 12, 3) := by decide +kernel
theorem V.dX16_plainRegisters_305 : decode cX16_plainRegisters 305 = .ok (.aload_n 0, 1) := by decide +kernel
theorem V.dX16_plainRegisters_306 : decode cX16_plainRegisters 306 = .ok (.iload_n 1, 1) := by decide +kernel
theorem V.dX16_plainRegisters_307 : decode cX16_plainRegisters 307 = .ok (.iload_n 2, 1) := by decide +kernel
theorem V.dX16_plainRegisters_308 : decode cX16_plainRegisters 308 = .ok (.iload_n 3, 1) := by decide +kernel
theorem V.dX16_plainRegisters_309 : decode cX16_plainRegisters 309 = .ok (.iload 4, 2) := by decide +kernel
theorem V.dX16_plainRegisters_311 : decode cX16_plainRegisters 311 = .ok (.invokevirtual 409, 3) := by decide +kernel
theorem V.dX16_plainRegisters_314 : decode cX16_plainRegisters 314 = .ok (.return_, 1) := by decide +kernel
theorem V.fdX16_347 : FD RX16 347 13 13 2 := ⟨(RX13, TX13, 27), tyX13, rfl, rfl, in_X13, by decide, Or.inr ⟨_, q1040⟩, rfl⟩
theorem V.mdX16_350 : MD RX16 350 yX16_global cX16_global 2 (some .int) 1 := ⟨Or.inl q2748, q376, q2751, by decide, by decide, by decide +kernel⟩
theorem V.mdX16_353 : MD RX16 353 yX15_size cX15_size 2 (some .int) 1 := ⟨Or.inl q2756, q375, q2233, by decide, by decide, by decide +kernel⟩
theorem V.mdX16_354 : MD RX16 354 yX16_grow cX16_grow 3 (some .long) 1 := ⟨Or.inl q2757, q376, q2760, by decide, by decide, by decide +kernel⟩
theorem V.mdX16_330 : MD RX16 330 yX16_called cX16_called 2 (some .int) 1 := ⟨Or.inl q2726, q376, q2729, by decide, by decide, by decide +kernel⟩
theorem V.mdX16_409 : MD RX16 409 yX16_calculateRegisters cX16_calculateRegisters 7 none 4 := ⟨Or.inl q2833, q376, q2836, by decide, by decide, by decide +kernel⟩
theorem V.mdX16_405 : MD RX16 405 yX16_moveRegisters cX16_moveRegisters 5 none 3 := ⟨Or.inl q2809, q376, q2812, by decide, by decide, by decide +kernel⟩
theorem V.mdX16_360 : MD RX16 360 yX16_place cX16_place 8 none 4 := ⟨Or.inl q2765, q376, q2768, by decide, by decide, by decide +kernel⟩
/-! ModuleEngine$Runner.plainRegisters(IIIII)V -/
def V.Run_plainRegisters_p99  (σ : HS) (s0 : Int64) (s1 : Int32) (s2 : Nat) : Option (Unit × HS) :=
  ck (tg σ s2 = 17) <| cl (Run_set σ s2 s1 s0) fun _ σ1 =>
  some ((), σ1)
theorem V.gX16_plainRegisters_p99 {X : CX}  (σ : HS) (s0 : Int64) (s1 : Int32) (s2 : Nat) : G X RX16 "plainRegisters" cX16_plainRegisters 6 none 8 217 enV 99 [] [jv s0, iv s1, av s2] σ (Run_plainRegisters_p99 σ s0 s1 s2) := by
  unfold Run_plainRegisters_p99
  refine g_callV (fc := fun sς => Run_set sς s2 s1 s0) (ci := 16) (as := [iv s1, jv s0]) rfl rfl rfl q2715 qs181 mdX16_398 (ctX16_set s2 s1 s0) rfl (Nat.le_of_ble_eq_true rfl) (Nat.le_of_ble_eq_true rfl) (Nat.le_of_ble_eq_true rfl) pu_V dX16_plainRegisters_99 (fun _ σ1 => ?_)
  refine g_goto 314 dX16_plainRegisters_102 (by decide) ?_
  exact g_return rfl dX16_plainRegisters_314
def V.Run_plainRegisters_p210  (σ : HS) (s0 : Int64) (s1 : Int32) (s2 : Nat) : Option (Unit × HS) :=
  ck (tg σ s2 = 17) <| cl (Run_set σ s2 s1 s0) fun _ σ1 =>
  some ((), σ1)
theorem V.gX16_plainRegisters_p210 {X : CX}  (σ : HS) (s0 : Int64) (s1 : Int32) (s2 : Nat) : G X RX16 "plainRegisters" cX16_plainRegisters 6 none 8 217 enV 210 [] [jv s0, iv s1, av s2] σ (Run_plainRegisters_p210 σ s0 s1 s2) := by
  unfold Run_plainRegisters_p210
  refine g_callV (fc := fun sς => Run_set sς s2 s1 s0) (ci := 16) (as := [iv s1, jv s0]) rfl rfl rfl q2715 qs181 mdX16_398 (ctX16_set s2 s1 s0) rfl (Nat.le_of_ble_eq_true rfl) (Nat.le_of_ble_eq_true rfl) (Nat.le_of_ble_eq_true rfl) pu_V dX16_plainRegisters_210 (fun _ σ1 => ?_)
  refine g_goto 314 dX16_plainRegisters_213 (by decide) ?_
  exact g_return rfl dX16_plainRegisters_314
def V.Run_plainRegisters_p249  (σ : HS) (x0 : Nat) (x1 : Int32) (x2 : Int32) (x3 : Int32) (x4 : Int32) : Option (Unit × HS) :=
  ck (tg σ x0 = 17) <|
  ck (tg σ x0 = 17) <|
  ck (tg σ (gR σ x0 6) = 100 ∧ inb ((gI σ x0 13) - (1 : Int32)) (ln σ (gR σ x0 6))) <|
  ck (tg σ x0 = 17) <| cl (Run_place σ x0 x1 x3 x4 ((gI σ (gR σ x0 6) (ix ((gI σ x0 13) - (1 : Int32)))) + x2)) fun _ σ1 =>
  some ((), σ1)
theorem V.gX16_plainRegisters_p249 {X : CX}  (σ : HS) (x0 : Nat) (x1 : Int32) (x2 : Int32) (x3 : Int32) (x4 : Int32) : G X RX16 "plainRegisters" cX16_plainRegisters 6 none 8 217 enV 249 [(0, av x0), (1, iv x1), (2, iv x2), (3, iv x3), (4, iv x4)] [] σ (Run_plainRegisters_p249 σ x0 x1 x2 x3 x4) := by
  unfold Run_plainRegisters_p249
  refine g_aload_n 0 0 dX16_plainRegisters_249 rfl rfl ?_
  refine g_iload_n 1 1 dX16_plainRegisters_250 rfl rfl ?_
  refine g_iload_n 3 3 dX16_plainRegisters_251 rfl rfl ?_
  refine g_iload 4 dX16_plainRegisters_252 rfl ?_
  refine g_aload_n 0 0 dX16_plainRegisters_254 rfl rfl ?_
  refine g_getR fdX16_17 dX16_plainRegisters_255 ?_
  refine g_aload_n 0 0 dX16_plainRegisters_258 rfl rfl ?_
  refine g_getI fdX16_67 dX16_plainRegisters_259 ?_
  refine g_iconst (v := 1) dX16_plainRegisters_262 (by decide) ?_
  refine g_isub dX16_plainRegisters_263 ?_
  refine g_iaload dX16_plainRegisters_264 ?_
  refine g_iload_n 2 2 dX16_plainRegisters_265 rfl rfl ?_
  refine g_iadd dX16_plainRegisters_266 ?_
  refine g_callV (fc := fun sς => Run_place sς x0 x1 x3 x4 ((gI σ (gR σ x0 6) (ix ((gI σ x0 13) - (1 : Int32)))) + x2)) (ci := 16) (as := [iv x1, iv x3, iv x4, iv ((gI σ (gR σ x0 6) (ix ((gI σ x0 13) - (1 : Int32)))) + x2)]) rfl rfl rfl q2767 qs191 mdX16_360 (ctX16_place x0 x1 x3 x4 ((gI σ (gR σ x0 6) (ix ((gI σ x0 13) - (1 : Int32)))) + x2)) rfl (Nat.le_of_ble_eq_true rfl) (Nat.le_of_ble_eq_true rfl) (Nat.le_of_ble_eq_true rfl) pu_V dX16_plainRegisters_267 (fun _ σ1 => ?_)
  refine g_goto 314 dX16_plainRegisters_270 (by decide) ?_
  exact g_return rfl dX16_plainRegisters_314
def V.Run_plainRegisters (σ : HS) (x0 : Nat) (x1 : Int32) (x2 : Int32) (x3 : Int32) (x4 : Int32) (x5 : Int32) : Option (Unit × HS) :=
  swx x1 [
    (27, (
      ck (tg σ x0 = 17) <| cl (Run_get σ x0 x5) fun r2 σ1 =>
      if (r2 &&& (4294967295 : Int64)) = (0 : Int64) then (
        ck (tg σ1 x0 = 17) <| cl (Run_get σ1 x0 x4) fun r4 σ3 =>
        Run_plainRegisters_p99 σ3 r4 x2 x0)
      else (
        ck (tg σ1 x0 = 17) <| cl (Run_get σ1 x0 x3) fun r6 σ5 =>
        Run_plainRegisters_p99 σ5 r6 x2 x0))),
    (35, (
      ck (tg σ x0 = 17) <|
      ck (tg σ (gR σ x0 3) = 14) <|
      ck (tg σ x0 = 17) <| cl (Run_global σ x0 x3) fun r8 σ7 =>
      ck (tg σ7 (gR σ (gR σ x0 3) 13) = 101 ∧ inb r8 (ln σ7 (gR σ (gR σ x0 3) 13))) <|
      ck (tg σ7 x0 = 17) <| cl (Run_set σ7 x0 x2 (gJ σ7 (gR σ (gR σ x0 3) 13) (ix r8))) fun _ σ9 =>
      some ((), σ9))),
    (36, (
      ck (tg σ x0 = 17) <|
      ck (tg σ (gR σ x0 3) = 14) <|
      ck (tg σ x0 = 17) <| cl (Run_global σ x0 x2) fun r11 σ10 =>
      ck (tg σ10 x0 = 17) <| cl (Run_get σ10 x0 x3) fun r13 σ12 =>
      ck (tg σ12 (gR σ (gR σ x0 3) 13) = 101 ∧ inb r11 (ln σ12 (gR σ (gR σ x0 3) 13))) <| bn (sJ σ12 (gR σ (gR σ x0 3) 13) (ix r11) r13) fun σ14 =>
      some ((), σ14))),
    (63, (
      ck (tg σ x0 = 17) <|
      ck (tg σ (gR σ x0 3) = 14) <|
      ck (tg σ x0 = 17) <| cl (Run_memory σ x0 ) fun r16 σ15 =>
      ck (tg σ15 (gR σ (gR σ x0 3) 8) = 16) <| cl (Pag_size σ15 (gR σ (gR σ x0 3) 8) r16) fun r18 σ17 =>
      ck (tg σ17 x0 = 17) <| cl (Run_set σ17 x0 x2 r18.toInt64) fun _ σ19 =>
      some ((), σ19))),
    (64, (
      ck (tg σ x0 = 17) <| cl (Run_get σ x0 x3) fun r21 σ20 =>
      ck (tg σ20 x0 = 17) <| cl (Run_grow σ20 x0 (r21 &&& (4294967295 : Int64))) fun r23 σ22 =>
      ck (tg σ22 x0 = 17) <| cl (Run_set σ22 x0 x2 r23) fun _ σ24 =>
      some ((), σ24))),
    (209, (
      ck (tg σ x0 = 17) <| cl (Run_get σ x0 x3) fun r26 σ25 =>
      if r26 = (-1 : Int64) then (
        Run_plainRegisters_p210 σ25 (1 : Int64) x2 x0)
      else (
        Run_plainRegisters_p210 σ25 (0 : Int64) x2 x0))),
    (210, (
      ck (tg σ x0 = 17) <| cl (Run_called σ x0 x3) fun r28 σ27 =>
      ck (tg σ27 x0 = 17) <| cl (Run_set σ27 x0 x2 r28.toInt64) fun _ σ29 =>
      some ((), σ29)))
    ] (
    if (207 : Int32) < x1 then (
      Run_plainRegisters_p249 σ x0 x1 x2 x3 x4)
    else (
      if x1 = (37 : Int32) then (
        Run_plainRegisters_p249 σ x0 x1 x2 x3 x4)
      else (
        if x1 = (38 : Int32) then (
          Run_plainRegisters_p249 σ x0 x1 x2 x3 x4)
        else (
          if (63 : Int32) ≤ x1 then (
            ck (tg σ x0 = 17) <| cl (Run_calculateRegisters σ x0 x1 x2 x3 x4) fun _ σ30 =>
            some ((), σ30))
          else (
            ck (tg σ x0 = 17) <| cl (Run_get σ x0 x3) fun r32 σ31 =>
            ck (tg σ31 x0 = 17) <| cl (Run_moveRegisters σ31 x0 x1 x2 ((r32 &&& (4294967295 : Int64)) + (x4.toInt64 &&& (4294967295 : Int64)))) fun _ σ33 =>
            some ((), σ33))))))
theorem V.ctX16_plainRegisters (x0 : Nat) (x1 : Int32) (x2 : Int32) (x3 : Int32) (x4 : Int32) (x5 : Int32) : Ct yX16_plainRegisters  cX16_plainRegisters 6 none 8 217 eV [av x0, iv x1, iv x2, iv x3, iv x4, iv x5] (fun σ => Run_plainRegisters σ x0 x1 x2 x3 x4 x5) := by
  refine Ct.of (own := RX16) (nm := "plainRegisters") (desc := "(IIIII)V") rfl (by decide) (Nat.le_of_ble_eq_true rfl) (by decide) (fun X σ => ?_)
  show G X RX16 "plainRegisters" cX16_plainRegisters 6 none 8 217 enV 0 [(0, av x0), (1, iv x1), (2, iv x2), (3, iv x3), (4, iv x4), (5, iv x5)] [] σ (Run_plainRegisters σ x0 x1 x2 x3 x4 x5)
  unfold Run_plainRegisters
  refine g_iload_n 1 1 dX16_plainRegisters_0 rfl rfl ?_
  refine g_lsw dX16_plainRegisters_1 (by decide +kernel) ?_
  refine g_case ex0 (t := 68) (by decide +kernel) ?_ (fun hx => ?_)
  · refine g_aload_n 0 0 dX16_plainRegisters_68 rfl rfl ?_
    refine g_iload_n 2 2 dX16_plainRegisters_69 rfl rfl ?_
    refine g_aload_n 0 0 dX16_plainRegisters_70 rfl rfl ?_
    refine g_iload 5 dX16_plainRegisters_71 rfl ?_
    refine g_callV (fc := fun sς => Run_get sς x0 x5) (ci := 16) (as := [iv x5]) rfl rfl rfl q2711 qs180 mdX16_396 (ctX16_get x0 x5) rfl (Nat.le_of_ble_eq_true rfl) (Nat.le_of_ble_eq_true rfl) (Nat.le_of_ble_eq_true rfl) pu_J dX16_plainRegisters_73 (fun r2 σ1 => ?_)
    refine g_ldc2 q2717 dX16_plainRegisters_76 ?_
    refine g_land dX16_plainRegisters_79 ?_
    refine g_lconst (v := 0) dX16_plainRegisters_80 (by decide) ?_
    refine g_lcmp_eq 93 dX16_plainRegisters_81 dX16_plainRegisters_82 (by decide) ?_ ?_
    · refine g_aload_n 0 0 dX16_plainRegisters_93 rfl rfl ?_
      refine g_iload 4 dX16_plainRegisters_94 rfl ?_
      refine g_callV (fc := fun sς => Run_get sς x0 x4) (ci := 16) (as := [iv x4]) rfl rfl rfl q2711 qs180 mdX16_396 (ctX16_get x0 x4) rfl (Nat.le_of_ble_eq_true rfl) (Nat.le_of_ble_eq_true rfl) (Nat.le_of_ble_eq_true rfl) pu_J dX16_plainRegisters_96 (fun r4 σ3 => ?_)
      refine G.sub [] rfl ?_
      exact gX16_plainRegisters_p99 _ _ _ _
    · refine g_aload_n 0 0 dX16_plainRegisters_85 rfl rfl ?_
      refine g_iload_n 3 3 dX16_plainRegisters_86 rfl rfl ?_
      refine g_callV (fc := fun sς => Run_get sς x0 x3) (ci := 16) (as := [iv x3]) rfl rfl rfl q2711 qs180 mdX16_396 (ctX16_get x0 x3) rfl (Nat.le_of_ble_eq_true rfl) (Nat.le_of_ble_eq_true rfl) (Nat.le_of_ble_eq_true rfl) pu_J dX16_plainRegisters_87 (fun r6 σ5 => ?_)
      refine g_goto 99 dX16_plainRegisters_90 (by decide) ?_
      refine G.sub [] rfl ?_
      exact gX16_plainRegisters_p99 _ _ _ _
  refine g_case hx (t := 105) (by decide +kernel) ?_ (fun hx => ?_)
  · refine g_aload_n 0 0 dX16_plainRegisters_105 rfl rfl ?_
    refine g_iload_n 2 2 dX16_plainRegisters_106 rfl rfl ?_
    refine g_aload_n 0 0 dX16_plainRegisters_107 rfl rfl ?_
    refine g_getR fdX16_54 dX16_plainRegisters_108 ?_
    refine g_getR fdX16_347 dX16_plainRegisters_111 ?_
    refine g_aload_n 0 0 dX16_plainRegisters_114 rfl rfl ?_
    refine g_iload_n 3 3 dX16_plainRegisters_115 rfl rfl ?_
    refine g_callV (fc := fun sς => Run_global sς x0 x3) (ci := 16) (as := [iv x3]) rfl rfl rfl q2750 qs188 mdX16_350 (ctX16_global x0 x3) rfl (Nat.le_of_ble_eq_true rfl) (Nat.le_of_ble_eq_true rfl) (Nat.le_of_ble_eq_true rfl) pu_I dX16_plainRegisters_116 (fun r8 σ7 => ?_)
    refine g_laload dX16_plainRegisters_119 ?_
    refine g_callV (fc := fun sς => Run_set sς x0 x2 (gJ σ7 (gR σ (gR σ x0 3) 13) (ix r8))) (ci := 16) (as := [iv x2, jv (gJ σ7 (gR σ (gR σ x0 3) 13) (ix r8))]) rfl rfl rfl q2715 qs181 mdX16_398 (ctX16_set x0 x2 (gJ σ7 (gR σ (gR σ x0 3) 13) (ix r8))) rfl (Nat.le_of_ble_eq_true rfl) (Nat.le_of_ble_eq_true rfl) (Nat.le_of_ble_eq_true rfl) pu_V dX16_plainRegisters_120 (fun _ σ9 => ?_)
    refine g_goto 314 dX16_plainRegisters_123 (by decide) ?_
    exact g_return rfl dX16_plainRegisters_314
  refine g_case hx (t := 126) (by decide +kernel) ?_ (fun hx => ?_)
  · refine g_aload_n 0 0 dX16_plainRegisters_126 rfl rfl ?_
    refine g_getR fdX16_54 dX16_plainRegisters_127 ?_
    refine g_getR fdX16_347 dX16_plainRegisters_130 ?_
    refine g_aload_n 0 0 dX16_plainRegisters_133 rfl rfl ?_
    refine g_iload_n 2 2 dX16_plainRegisters_134 rfl rfl ?_
    refine g_callV (fc := fun sς => Run_global sς x0 x2) (ci := 16) (as := [iv x2]) rfl rfl rfl q2750 qs188 mdX16_350 (ctX16_global x0 x2) rfl (Nat.le_of_ble_eq_true rfl) (Nat.le_of_ble_eq_true rfl) (Nat.le_of_ble_eq_true rfl) pu_I dX16_plainRegisters_135 (fun r11 σ10 => ?_)
    refine g_aload_n 0 0 dX16_plainRegisters_138 rfl rfl ?_
    refine g_iload_n 3 3 dX16_plainRegisters_139 rfl rfl ?_
    refine g_callV (fc := fun sς => Run_get sς x0 x3) (ci := 16) (as := [iv x3]) rfl rfl rfl q2711 qs180 mdX16_396 (ctX16_get x0 x3) rfl (Nat.le_of_ble_eq_true rfl) (Nat.le_of_ble_eq_true rfl) (Nat.le_of_ble_eq_true rfl) pu_J dX16_plainRegisters_140 (fun r13 σ12 => ?_)
    refine g_lastore dX16_plainRegisters_143 (fun σ14 => ?_)
    refine g_goto 314 dX16_plainRegisters_144 (by decide) ?_
    exact g_return rfl dX16_plainRegisters_314
  refine g_case hx (t := 147) (by decide +kernel) ?_ (fun hx => ?_)
  · refine g_aload_n 0 0 dX16_plainRegisters_147 rfl rfl ?_
    refine g_iload_n 2 2 dX16_plainRegisters_148 rfl rfl ?_
    refine g_aload_n 0 0 dX16_plainRegisters_149 rfl rfl ?_
    refine g_getR fdX16_54 dX16_plainRegisters_150 ?_
    refine g_getR fdX16_246 dX16_plainRegisters_153 ?_
    refine g_aload_n 0 0 dX16_plainRegisters_156 rfl rfl ?_
    refine g_callV (fc := fun sς => Run_memory sς x0 ) (ci := 16) (as := []) rfl rfl rfl q2754 qs189 mdX16_250 (ctX16_memory x0 ) rfl (Nat.le_of_ble_eq_true rfl) (Nat.le_of_ble_eq_true rfl) (Nat.le_of_ble_eq_true rfl) pu_I dX16_plainRegisters_157 (fun r16 σ15 => ?_)
    refine g_callV (fc := fun sς => Pag_size sς (gR σ (gR σ x0 3) 8) r16) (ci := 15) (as := [iv r16]) rfl rfl rfl q2231 q2232 mdX16_353 (ctX15_size (gR σ (gR σ x0 3) 8) r16) rfl (Nat.le_of_ble_eq_true rfl) (Nat.le_of_ble_eq_true rfl) (Nat.le_of_ble_eq_true rfl) pu_I dX16_plainRegisters_160 (fun r18 σ17 => ?_)
    refine g_i2l dX16_plainRegisters_163 ?_
    refine g_callV (fc := fun sς => Run_set sς x0 x2 r18.toInt64) (ci := 16) (as := [iv x2, jv r18.toInt64]) rfl rfl rfl q2715 qs181 mdX16_398 (ctX16_set x0 x2 r18.toInt64) rfl (Nat.le_of_ble_eq_true rfl) (Nat.le_of_ble_eq_true rfl) (Nat.le_of_ble_eq_true rfl) pu_V dX16_plainRegisters_164 (fun _ σ19 => ?_)
    refine g_goto 314 dX16_plainRegisters_167 (by decide) ?_
    exact g_return rfl dX16_plainRegisters_314
  refine g_case hx (t := 170) (by decide +kernel) ?_ (fun hx => ?_)
  · refine g_aload_n 0 0 dX16_plainRegisters_170 rfl rfl ?_
    refine g_iload_n 2 2 dX16_plainRegisters_171 rfl rfl ?_
    refine g_aload_n 0 0 dX16_plainRegisters_172 rfl rfl ?_
    refine g_aload_n 0 0 dX16_plainRegisters_173 rfl rfl ?_
    refine g_iload_n 3 3 dX16_plainRegisters_174 rfl rfl ?_
    refine g_callV (fc := fun sς => Run_get sς x0 x3) (ci := 16) (as := [iv x3]) rfl rfl rfl q2711 qs180 mdX16_396 (ctX16_get x0 x3) rfl (Nat.le_of_ble_eq_true rfl) (Nat.le_of_ble_eq_true rfl) (Nat.le_of_ble_eq_true rfl) pu_J dX16_plainRegisters_175 (fun r21 σ20 => ?_)
    refine g_ldc2 q2717 dX16_plainRegisters_178 ?_
    refine g_land dX16_plainRegisters_181 ?_
    refine g_callV (fc := fun sς => Run_grow sς x0 (r21 &&& (4294967295 : Int64))) (ci := 16) (as := [jv (r21 &&& (4294967295 : Int64))]) rfl rfl rfl q2759 qs190 mdX16_354 (ctX16_grow x0 (r21 &&& (4294967295 : Int64))) rfl (Nat.le_of_ble_eq_true rfl) (Nat.le_of_ble_eq_true rfl) (Nat.le_of_ble_eq_true rfl) pu_J dX16_plainRegisters_182 (fun r23 σ22 => ?_)
    refine g_callV (fc := fun sς => Run_set sς x0 x2 r23) (ci := 16) (as := [iv x2, jv r23]) rfl rfl rfl q2715 qs181 mdX16_398 (ctX16_set x0 x2 r23) rfl (Nat.le_of_ble_eq_true rfl) (Nat.le_of_ble_eq_true rfl) (Nat.le_of_ble_eq_true rfl) pu_V dX16_plainRegisters_185 (fun _ σ24 => ?_)
    refine g_goto 314 dX16_plainRegisters_188 (by decide) ?_
    exact g_return rfl dX16_plainRegisters_314
  refine g_case hx (t := 191) (by decide +kernel) ?_ (fun hx => ?_)
  · refine g_aload_n 0 0 dX16_plainRegisters_191 rfl rfl ?_
    refine g_iload_n 2 2 dX16_plainRegisters_192 rfl rfl ?_
    refine g_aload_n 0 0 dX16_plainRegisters_193 rfl rfl ?_
    refine g_iload_n 3 3 dX16_plainRegisters_194 rfl rfl ?_
    refine g_callV (fc := fun sς => Run_get sς x0 x3) (ci := 16) (as := [iv x3]) rfl rfl rfl q2711 qs180 mdX16_396 (ctX16_get x0 x3) rfl (Nat.le_of_ble_eq_true rfl) (Nat.le_of_ble_eq_true rfl) (Nat.le_of_ble_eq_true rfl) pu_J dX16_plainRegisters_195 (fun r26 σ25 => ?_)
    refine g_ldc2 q2681 dX16_plainRegisters_198 ?_
    refine g_lcmp_ne 209 dX16_plainRegisters_201 dX16_plainRegisters_202 (by decide) ?_ ?_
    · refine g_lconst (v := 0) dX16_plainRegisters_209 (by decide) ?_
      refine G.sub [] rfl ?_
      exact gX16_plainRegisters_p210 _ _ _ _
    · refine g_lconst (v := 1) dX16_plainRegisters_205 (by decide) ?_
      refine g_goto 210 dX16_plainRegisters_206 (by decide) ?_
      refine G.sub [] rfl ?_
      exact gX16_plainRegisters_p210 _ _ _ _
  refine g_case hx (t := 216) (by decide +kernel) ?_ (fun hx => ?_)
  · refine g_aload_n 0 0 dX16_plainRegisters_216 rfl rfl ?_
    refine g_iload_n 2 2 dX16_plainRegisters_217 rfl rfl ?_
    refine g_aload_n 0 0 dX16_plainRegisters_218 rfl rfl ?_
    refine g_iload_n 3 3 dX16_plainRegisters_219 rfl rfl ?_
    refine g_callV (fc := fun sς => Run_called sς x0 x3) (ci := 16) (as := [iv x3]) rfl rfl rfl q2728 qs184 mdX16_330 (ctX16_called x0 x3) rfl (Nat.le_of_ble_eq_true rfl) (Nat.le_of_ble_eq_true rfl) (Nat.le_of_ble_eq_true rfl) pu_I dX16_plainRegisters_220 (fun r28 σ27 => ?_)
    refine g_i2l dX16_plainRegisters_223 ?_
    refine g_callV (fc := fun sς => Run_set sς x0 x2 r28.toInt64) (ci := 16) (as := [iv x2, jv r28.toInt64]) rfl rfl rfl q2715 qs181 mdX16_398 (ctX16_set x0 x2 r28.toInt64) rfl (Nat.le_of_ble_eq_true rfl) (Nat.le_of_ble_eq_true rfl) (Nat.le_of_ble_eq_true rfl) pu_V dX16_plainRegisters_224 (fun _ σ29 => ?_)
    refine g_goto 314 dX16_plainRegisters_227 (by decide) ?_
    exact g_return rfl dX16_plainRegisters_314
  refine g_dflt (t := 230) (lswT_d (by decide +kernel) hx) ?_
  refine g_iload_n 1 1 dX16_plainRegisters_230 rfl rfl ?_
  refine g_sipush (v := 207) dX16_plainRegisters_231 (by decide) ?_
  refine g_icmp_gt 249 dX16_plainRegisters_234 (by decide) ?_ ?_
  · refine G.sub [0, 1, 2, 3, 4] rfl ?_
    exact gX16_plainRegisters_p249 _ _ _ _ _ _
  · refine g_iload_n 1 1 dX16_plainRegisters_237 rfl rfl ?_
    refine g_bipush (v := 37) dX16_plainRegisters_238 (by decide) ?_
    refine g_icmp_eq 249 dX16_plainRegisters_240 (by decide) ?_ ?_
    · refine G.sub [0, 1, 2, 3, 4] rfl ?_
      exact gX16_plainRegisters_p249 _ _ _ _ _ _
    · refine g_iload_n 1 1 dX16_plainRegisters_243 rfl rfl ?_
      refine g_bipush (v := 38) dX16_plainRegisters_244 (by decide) ?_
      refine g_icmp_ne 273 dX16_plainRegisters_246 (by decide) ?_ ?_
      · refine g_iload_n 1 1 dX16_plainRegisters_273 rfl rfl ?_
        refine g_bipush (v := 63) dX16_plainRegisters_274 (by decide) ?_
        refine g_icmp_ge 305 dX16_plainRegisters_276 (by decide) ?_ ?_
        · refine g_aload_n 0 0 dX16_plainRegisters_305 rfl rfl ?_
          refine g_iload_n 1 1 dX16_plainRegisters_306 rfl rfl ?_
          refine g_iload_n 2 2 dX16_plainRegisters_307 rfl rfl ?_
          refine g_iload_n 3 3 dX16_plainRegisters_308 rfl rfl ?_
          refine g_iload 4 dX16_plainRegisters_309 rfl ?_
          refine g_callV (fc := fun sς => Run_calculateRegisters sς x0 x1 x2 x3 x4) (ci := 16) (as := [iv x1, iv x2, iv x3, iv x4]) rfl rfl rfl q2835 qs199 mdX16_409 (ctX16_calculateRegisters x0 x1 x2 x3 x4) rfl (Nat.le_of_ble_eq_true rfl) (Nat.le_of_ble_eq_true rfl) (Nat.le_of_ble_eq_true rfl) pu_V dX16_plainRegisters_311 (fun _ σ30 => ?_)
          exact g_return rfl dX16_plainRegisters_314
        · refine g_aload_n 0 0 dX16_plainRegisters_279 rfl rfl ?_
          refine g_iload_n 1 1 dX16_plainRegisters_280 rfl rfl ?_
          refine g_iload_n 2 2 dX16_plainRegisters_281 rfl rfl ?_
          refine g_aload_n 0 0 dX16_plainRegisters_282 rfl rfl ?_
          refine g_iload_n 3 3 dX16_plainRegisters_283 rfl rfl ?_
          refine g_callV (fc := fun sς => Run_get sς x0 x3) (ci := 16) (as := [iv x3]) rfl rfl rfl q2711 qs180 mdX16_396 (ctX16_get x0 x3) rfl (Nat.le_of_ble_eq_true rfl) (Nat.le_of_ble_eq_true rfl) (Nat.le_of_ble_eq_true rfl) pu_J dX16_plainRegisters_284 (fun r32 σ31 => ?_)
          refine g_ldc2 q2717 dX16_plainRegisters_287 ?_
          refine g_land dX16_plainRegisters_290 ?_
          refine g_iload 4 dX16_plainRegisters_291 rfl ?_
          refine g_i2l dX16_plainRegisters_293 ?_
          refine g_ldc2 q2717 dX16_plainRegisters_294 ?_
          refine g_land dX16_plainRegisters_297 ?_
          refine g_ladd dX16_plainRegisters_298 ?_
          refine g_callV (fc := fun sς => Run_moveRegisters sς x0 x1 x2 ((r32 &&& (4294967295 : Int64)) + (x4.toInt64 &&& (4294967295 : Int64)))) (ci := 16) (as := [iv x1, iv x2, jv ((r32 &&& (4294967295 : Int64)) + (x4.toInt64 &&& (4294967295 : Int64)))]) rfl rfl rfl q2811 qs196 mdX16_405 (ctX16_moveRegisters x0 x1 x2 ((r32 &&& (4294967295 : Int64)) + (x4.toInt64 &&& (4294967295 : Int64)))) rfl (Nat.le_of_ble_eq_true rfl) (Nat.le_of_ble_eq_true rfl) (Nat.le_of_ble_eq_true rfl) pu_V dX16_plainRegisters_299 (fun _ σ33 => ?_)
          refine g_goto 314 dX16_plainRegisters_302 (by decide) ?_
          exact g_return rfl dX16_plainRegisters_314
      · refine G.sub [0, 1, 2, 3, 4] rfl ?_
        exact gX16_plainRegisters_p249 _ _ _ _ _ _
theorem V.dX16_stepRegisters_0 : decode cX16_stepRegisters 0 = .ok (.bipush 6, 2) := by decide +kernel
theorem V.dX16_stepRegisters_2 : decode cX16_stepRegisters 2 = .ok (.aload_n 0, 1) := by decide +kernel
theorem V.dX16_stepRegisters_3 : decode cX16_stepRegisters 3 = .ok (.getfield 144, 3) := by decide +kernel
theorem V.dX16_stepRegisters_6 : decode cX16_stepRegisters 6 = .ok (.imul, 1) := by decide +kernel
theorem V.dX16_stepRegisters_7 : decode cX16_stepRegisters 7 = .ok (.istore_n 1, 1) := by decide +kernel
theorem V.dX16_stepRegisters_8 : decode cX16_stepRegisters 8 = .ok (.aload_n 0, 1) := by decide +kernel
theorem V.dX16_stepRegisters_9 : decode cX16_stepRegisters 9 = .ok (.getfield 46, 3) := by decide +kernel
theorem V.dX16_stepRegisters_12 : decode cX16_stepRegisters 12 = .ok (.getfield 185, 3) := by decide +kernel
theorem V.dX16_stepRegisters_15 : decode cX16_stepRegisters 15 = .ok (.iload_n 1, 1) := by decide +kernel
theorem V.dX16_stepRegisters_16 : decode cX16_stepRegisters 16 = .ok (.iaload, 1) := by decide +kernel
theorem V.dX16_stepRegisters_17 : decode cX16_stepRegisters 17 = .ok (.istore_n 2, 1) := by decide +kernel
theorem V.dX16_stepRegisters_18 : decode cX16_stepRegisters 18 = .ok (.aload_n 0, 1) := by decide +kernel
theorem V.dX16_stepRegisters_19 : decode cX16_stepRegisters 19 = .ok (.getfield 46, 3) := by decide +kernel
theorem V.dX16_stepRegisters_22 : decode cX16_stepRegisters 22 = .ok (.getfield 185, 3) := by decide +kernel
theorem V.dX16_stepRegisters_25 : decode cX16_stepRegisters 25 = .ok (.iload_n 1, 1) := by decide +kernel
theorem V.dX16_stepRegisters_26 : decode cX16_stepRegisters 26 = .ok (.iconst 1, 1) := by decide +kernel
theorem V.dX16_stepRegisters_27 : decode cX16_stepRegisters 27 = .ok (.iadd, 1) := by decide +kernel
theorem V.dX16_stepRegisters_28 : decode cX16_stepRegisters 28 = .ok (.iaload, 1) := by decide +kernel
theorem V.dX16_stepRegisters_29 : decode cX16_stepRegisters 29 = .ok (.istore_n 3, 1) := by decide +kernel
theorem V.dX16_stepRegisters_30 : decode cX16_stepRegisters 30 = .ok (.aload_n 0, 1) := by decide +kernel
theorem V.dX16_stepRegisters_31 : decode cX16_stepRegisters 31 = .ok (.getfield 46, 3) := by decide +kernel
theorem V.dX16_stepRegisters_34 : decode cX16_stepRegisters 34 = .ok (.getfield 185, 3) := by decide +kernel
theorem V.dX16_stepRegisters_37 : decode cX16_stepRegisters 37 = .ok (.iload_n 1, 1) := by decide +kernel
theorem V.dX16_stepRegisters_38 : decode cX16_stepRegisters 38 = .ok (.iconst 2, 1) := by decide +kernel
theorem V.dX16_stepRegisters_39 : decode cX16_stepRegisters 39 = .ok (.iadd, 1) := by decide +kernel
theorem V.dX16_stepRegisters_40 : decode cX16_stepRegisters 40 = .ok (.iaload, 1) := by decide +kernel
theorem V.dX16_stepRegisters_41 : decode cX16_stepRegisters 41 = .ok (.istore 4, 2) := by decide +kernel
theorem V.dX16_stepRegisters_43 : decode cX16_stepRegisters 43 = .ok (.aload_n 0, 1) := by decide +kernel
theorem V.dX16_stepRegisters_44 : decode cX16_stepRegisters 44 = .ok (.getfield 46, 3) := by decide +kernel
theorem V.dX16_stepRegisters_47 : decode cX16_stepRegisters 47 = .ok (.getfield 185, 3) := by decide +kernel
theorem V.dX16_stepRegisters_50 : decode cX16_stepRegisters 50 = .ok (.iload_n 1, 1) := by decide +kernel
theorem V.dX16_stepRegisters_51 : decode cX16_stepRegisters 51 = .ok (.iconst 3, 1) := by decide +kernel
theorem V.dX16_stepRegisters_52 : decode cX16_stepRegisters 52 = .ok (.iadd, 1) := by decide +kernel
theorem V.dX16_stepRegisters_53 : decode cX16_stepRegisters 53 = .ok (.iaload, 1) := by decide +kernel
theorem V.dX16_stepRegisters_54 : decode cX16_stepRegisters 54 = .ok (.istore 5, 2) := by decide +kernel
theorem V.dX16_stepRegisters_56 : decode cX16_stepRegisters 56 = .ok (.aload_n 0, 1) := by decide +kernel
theorem V.dX16_stepRegisters_57 : decode cX16_stepRegisters 57 = .ok (.getfield 46, 3) := by decide +kernel
theorem V.dX16_stepRegisters_60 : decode cX16_stepRegisters 60 = .ok (.getfield 185, 3) := by decide +kernel
theorem V.dX16_stepRegisters_63 : decode cX16_stepRegisters 63 = .ok (.iload_n 1, 1) := by decide +kernel
theorem V.dX16_stepRegisters_64 : decode cX16_stepRegisters 64 = .ok (.iconst 4, 1) := by decide +kernel
theorem V.dX16_stepRegisters_65 : decode cX16_stepRegisters 65 = .ok (.iadd, 1) := by decide +kernel
theorem V.dX16_stepRegisters_66 : decode cX16_stepRegisters 66 = .ok (.iaload, 1) := by decide +kernel
theorem V.dX16_stepRegisters_67 : decode cX16_stepRegisters 67 = .ok (.istore 6, 2) := by decide +kernel
theorem V.dX16_stepRegisters_69 : decode cX16_stepRegisters 69 = .ok (.aload_n 0, 1) := by decide +kernel
theorem V.dX16_stepRegisters_70 : decode cX16_stepRegisters 70 = .ok (.dup, 1) := by decide +kernel
theorem V.dX16_stepRegisters_71 : decode cX16_stepRegisters 71 = .ok (.getfield 144, 3) := by decide +kernel
theorem V.dX16_stepRegisters_74 : decode cX16_stepRegisters 74 = .ok (.iconst 1, 1) := by decide +kernel
theorem V.dX16_stepRegisters_75 : decode cX16_stepRegisters 75 = .ok (.iadd, 1) := by decide +kernel
theorem V.dX16_stepRegisters_76 : decode cX16_stepRegisters 76 = .ok (.putfield 144, 3) := by decide +kernel
theorem V.dX16_stepRegisters_79 : decode cX16_stepRegisters 79 = .ok (.iload_n 2, 1) := by decide +kernel
theorem V.dX16_stepRegisters_80 : decode cX16_stepRegisters 80 = .ok (.lookupswitch 265 #[(0, 84), (16, 201), (17, 231), (300, 95), (301, 92), (302, 109), (303, 117), (304, 140), (305, 179)], 84) := by decide +kernel
theorem V.dX16_stepRegisters_164 : decode cX16_stepRegisters 164 = .ok (.aload_n 0, 1) := by decide +kernel
theorem V.dX16_stepRegisters_165 : decode cX16_stepRegisters 165 = .ok (.iconst 1, 1) := by decide +kernel
theorem V.dX16_stepRegisters_166 : decode cX16_stepRegisters 166 = .ok (.invokevirtual 226, 3) := by decide +kernel
theorem V.dX16_stepRegisters_169 : decode cX16_stepRegisters 169 = .ok (.goto 188, 3) := by decide +kernel
theorem V.dX16_stepRegisters_172 : decode cX16_stepRegisters 172 = .ok (.goto 185, 3) := by decide +kernel
theorem V.dX16_stepRegisters_175 : decode cX16_stepRegisters 175 = .ok (.aload_n 0, 1) := by decide +kernel
theorem V.dX16_stepRegisters_176 : decode cX16_stepRegisters 176 = .ok (.iload_n 3, 1) := by decide +kernel
theorem V.dX16_stepRegisters_177 : decode cX16_stepRegisters 177 = .ok (.aload_n 0, 1) := by decide +kernel
theorem V.dX16_stepRegisters_178 : decode cX16_stepRegisters 178 = .ok (.iload 4, 2) := by decide +kernel
theorem V.dX16_stepRegisters_180 : decode cX16_stepRegisters 180 = .ok (.invokevirtual 396, 3) := by decide +kernel
theorem V.dX16_stepRegisters_183 : decode cX16_stepRegisters 183 = .ok (.invokevirtual 398, 3) := by decide +kernel
theorem V.dX16_stepRegisters_186 : decode cX16_stepRegisters 186 = .ok (.goto 171, 3) := by decide +kernel
theorem V.dX16_stepRegisters_189 : decode cX16_stepRegisters 189 = .ok (.aload_n 0, 1) := by decide +kernel
theorem V.dX16_stepRegisters_190 : decode cX16_stepRegisters 190 = .ok (.iload_n 3, 1) := by decide +kernel
theorem V.dX16_stepRegisters_191 : decode cX16_stepRegisters 191 = .ok (.putfield 144, 3) := by decide +kernel
theorem V.dX16_stepRegisters_194 : decode cX16_stepRegisters 194 = .ok (.goto 163, 3) := by decide +kernel
theorem V.dX16_stepRegisters_197 : decode cX16_stepRegisters 197 = .ok (.aload_n 0, 1) := by decide +kernel
theorem V.dX16_stepRegisters_198 : decode cX16_stepRegisters 198 = .ok (.iload 4, 2) := by decide +kernel
theorem V.dX16_stepRegisters_200 : decode cX16_stepRegisters 200 = .ok (.invokevirtual 396, 3) := by decide +kernel
theorem V.dX16_stepRegisters_203 : decode cX16_stepRegisters 203 = .ok (.ldc2_w 262, 3) := by decide +kernel
theorem V.dX16_stepRegisters_206 : decode cX16_stepRegisters 206 = .ok (.land, 1) := by decide +kernel
theorem V.dX16_stepRegisters_207 : decode cX16_stepRegisters 207 = .ok (.lconst 0, 1) := by decide +kernel
theorem V.dX16_stepRegisters_208 : decode cX16_stepRegisters 208 = .ok (.lcmp, 1) := by decide +kernel
theorem V.dX16_stepRegisters_209 : decode cX16_stepRegisters 209 = .ok (.ifCond .ne 148, 3) := by decide +kernel
theorem V.dX16_stepRegisters_212 : decode cX16_stepRegisters 212 = .ok (.aload_n 0, 1) := by decide +kernel
theorem V.dX16_stepRegisters_213 : decode cX16_stepRegisters 213 = .ok (.iload_n 3, 1) := by decide +kernel
theorem V.dX16_stepRegisters_214 : decode cX16_stepRegisters 214 = .ok (.putfield 144, 3) := by decide +kernel
theorem V.dX16_stepRegisters_217 : decode cX16_stepRegisters 217 = .ok (.goto 140, 3) := by decide +kernel
theorem V.dX16_stepRegisters_220 : decode cX16_stepRegisters 220 = .ok (.aload_n 0, 1) := by decide +kernel
theorem V.dX16_stepRegisters_221 : decode cX16_stepRegisters 221 = .ok (.iload 4, 2) := by decide +kernel
theorem V.dX16_stepRegisters_223 : decode cX16_stepRegisters 223 = .ok (.invokevirtual 396, 3) := by decide +kernel
theorem V.dX16_stepRegisters_226 : decode cX16_stepRegisters 226 = .ok (.ldc2_w 262, 3) := by decide +kernel
theorem V.dX16_stepRegisters_229 : decode cX16_stepRegisters 229 = .ok (.land, 1) := by decide +kernel
theorem V.dX16_stepRegisters_230 : decode cX16_stepRegisters 230 = .ok (.lstore 7, 2) := by decide +kernel
theorem V.dX16_stepRegisters_232 : decode cX16_stepRegisters 232 = .ok (.aload_n 0, 1) := by decide +kernel
theorem V.dX16_stepRegisters_233 : decode cX16_stepRegisters 233 = .ok (.dup, 1) := by decide +kernel
theorem V.dX16_stepRegisters_234 : decode cX16_stepRegisters 234 = .ok (.getfield 144, 3) := by decide +kernel
theorem V.dX16_stepRegisters_237 : decode cX16_stepRegisters 237 = .ok (.lload 7, 2) := by decide +kernel
theorem V.dX16_stepRegisters_239 : decode cX16_stepRegisters 239 = .ok (.iload_n 3, 1) := by decide +kernel
theorem V.dX16_stepRegisters_240 : decode cX16_stepRegisters 240 = .ok (.i2l, 1) := by decide +kernel
theorem V.dX16_stepRegisters_241 : decode cX16_stepRegisters 241 = .ok (.lcmp, 1) := by decide +kernel
theorem V.dX16_stepRegisters_242 : decode cX16_stepRegisters 242 = .ok (.ifCond .ge 9, 3) := by decide +kernel
theorem V.dX16_stepRegisters_245 : decode cX16_stepRegisters 245 = .ok (.lload 7, 2) := by decide +kernel
theorem V.dX16_stepRegisters_247 : decode cX16_stepRegisters 247 = .ok (.l2i, 1) := by decide +kernel
theorem V.dX16_stepRegisters_248 : decode cX16_stepRegisters 248 = .ok (.goto 4, 3) := by decide +kernel
theorem V.dX16_stepRegisters_251 : decode cX16_stepRegisters 251 = .ok (.iload_n 3, 1) := by decide +kernel
theorem V.dX16_stepRegisters_252 : decode cX16_stepRegisters 252 = .ok (.iadd, 1) := by decide +kernel
theorem V.dX16_stepRegisters_253 : decode cX16_stepRegisters 253 = .ok (.putfield 144, 3) := by decide +kernel
theorem V.dX16_stepRegisters_256 : decode cX16_stepRegisters 256 = .ok (.goto 101, 3) := by decide +kernel
theorem V.dX16_stepRegisters_259 : decode cX16_stepRegisters 259 = .ok (.aload_n 0, 1) := by decide +kernel
theorem V.dX16_stepRegisters_260 : decode cX16_stepRegisters 260 = .ok (.aload_n 0, 1) := by decide +kernel
theorem V.dX16_stepRegisters_261 : decode cX16_stepRegisters 261 = .ok (.getfield 17, 3) := by decide +kernel
theorem V.dX16_stepRegisters_264 : decode cX16_stepRegisters 264 = .ok (.aload_n 0, 1) := by decide +kernel
theorem V.dX16_stepRegisters_265 : decode cX16_stepRegisters 265 = .ok (.getfield 67, 3) := by decide +kernel
theorem V.dX16_stepRegisters_268 : decode cX16_stepRegisters 268 = .ok (.iconst 1, 1) := by decide +kernel
theorem V.dX16_stepRegisters_269 : decode cX16_stepRegisters 269 = .ok (.isub, 1) := by decide +kernel
theorem V.dX16_stepRegisters_270 : decode cX16_stepRegisters 270 = .ok (.iaload, 1) := by decide +kernel
theorem V.dX16_stepRegisters_271 : decode cX16_stepRegisters 271 = .ok (.iload_n 3, 1) := by decide +kernel
theorem V.dX16_stepRegisters_272 : decode cX16_stepRegisters 272 = .ok (.iadd, 1) := by decide +kernel
theorem V.dX16_stepRegisters_273 : decode cX16_stepRegisters 273 = .ok (.iload 4, 2) := by decide +kernel
theorem V.dX16_stepRegisters_275 : decode cX16_stepRegisters 275 = .ok (.invokevirtual 327, 3) := by decide +kernel
theorem V.dX16_stepRegisters_278 : decode cX16_stepRegisters 278 = .ok (.goto 79, 3) := by decide +kernel
theorem V.dX16_stepRegisters_281 : decode cX16_stepRegisters 281 = .ok (.aload_n 0, 1) := by decide +kernel
theorem V.dX16_stepRegisters_282 : decode cX16_stepRegisters 282 = .ok (.aload_n 0, 1) := by decide +kernel
theorem V.dX16_stepRegisters_283 : decode cX16_stepRegisters 283 = .ok (.iload 4, 2) := by decide +kernel
theorem V.dX16_stepRegisters_285 : decode cX16_stepRegisters 285 = .ok (.invokevirtual 330, 3) := by decide +kernel
theorem V.dX16_stepRegisters_288 : decode cX16_stepRegisters 288 = .ok (.aload_n 0, 1) := by decide +kernel
theorem V.dX16_stepRegisters_289 : decode cX16_stepRegisters 289 = .ok (.getfield 17, 3) := by decide +kernel
theorem V.dX16_stepRegisters_292 : decode cX16_stepRegisters 292 = .ok (.aload_n 0, 1) := by decide +kernel
theorem V.dX16_stepRegisters_293 : decode cX16_stepRegisters 293 = .ok (.getfield 67, 3) := by decide +kernel
theorem V.dX16_stepRegisters_296 : decode cX16_stepRegisters 296 = .ok (.iconst 1, 1) := by decide +kernel
theorem V.dX16_stepRegisters_297 : decode cX16_stepRegisters 297 = .ok (.isub, 1) := by decide +kernel
theorem V.dX16_stepRegisters_298 : decode cX16_stepRegisters 298 = .ok (.iaload, 1) := by decide +kernel
theorem V.dX16_stepRegisters_299 : decode cX16_stepRegisters 299 = .ok (.iload_n 3, 1) := by decide +kernel
theorem V.dX16_stepRegisters_300 : decode cX16_stepRegisters 300 = .ok (.iadd, 1) := by decide +kernel
theorem V.dX16_stepRegisters_301 : decode cX16_stepRegisters 301 = .ok (.aload_n 0, 1) := by decide +kernel
theorem V.dX16_stepRegisters_302 : decode cX16_stepRegisters 302 = .ok (.getfield 144, 3) := by decide +kernel
theorem V.dX16_stepRegisters_305 : decode cX16_stepRegisters 305 = .ok (.invokevirtual 86, 3) := by decide +kernel
theorem V.dX16_stepRegisters_308 : decode cX16_stepRegisters 308 = .ok (.goto 49, 3) := by decide +kernel
theorem V.dX16_stepRegisters_311 : decode cX16_stepRegisters 311 = .ok (.aload_n 0, 1) := by decide +kernel
theorem V.dX16_stepRegisters_312 : decode cX16_stepRegisters 312 = .ok (.aload_n 0, 1) := by decide +kernel
theorem V.dX16_stepRegisters_313 : decode cX16_stepRegisters 313 = .ok (.iload 5, 2) := by decide +kernel
theorem V.dX16_stepRegisters_315 : decode cX16_stepRegisters 315 = .ok (.invokevirtual 396, 3) := by decide +kernel
theorem V.dX16_stepRegisters_318 : decode cX16_stepRegisters 318 = .ok (.ldc2_w 262, 3) := by decide +kernel
theorem V.dX16_stepRegisters_321 : decode cX16_stepRegisters 321 = .ok (.land, 1) := by decide +kernel
theorem V.dX16_stepRegisters_322 : decode cX16_stepRegisters 322 = .ok (.iload 4, 2) := by decide +kernel
theorem V.dX16_stepRegisters_324 : decode cX16_stepRegisters 324 = .ok (.iload 6, 2) := by decide +kernel
theorem V.dX16_stepRegisters_326 : decode cX16_stepRegisters 326 = .ok (.aload_n 0, 1) := by decide +kernel
theorem V.dX16_stepRegisters_327 : decode cX16_stepRegisters 327 = .ok (.getfield 17, 3) := by decide +kernel
theorem V.dX16_stepRegisters_330 : decode cX16_stepRegisters 330 = .ok (.aload_n 0, 1) := by decide +kernel
theorem V.dX16_stepRegisters_331 : decode cX16_stepRegisters 331 = .ok (.getfield 67, 3) := by decide +kernel
theorem V.dX16_stepRegisters_334 : decode cX16_stepRegisters 334 = .ok (.iconst 1, 1) := by decide +kernel
theorem V.dX16_stepRegisters_335 : decode cX16_stepRegisters 335 = .ok (.isub, 1) := by decide +kernel
theorem V.dX16_stepRegisters_336 : decode cX16_stepRegisters 336 = .ok (.iaload, 1) := by decide +kernel
theorem V.dX16_stepRegisters_337 : decode cX16_stepRegisters 337 = .ok (.iload_n 3, 1) := by decide +kernel
theorem V.dX16_stepRegisters_338 : decode cX16_stepRegisters 338 = .ok (.iadd, 1) := by decide +kernel
theorem V.dX16_stepRegisters_339 : decode cX16_stepRegisters 339 = .ok (.invokevirtual 333, 3) := by decide +kernel
theorem V.dX16_stepRegisters_342 : decode cX16_stepRegisters 342 = .ok (.goto 15, 3) := by decide +kernel
theorem V.dX16_stepRegisters_345 : decode cX16_stepRegisters 345 = .ok (.aload_n 0, 1) := by decide +kernel
theorem V.dX16_stepRegisters_346 : decode cX16_stepRegisters 346 = .ok (.iload_n 2, 1) := by decide +kernel
theorem V.dX16_stepRegisters_347 : decode cX16_stepRegisters 347 = .ok (.iload_n 3, 1) := by decide +kernel
theorem V.dX16_stepRegisters_348 : decode cX16_stepRegisters 348 = .ok (.iload 4, 2) := by decide +kernel
theorem V.dX16_stepRegisters_350 : decode cX16_stepRegisters 350 = .ok (.iload 5, 2) := by decide +kernel
theorem V.dX16_stepRegisters_352 : decode cX16_stepRegisters 352 = .ok (.iload 6, 2) := by decide +kernel
theorem V.dX16_stepRegisters_354 : decode cX16_stepRegisters 354 = .ok (.invokevirtual 401, 3) := by decide +kernel
theorem V.dX16_stepRegisters_357 : decode cX16_stepRegisters 357 = .ok (.return_, 1) := by decide +kernel
theorem V.mdX16_333 : MD RX16 333 yX16_callEntry cX16_callEntry 9 none 4 := ⟨Or.inl q2734, q376, q2737, by decide, by decide, by decide +kernel⟩
theorem V.mdX16_327 : MD RX16 327 yX16_leave cX16_leave 5 none 2 := ⟨Or.inl q2718, q376, q2721, by decide, by decide, by decide +kernel⟩
theorem V.mdX16_401 : MD RX16 401 yX16_plainRegisters cX16_plainRegisters 6 none 5 := ⟨Or.inl q2744, q376, q2747, by decide, by decide, by decide +kernel⟩
/-! ModuleEngine$Runner.stepRegisters()V -/
def V.Run_stepRegisters_p252  (σ : HS) (s0 : Int32) (s1 : Int32) (s2 : Nat) : Option (Unit × HS) :=
  ck (tg σ s2 = 17) <| bn (sI σ s2 16 (s1 + s0)) fun σ1 =>
  some ((), σ1)
theorem V.gX16_stepRegisters_p252 {X : CX}  (σ : HS) (s0 : Int32) (s1 : Int32) (s2 : Nat) : G X RX16 "stepRegisters" cX16_stepRegisters 9 none 15 396 enV 252 [] [iv s0, iv s1, av s2] σ (Run_stepRegisters_p252 σ s0 s1 s2) := by
  unfold Run_stepRegisters_p252
  refine g_iadd dX16_stepRegisters_252 ?_
  refine g_putI fpX16_144 dX16_stepRegisters_253 (fun σ1 => ?_)
  refine g_goto 357 dX16_stepRegisters_256 (by decide) ?_
  exact g_return rfl dX16_stepRegisters_357
def V.Run_stepRegisters (σ : HS) (x0 : Nat) : Option (Unit × HS) :=
  ck (tg σ x0 = 17) <|
  bn ((6 : Int32) * (gI σ x0 16)) fun y1 =>
  ck (tg σ x0 = 17) <|
  ck (tg σ (gR σ x0 1) = 8) <|
  ck (tg σ (gR σ (gR σ x0 1) 2) = 100 ∧ inb y1 (ln σ (gR σ (gR σ x0 1) 2))) <|
  bn (gI σ (gR σ (gR σ x0 1) 2) (ix y1)) fun y2 =>
  ck (tg σ x0 = 17) <|
  ck (tg σ (gR σ x0 1) = 8) <|
  ck (tg σ (gR σ (gR σ x0 1) 2) = 100 ∧ inb (y1 + (1 : Int32)) (ln σ (gR σ (gR σ x0 1) 2))) <|
  bn (gI σ (gR σ (gR σ x0 1) 2) (ix (y1 + (1 : Int32)))) fun y3 =>
  ck (tg σ x0 = 17) <|
  ck (tg σ (gR σ x0 1) = 8) <|
  ck (tg σ (gR σ (gR σ x0 1) 2) = 100 ∧ inb (y1 + (2 : Int32)) (ln σ (gR σ (gR σ x0 1) 2))) <|
  bn (gI σ (gR σ (gR σ x0 1) 2) (ix (y1 + (2 : Int32)))) fun y4 =>
  ck (tg σ x0 = 17) <|
  ck (tg σ (gR σ x0 1) = 8) <|
  ck (tg σ (gR σ (gR σ x0 1) 2) = 100 ∧ inb (y1 + (3 : Int32)) (ln σ (gR σ (gR σ x0 1) 2))) <|
  bn (gI σ (gR σ (gR σ x0 1) 2) (ix (y1 + (3 : Int32)))) fun y5 =>
  ck (tg σ x0 = 17) <|
  ck (tg σ (gR σ x0 1) = 8) <|
  ck (tg σ (gR σ (gR σ x0 1) 2) = 100 ∧ inb (y1 + (4 : Int32)) (ln σ (gR σ (gR σ x0 1) 2))) <|
  bn (gI σ (gR σ (gR σ x0 1) 2) (ix (y1 + (4 : Int32)))) fun y6 =>
  ck (tg σ x0 = 17) <|
  ck (tg σ x0 = 17) <| bn (sI σ x0 16 ((gI σ x0 16) + (1 : Int32))) fun σ7 =>
  swx y2 [
    (0, (
      ck (tg σ7 x0 = 17) <| cl (Run_stop σ7 x0 (1 : Int32)) fun _ σ8 =>
      some ((), σ8))),
    (16, (
      ck (tg σ7 x0 = 17) <| cl (Run_called σ7 x0 y4) fun r10 σ9 =>
      ck (tg σ9 x0 = 17) <|
      ck (tg σ9 x0 = 17) <|
      ck (tg σ9 (gR σ9 x0 6) = 100 ∧ inb ((gI σ9 x0 13) - (1 : Int32)) (ln σ9 (gR σ9 x0 6))) <|
      ck (tg σ9 x0 = 17) <|
      ck (tg σ9 x0 = 17) <| cl (Run_enter σ9 x0 r10 ((gI σ9 (gR σ9 x0 6) (ix ((gI σ9 x0 13) - (1 : Int32)))) + y3) (gI σ9 x0 16)) fun _ σ11 =>
      some ((), σ11))),
    (17, (
      ck (tg σ7 x0 = 17) <| cl (Run_get σ7 x0 y5) fun r13 σ12 =>
      ck (tg σ12 x0 = 17) <|
      ck (tg σ12 x0 = 17) <|
      ck (tg σ12 (gR σ12 x0 6) = 100 ∧ inb ((gI σ12 x0 13) - (1 : Int32)) (ln σ12 (gR σ12 x0 6))) <|
      ck (tg σ12 x0 = 17) <| cl (Run_callEntry σ12 x0 (r13 &&& (4294967295 : Int64)) y4 y6 ((gI σ12 (gR σ12 x0 6) (ix ((gI σ12 x0 13) - (1 : Int32)))) + y3)) fun _ σ14 =>
      some ((), σ14))),
    (300, (
      ck (tg σ7 x0 = 17) <| cl (Run_get σ7 x0 y4) fun r16 σ15 =>
      ck (tg σ15 x0 = 17) <| cl (Run_set σ15 x0 y3 r16) fun _ σ17 =>
      some ((), σ17))),
    (301, (
      some ((), σ7))),
    (302, (
      ck (tg σ7 x0 = 17) <| bn (sI σ7 x0 16 y3) fun σ18 =>
      some ((), σ18))),
    (303, (
      ck (tg σ7 x0 = 17) <| cl (Run_get σ7 x0 y4) fun r20 σ19 =>
      if (r20 &&& (4294967295 : Int64)) = (0 : Int64) then (
        ck (tg σ19 x0 = 17) <| bn (sI σ19 x0 16 y3) fun σ21 =>
        some ((), σ21))
      else (
        some ((), σ19)))),
    (304, (
      ck (tg σ7 x0 = 17) <| cl (Run_get σ7 x0 y4) fun r23 σ22 =>
      bn (r23 &&& (4294967295 : Int64)) fun y24 =>
      ck (tg σ22 x0 = 17) <|
      if y3.toInt64 ≤ y24 then (
        Run_stepRegisters_p252 σ22 y3 (gI σ22 x0 16) x0)
      else (
        Run_stepRegisters_p252 σ22 y24.toInt32 (gI σ22 x0 16) x0))),
    (305, (
      ck (tg σ7 x0 = 17) <|
      ck (tg σ7 x0 = 17) <|
      ck (tg σ7 (gR σ7 x0 6) = 100 ∧ inb ((gI σ7 x0 13) - (1 : Int32)) (ln σ7 (gR σ7 x0 6))) <|
      ck (tg σ7 x0 = 17) <| cl (Run_leave σ7 x0 ((gI σ7 (gR σ7 x0 6) (ix ((gI σ7 x0 13) - (1 : Int32)))) + y3) y4) fun _ σ25 =>
      some ((), σ25)))
    ] (
    ck (tg σ7 x0 = 17) <| cl (Run_plainRegisters σ7 x0 y2 y3 y4 y5 y6) fun _ σ26 =>
    some ((), σ26))
theorem V.ctX16_stepRegisters (x0 : Nat) : Ct yX16_stepRegisters  cX16_stepRegisters 9 none 15 396 eV [av x0] (fun σ => Run_stepRegisters σ x0) := by
  refine Ct.of (own := RX16) (nm := "stepRegisters") (desc := "()V") rfl (by decide) (Nat.le_of_ble_eq_true rfl) (by decide) (fun X σ => ?_)
  show G X RX16 "stepRegisters" cX16_stepRegisters 9 none 15 396 enV 0 [(0, av x0)] [] σ (Run_stepRegisters σ x0)
  unfold Run_stepRegisters
  refine g_bipush (v := 6) dX16_stepRegisters_0 (by decide) ?_
  refine g_aload_n 0 0 dX16_stepRegisters_2 rfl rfl ?_
  refine g_getI fdX16_144 dX16_stepRegisters_3 ?_
  refine g_imul dX16_stepRegisters_6 ?_
  refine g_nmI (fun y1 => ?_)
  refine g_istore_n 1 dX16_stepRegisters_7 rfl (by decide) rfl ?_
  refine g_aload_n 0 1 dX16_stepRegisters_8 rfl rfl ?_
  refine g_getR fdX16_46 dX16_stepRegisters_9 ?_
  refine g_getR fdX16_185 dX16_stepRegisters_12 ?_
  refine g_iload_n 1 0 dX16_stepRegisters_15 rfl rfl ?_
  refine g_iaload dX16_stepRegisters_16 ?_
  refine g_nmI (fun y2 => ?_)
  refine g_istore_n 2 dX16_stepRegisters_17 rfl (by decide) rfl ?_
  refine g_aload_n 0 2 dX16_stepRegisters_18 rfl rfl ?_
  refine g_getR fdX16_46 dX16_stepRegisters_19 ?_
  refine g_getR fdX16_185 dX16_stepRegisters_22 ?_
  refine g_iload_n 1 1 dX16_stepRegisters_25 rfl rfl ?_
  refine g_iconst (v := 1) dX16_stepRegisters_26 (by decide) ?_
  refine g_iadd dX16_stepRegisters_27 ?_
  refine g_iaload dX16_stepRegisters_28 ?_
  refine g_nmI (fun y3 => ?_)
  refine g_istore_n 3 dX16_stepRegisters_29 rfl (by decide) rfl ?_
  refine g_aload_n 0 3 dX16_stepRegisters_30 rfl rfl ?_
  refine g_getR fdX16_46 dX16_stepRegisters_31 ?_
  refine g_getR fdX16_185 dX16_stepRegisters_34 ?_
  refine g_iload_n 1 2 dX16_stepRegisters_37 rfl rfl ?_
  refine g_iconst (v := 2) dX16_stepRegisters_38 (by decide) ?_
  refine g_iadd dX16_stepRegisters_39 ?_
  refine g_iaload dX16_stepRegisters_40 ?_
  refine g_nmI (fun y4 => ?_)
  refine g_istore dX16_stepRegisters_41 (by decide) rfl ?_
  refine g_aload_n 0 4 dX16_stepRegisters_43 rfl rfl ?_
  refine g_getR fdX16_46 dX16_stepRegisters_44 ?_
  refine g_getR fdX16_185 dX16_stepRegisters_47 ?_
  refine g_iload_n 1 3 dX16_stepRegisters_50 rfl rfl ?_
  refine g_iconst (v := 3) dX16_stepRegisters_51 (by decide) ?_
  refine g_iadd dX16_stepRegisters_52 ?_
  refine g_iaload dX16_stepRegisters_53 ?_
  refine g_nmI (fun y5 => ?_)
  refine g_istore dX16_stepRegisters_54 (by decide) rfl ?_
  refine g_aload_n 0 5 dX16_stepRegisters_56 rfl rfl ?_
  refine g_getR fdX16_46 dX16_stepRegisters_57 ?_
  refine g_getR fdX16_185 dX16_stepRegisters_60 ?_
  refine g_iload_n 1 4 dX16_stepRegisters_63 rfl rfl ?_
  refine g_iconst (v := 4) dX16_stepRegisters_64 (by decide) ?_
  refine g_iadd dX16_stepRegisters_65 ?_
  refine g_iaload dX16_stepRegisters_66 ?_
  refine g_nmI (fun y6 => ?_)
  refine g_istore dX16_stepRegisters_67 (by decide) rfl ?_
  refine g_aload_n 0 6 dX16_stepRegisters_69 rfl rfl ?_
  refine g_dup dX16_stepRegisters_70 rfl ?_
  refine g_getI fdX16_144 dX16_stepRegisters_71 ?_
  refine g_iconst (v := 1) dX16_stepRegisters_74 (by decide) ?_
  refine g_iadd dX16_stepRegisters_75 ?_
  refine g_putI fpX16_144 dX16_stepRegisters_76 (fun σ7 => ?_)
  refine g_iload_n 2 4 dX16_stepRegisters_79 rfl rfl ?_
  refine g_lsw dX16_stepRegisters_80 (by decide +kernel) ?_
  refine g_case ex0 (t := 164) (by decide +kernel) ?_ (fun hx => ?_)
  · refine g_aload_n 0 6 dX16_stepRegisters_164 rfl rfl ?_
    refine g_iconst (v := 1) dX16_stepRegisters_165 (by decide) ?_
    refine g_callV (fc := fun sς => Run_stop sς x0 (1 : Int32)) (ci := 16) (as := [iv (1 : Int32)]) rfl rfl rfl q2364 q2365 mdX16_226 (ctX16_stop x0 (1 : Int32)) rfl (Nat.le_of_ble_eq_true rfl) (Nat.le_of_ble_eq_true rfl) (Nat.le_of_ble_eq_true rfl) pu_V dX16_stepRegisters_166 (fun _ σ8 => ?_)
    refine g_goto 357 dX16_stepRegisters_169 (by decide) ?_
    exact g_return rfl dX16_stepRegisters_357
  refine g_case hx (t := 281) (by decide +kernel) ?_ (fun hx => ?_)
  · refine g_aload_n 0 6 dX16_stepRegisters_281 rfl rfl ?_
    refine g_aload_n 0 6 dX16_stepRegisters_282 rfl rfl ?_
    refine g_iload 2 dX16_stepRegisters_283 rfl ?_
    refine g_callV (fc := fun sς => Run_called sς x0 y4) (ci := 16) (as := [iv y4]) rfl rfl rfl q2728 qs184 mdX16_330 (ctX16_called x0 y4) rfl (Nat.le_of_ble_eq_true rfl) (Nat.le_of_ble_eq_true rfl) (Nat.le_of_ble_eq_true rfl) pu_I dX16_stepRegisters_285 (fun r10 σ9 => ?_)
    refine g_aload_n 0 6 dX16_stepRegisters_288 rfl rfl ?_
    refine g_getR fdX16_17 dX16_stepRegisters_289 ?_
    refine g_aload_n 0 6 dX16_stepRegisters_292 rfl rfl ?_
    refine g_getI fdX16_67 dX16_stepRegisters_293 ?_
    refine g_iconst (v := 1) dX16_stepRegisters_296 (by decide) ?_
    refine g_isub dX16_stepRegisters_297 ?_
    refine g_iaload dX16_stepRegisters_298 ?_
    refine g_iload_n 3 3 dX16_stepRegisters_299 rfl rfl ?_
    refine g_iadd dX16_stepRegisters_300 ?_
    refine g_aload_n 0 6 dX16_stepRegisters_301 rfl rfl ?_
    refine g_getI fdX16_144 dX16_stepRegisters_302 ?_
    refine g_callV (fc := fun sς => Run_enter sς x0 r10 ((gI σ9 (gR σ9 x0 6) (ix ((gI σ9 x0 13) - (1 : Int32)))) + y3) (gI σ9 x0 16)) (ci := 16) (as := [iv r10, iv ((gI σ9 (gR σ9 x0 6) (ix ((gI σ9 x0 13) - (1 : Int32)))) + y3), iv (gI σ9 x0 16)]) rfl rfl rfl q2378 qs141 mdX16_86 (ctX16_enter x0 r10 ((gI σ9 (gR σ9 x0 6) (ix ((gI σ9 x0 13) - (1 : Int32)))) + y3) (gI σ9 x0 16)) rfl (Nat.le_of_ble_eq_true rfl) (Nat.le_of_ble_eq_true rfl) (Nat.le_of_ble_eq_true rfl) pu_V dX16_stepRegisters_305 (fun _ σ11 => ?_)
    refine g_goto 357 dX16_stepRegisters_308 (by decide) ?_
    exact g_return rfl dX16_stepRegisters_357
  refine g_case hx (t := 311) (by decide +kernel) ?_ (fun hx => ?_)
  · refine g_aload_n 0 6 dX16_stepRegisters_311 rfl rfl ?_
    refine g_aload_n 0 6 dX16_stepRegisters_312 rfl rfl ?_
    refine g_iload 1 dX16_stepRegisters_313 rfl ?_
    refine g_callV (fc := fun sς => Run_get sς x0 y5) (ci := 16) (as := [iv y5]) rfl rfl rfl q2711 qs180 mdX16_396 (ctX16_get x0 y5) rfl (Nat.le_of_ble_eq_true rfl) (Nat.le_of_ble_eq_true rfl) (Nat.le_of_ble_eq_true rfl) pu_J dX16_stepRegisters_315 (fun r13 σ12 => ?_)
    refine g_ldc2 q2717 dX16_stepRegisters_318 ?_
    refine g_land dX16_stepRegisters_321 ?_
    refine g_iload 2 dX16_stepRegisters_322 rfl ?_
    refine g_iload 0 dX16_stepRegisters_324 rfl ?_
    refine g_aload_n 0 6 dX16_stepRegisters_326 rfl rfl ?_
    refine g_getR fdX16_17 dX16_stepRegisters_327 ?_
    refine g_aload_n 0 6 dX16_stepRegisters_330 rfl rfl ?_
    refine g_getI fdX16_67 dX16_stepRegisters_331 ?_
    refine g_iconst (v := 1) dX16_stepRegisters_334 (by decide) ?_
    refine g_isub dX16_stepRegisters_335 ?_
    refine g_iaload dX16_stepRegisters_336 ?_
    refine g_iload_n 3 3 dX16_stepRegisters_337 rfl rfl ?_
    refine g_iadd dX16_stepRegisters_338 ?_
    refine g_callV (fc := fun sς => Run_callEntry sς x0 (r13 &&& (4294967295 : Int64)) y4 y6 ((gI σ12 (gR σ12 x0 6) (ix ((gI σ12 x0 13) - (1 : Int32)))) + y3)) (ci := 16) (as := [jv (r13 &&& (4294967295 : Int64)), iv y4, iv y6, iv ((gI σ12 (gR σ12 x0 6) (ix ((gI σ12 x0 13) - (1 : Int32)))) + y3)]) rfl rfl rfl q2736 qs186 mdX16_333 (ctX16_callEntry x0 (r13 &&& (4294967295 : Int64)) y4 y6 ((gI σ12 (gR σ12 x0 6) (ix ((gI σ12 x0 13) - (1 : Int32)))) + y3)) rfl (Nat.le_of_ble_eq_true rfl) (Nat.le_of_ble_eq_true rfl) (Nat.le_of_ble_eq_true rfl) pu_V dX16_stepRegisters_339 (fun _ σ14 => ?_)
    refine g_goto 357 dX16_stepRegisters_342 (by decide) ?_
    exact g_return rfl dX16_stepRegisters_357
  refine g_case hx (t := 175) (by decide +kernel) ?_ (fun hx => ?_)
  · refine g_aload_n 0 6 dX16_stepRegisters_175 rfl rfl ?_
    refine g_iload_n 3 3 dX16_stepRegisters_176 rfl rfl ?_
    refine g_aload_n 0 6 dX16_stepRegisters_177 rfl rfl ?_
    refine g_iload 2 dX16_stepRegisters_178 rfl ?_
    refine g_callV (fc := fun sς => Run_get sς x0 y4) (ci := 16) (as := [iv y4]) rfl rfl rfl q2711 qs180 mdX16_396 (ctX16_get x0 y4) rfl (Nat.le_of_ble_eq_true rfl) (Nat.le_of_ble_eq_true rfl) (Nat.le_of_ble_eq_true rfl) pu_J dX16_stepRegisters_180 (fun r16 σ15 => ?_)
    refine g_callV (fc := fun sς => Run_set sς x0 y3 r16) (ci := 16) (as := [iv y3, jv r16]) rfl rfl rfl q2715 qs181 mdX16_398 (ctX16_set x0 y3 r16) rfl (Nat.le_of_ble_eq_true rfl) (Nat.le_of_ble_eq_true rfl) (Nat.le_of_ble_eq_true rfl) pu_V dX16_stepRegisters_183 (fun _ σ17 => ?_)
    refine g_goto 357 dX16_stepRegisters_186 (by decide) ?_
    exact g_return rfl dX16_stepRegisters_357
  refine g_case hx (t := 172) (by decide +kernel) ?_ (fun hx => ?_)
  · refine g_goto 357 dX16_stepRegisters_172 (by decide) ?_
    exact g_return rfl dX16_stepRegisters_357
  refine g_case hx (t := 189) (by decide +kernel) ?_ (fun hx => ?_)
  · refine g_aload_n 0 6 dX16_stepRegisters_189 rfl rfl ?_
    refine g_iload_n 3 3 dX16_stepRegisters_190 rfl rfl ?_
    refine g_putI fpX16_144 dX16_stepRegisters_191 (fun σ18 => ?_)
    refine g_goto 357 dX16_stepRegisters_194 (by decide) ?_
    exact g_return rfl dX16_stepRegisters_357
  refine g_case hx (t := 197) (by decide +kernel) ?_ (fun hx => ?_)
  · refine g_aload_n 0 6 dX16_stepRegisters_197 rfl rfl ?_
    refine g_iload 2 dX16_stepRegisters_198 rfl ?_
    refine g_callV (fc := fun sς => Run_get sς x0 y4) (ci := 16) (as := [iv y4]) rfl rfl rfl q2711 qs180 mdX16_396 (ctX16_get x0 y4) rfl (Nat.le_of_ble_eq_true rfl) (Nat.le_of_ble_eq_true rfl) (Nat.le_of_ble_eq_true rfl) pu_J dX16_stepRegisters_200 (fun r20 σ19 => ?_)
    refine g_ldc2 q2717 dX16_stepRegisters_203 ?_
    refine g_land dX16_stepRegisters_206 ?_
    refine g_lconst (v := 0) dX16_stepRegisters_207 (by decide) ?_
    refine g_lcmp_ne 357 dX16_stepRegisters_208 dX16_stepRegisters_209 (by decide) ?_ ?_
    · exact g_return rfl dX16_stepRegisters_357
    · refine g_aload_n 0 6 dX16_stepRegisters_212 rfl rfl ?_
      refine g_iload_n 3 3 dX16_stepRegisters_213 rfl rfl ?_
      refine g_putI fpX16_144 dX16_stepRegisters_214 (fun σ21 => ?_)
      refine g_goto 357 dX16_stepRegisters_217 (by decide) ?_
      exact g_return rfl dX16_stepRegisters_357
  refine g_case hx (t := 220) (by decide +kernel) ?_ (fun hx => ?_)
  · refine g_aload_n 0 6 dX16_stepRegisters_220 rfl rfl ?_
    refine g_iload 2 dX16_stepRegisters_221 rfl ?_
    refine g_callV (fc := fun sς => Run_get sς x0 y4) (ci := 16) (as := [iv y4]) rfl rfl rfl q2711 qs180 mdX16_396 (ctX16_get x0 y4) rfl (Nat.le_of_ble_eq_true rfl) (Nat.le_of_ble_eq_true rfl) (Nat.le_of_ble_eq_true rfl) pu_J dX16_stepRegisters_223 (fun r23 σ22 => ?_)
    refine g_ldc2 q2717 dX16_stepRegisters_226 ?_
    refine g_land dX16_stepRegisters_229 ?_
    refine g_nmJ (fun y24 => ?_)
    refine g_lstore dX16_stepRegisters_230 (by decide) rfl ?_
    refine g_aload_n 0 7 dX16_stepRegisters_232 rfl rfl ?_
    refine g_dup dX16_stepRegisters_233 rfl ?_
    refine g_getI fdX16_144 dX16_stepRegisters_234 ?_
    refine g_lload 0 dX16_stepRegisters_237 rfl ?_
    refine g_iload_n 3 4 dX16_stepRegisters_239 rfl rfl ?_
    refine g_i2l dX16_stepRegisters_240 ?_
    refine g_lcmp_ge 251 dX16_stepRegisters_241 dX16_stepRegisters_242 (by decide) ?_ ?_
    · refine g_iload_n 3 4 dX16_stepRegisters_251 rfl rfl ?_
      refine G.sub [] rfl ?_
      exact gX16_stepRegisters_p252 _ _ _ _
    · refine g_lload 0 dX16_stepRegisters_245 rfl ?_
      refine g_l2i dX16_stepRegisters_247 ?_
      refine g_goto 252 dX16_stepRegisters_248 (by decide) ?_
      refine G.sub [] rfl ?_
      exact gX16_stepRegisters_p252 _ _ _ _
  refine g_case hx (t := 259) (by decide +kernel) ?_ (fun hx => ?_)
  · refine g_aload_n 0 6 dX16_stepRegisters_259 rfl rfl ?_
    refine g_aload_n 0 6 dX16_stepRegisters_260 rfl rfl ?_
    refine g_getR fdX16_17 dX16_stepRegisters_261 ?_
    refine g_aload_n 0 6 dX16_stepRegisters_264 rfl rfl ?_
    refine g_getI fdX16_67 dX16_stepRegisters_265 ?_
    refine g_iconst (v := 1) dX16_stepRegisters_268 (by decide) ?_
    refine g_isub dX16_stepRegisters_269 ?_
    refine g_iaload dX16_stepRegisters_270 ?_
    refine g_iload_n 3 3 dX16_stepRegisters_271 rfl rfl ?_
    refine g_iadd dX16_stepRegisters_272 ?_
    refine g_iload 2 dX16_stepRegisters_273 rfl ?_
    refine g_callV (fc := fun sς => Run_leave sς x0 ((gI σ7 (gR σ7 x0 6) (ix ((gI σ7 x0 13) - (1 : Int32)))) + y3) y4) (ci := 16) (as := [iv ((gI σ7 (gR σ7 x0 6) (ix ((gI σ7 x0 13) - (1 : Int32)))) + y3), iv y4]) rfl rfl rfl q2720 qs182 mdX16_327 (ctX16_leave x0 ((gI σ7 (gR σ7 x0 6) (ix ((gI σ7 x0 13) - (1 : Int32)))) + y3) y4) rfl (Nat.le_of_ble_eq_true rfl) (Nat.le_of_ble_eq_true rfl) (Nat.le_of_ble_eq_true rfl) pu_V dX16_stepRegisters_275 (fun _ σ25 => ?_)
    refine g_goto 357 dX16_stepRegisters_278 (by decide) ?_
    exact g_return rfl dX16_stepRegisters_357
  refine g_dflt (t := 345) (lswT_d (by decide +kernel) hx) ?_
  refine g_aload_n 0 6 dX16_stepRegisters_345 rfl rfl ?_
  refine g_iload_n 2 4 dX16_stepRegisters_346 rfl rfl ?_
  refine g_iload_n 3 3 dX16_stepRegisters_347 rfl rfl ?_
  refine g_iload 2 dX16_stepRegisters_348 rfl ?_
  refine g_iload 1 dX16_stepRegisters_350 rfl ?_
  refine g_iload 0 dX16_stepRegisters_352 rfl ?_
  refine g_callV (fc := fun sς => Run_plainRegisters sς x0 y2 y3 y4 y5 y6) (ci := 16) (as := [iv y2, iv y3, iv y4, iv y5, iv y6]) rfl rfl rfl q2746 qs187 mdX16_401 (ctX16_plainRegisters x0 y2 y3 y4 y5 y6) rfl (Nat.le_of_ble_eq_true rfl) (Nat.le_of_ble_eq_true rfl) (Nat.le_of_ble_eq_true rfl) pu_V dX16_stepRegisters_354 (fun _ σ26 => ?_)
  exact g_return rfl dX16_stepRegisters_357
theorem V.dX16_pop_0 : decode cX16_pop 0 = .ok (.aload_n 0, 1) := by decide +kernel
theorem V.dX16_pop_1 : decode cX16_pop 1 = .ok (.dup, 1) := by decide +kernel
theorem V.dX16_pop_2 : decode cX16_pop 2 = .ok (.getfield 135, 3) := by decide +kernel
theorem V.dX16_pop_5 : decode cX16_pop 5 = .ok (.iconst 1, 1) := by decide +kernel
theorem V.dX16_pop_6 : decode cX16_pop 6 = .ok (.isub, 1) := by decide +kernel
theorem V.dX16_pop_7 : decode cX16_pop 7 = .ok (.putfield 135, 3) := by decide +kernel
theorem V.dX16_pop_10 : decode cX16_pop 10 = .ok (.aload_n 0, 1) := by decide +kernel
theorem V.dX16_pop_11 : decode cX16_pop 11 = .ok (.getfield 9, 3) := by decide +kernel
theorem V.dX16_pop_14 : decode cX16_pop 14 = .ok (.aload_n 0, 1) := by decide +kernel
theorem V.dX16_pop_15 : decode cX16_pop 15 = .ok (.getfield 135, 3) := by decide +kernel
theorem V.dX16_pop_18 : decode cX16_pop 18 = .ok (.laload, 1) := by decide +kernel
theorem V.dX16_pop_19 : decode cX16_pop 19 = .ok (.lreturn, 1) := by decide +kernel
theorem V.fdX16_135 : FD RX16 135 16 15 0 := ⟨(RX16, TX16, 26), tyX16, rfl, rfl, in_X16, by decide, Or.inl q1139, rfl⟩
/-! ModuleEngine$Runner.pop()J -/
def V.Run_pop (σ : HS) (x0 : Nat) : Option (Int64 × HS) :=
  ck (tg σ x0 = 17) <|
  ck (tg σ x0 = 17) <| bn (sI σ x0 15 ((gI σ x0 15) - (1 : Int32))) fun σ1 =>
  ck (tg σ1 x0 = 17) <|
  ck (tg σ1 x0 = 17) <|
  ck (tg σ1 (gR σ1 x0 4) = 101 ∧ inb (gI σ1 x0 15) (ln σ1 (gR σ1 x0 4))) <|
  some (gJ σ1 (gR σ1 x0 4) (ix (gI σ1 x0 15)), σ1)
theorem V.ctX16_pop (x0 : Nat) : Ct yX16_pop  cX16_pop 1 (some .long) 0 0 eJ [av x0] (fun σ => Run_pop σ x0) := by
  refine Ct.of (own := RX16) (nm := "pop") (desc := "()J") rfl (by decide) (Nat.le_of_ble_eq_true rfl) (by decide) (fun X σ => ?_)
  show G X RX16 "pop" cX16_pop 1 (some .long) 0 0 enJ 0 [(0, av x0)] [] σ (Run_pop σ x0)
  unfold Run_pop
  refine g_aload_n 0 0 dX16_pop_0 rfl rfl ?_
  refine g_dup dX16_pop_1 rfl ?_
  refine g_getI fdX16_135 dX16_pop_2 ?_
  refine g_iconst (v := 1) dX16_pop_5 (by decide) ?_
  refine g_isub dX16_pop_6 ?_
  refine g_putI fpX16_135 dX16_pop_7 (fun σ1 => ?_)
  refine g_aload_n 0 0 dX16_pop_10 rfl rfl ?_
  refine g_getR fdX16_9 dX16_pop_11 ?_
  refine g_aload_n 0 0 dX16_pop_14 rfl rfl ?_
  refine g_getI fdX16_135 dX16_pop_15 ?_
  refine g_laload dX16_pop_18 ?_
  exact g_lreturn rfl dX16_pop_19
theorem V.dX16_branch_0 : decode cX16_branch 0 = .ok (.aload_n 0, 1) := by decide +kernel
theorem V.dX16_branch_1 : decode cX16_branch 1 = .ok (.getfield 42, 3) := by decide +kernel
theorem V.dX16_branch_4 : decode cX16_branch 4 = .ok (.iload_n 1, 1) := by decide +kernel
theorem V.dX16_branch_5 : decode cX16_branch 5 = .ok (.iconst 2, 1) := by decide +kernel
theorem V.dX16_branch_6 : decode cX16_branch 6 = .ok (.invokevirtual 316, 3) := by decide +kernel
theorem V.dX16_branch_9 : decode cX16_branch 9 = .ok (.istore_n 2, 1) := by decide +kernel
theorem V.dX16_branch_10 : decode cX16_branch 10 = .ok (.aload_n 0, 1) := by decide +kernel
theorem V.dX16_branch_11 : decode cX16_branch 11 = .ok (.getfield 17, 3) := by decide +kernel
theorem V.dX16_branch_14 : decode cX16_branch 14 = .ok (.aload_n 0, 1) := by decide +kernel
theorem V.dX16_branch_15 : decode cX16_branch 15 = .ok (.getfield 67, 3) := by decide +kernel
theorem V.dX16_branch_18 : decode cX16_branch 18 = .ok (.iconst 1, 1) := by decide +kernel
theorem V.dX16_branch_19 : decode cX16_branch 19 = .ok (.isub, 1) := by decide +kernel
theorem V.dX16_branch_20 : decode cX16_branch 20 = .ok (.iaload, 1) := by decide +kernel
theorem V.dX16_branch_21 : decode cX16_branch 21 = .ok (.aload_n 0, 1) := by decide +kernel
theorem V.dX16_branch_22 : decode cX16_branch 22 = .ok (.getfield 42, 3) := by decide +kernel
theorem V.dX16_branch_25 : decode cX16_branch 25 = .ok (.aload_n 0, 1) := by decide +kernel
theorem V.dX16_branch_26 : decode cX16_branch 26 = .ok (.getfield 54, 3) := by decide +kernel
theorem V.dX16_branch_29 : decode cX16_branch 29 = .ok (.getfield 97, 3) := by decide +kernel
theorem V.dX16_branch_32 : decode cX16_branch 32 = .ok (.aload_n 0, 1) := by decide +kernel
theorem V.dX16_branch_33 : decode cX16_branch 33 = .ok (.getfield 13, 3) := by decide +kernel
theorem V.dX16_branch_36 : decode cX16_branch 36 = .ok (.aload_n 0, 1) := by decide +kernel
theorem V.dX16_branch_37 : decode cX16_branch 37 = .ok (.getfield 67, 3) := by decide +kernel
theorem V.dX16_branch_40 : decode cX16_branch 40 = .ok (.iconst 1, 1) := by decide +kernel
theorem V.dX16_branch_41 : decode cX16_branch 41 = .ok (.isub, 1) := by decide +kernel
theorem V.dX16_branch_42 : decode cX16_branch 42 = .ok (.iaload, 1) := by decide +kernel
theorem V.dX16_branch_43 : decode cX16_branch 43 = .ok (.invokevirtual 101, 3) := by decide +kernel
theorem V.dX16_branch_46 : decode cX16_branch 46 = .ok (.invokevirtual 132, 3) := by decide +kernel
theorem V.dX16_branch_49 : decode cX16_branch 49 = .ok (.iadd, 1) := by decide +kernel
theorem V.dX16_branch_50 : decode cX16_branch 50 = .ok (.aload_n 0, 1) := by decide +kernel
theorem V.dX16_branch_51 : decode cX16_branch 51 = .ok (.getfield 42, 3) := by decide +kernel
theorem V.dX16_branch_54 : decode cX16_branch 54 = .ok (.iload_n 1, 1) := by decide +kernel
theorem V.dX16_branch_55 : decode cX16_branch 55 = .ok (.iconst 3, 1) := by decide +kernel
theorem V.dX16_branch_56 : decode cX16_branch 56 = .ok (.invokevirtual 316, 3) := by decide +kernel
theorem V.dX16_branch_59 : decode cX16_branch 59 = .ok (.iadd, 1) := by decide +kernel
theorem V.dX16_branch_60 : decode cX16_branch 60 = .ok (.istore_n 3, 1) := by decide +kernel
theorem V.dX16_branch_61 : decode cX16_branch 61 = .ok (.iconst 0, 1) := by decide +kernel
theorem V.dX16_branch_62 : decode cX16_branch 62 = .ok (.istore 4, 2) := by decide +kernel
theorem V.dX16_branch_64 : decode cX16_branch 64 = .ok (.iload 4, 2) := by decide +kernel
theorem V.dX16_branch_66 : decode cX16_branch 66 = .ok (.iload_n 2, 1) := by decide +kernel
theorem V.dX16_branch_67 : decode cX16_branch 67 = .ok (.if_icmp .ge 32, 3) := by decide +kernel
theorem V.dX16_branch_70 : decode cX16_branch 70 = .ok (.aload_n 0, 1) := by decide +kernel
theorem V.dX16_branch_71 : decode cX16_branch 71 = .ok (.getfield 9, 3) := by decide +kernel
theorem V.dX16_branch_74 : decode cX16_branch 74 = .ok (.iload_n 3, 1) := by decide +kernel
theorem V.dX16_branch_75 : decode cX16_branch 75 = .ok (.iload 4, 2) := by decide +kernel
theorem V.dX16_branch_77 : decode cX16_branch 77 = .ok (.iadd, 1) := by decide +kernel
theorem V.dX16_branch_78 : decode cX16_branch 78 = .ok (.aload_n 0, 1) := by decide +kernel
theorem V.dX16_branch_79 : decode cX16_branch 79 = .ok (.getfield 9, 3) := by decide +kernel
theorem V.dX16_branch_82 : decode cX16_branch 82 = .ok (.aload_n 0, 1) := by decide +kernel
theorem V.dX16_branch_83 : decode cX16_branch 83 = .ok (.getfield 135, 3) := by decide +kernel
theorem V.dX16_branch_86 : decode cX16_branch 86 = .ok (.iload_n 2, 1) := by decide +kernel
theorem V.dX16_branch_87 : decode cX16_branch 87 = .ok (.isub, 1) := by decide +kernel
theorem V.dX16_branch_88 : decode cX16_branch 88 = .ok (.iload 4, 2) := by decide +kernel
theorem V.dX16_branch_90 : decode cX16_branch 90 = .ok (.iadd, 1) := by decide +kernel
theorem V.dX16_branch_91 : decode cX16_branch 91 = .ok (.laload, 1) := by decide +kernel
theorem V.dX16_branch_92 : decode cX16_branch 92 = .ok (.lastore, 1) := by decide +kernel
theorem V.dX16_branch_93 : decode cX16_branch 93 = .ok (.iinc 4 1, 3) := by decide +kernel
theorem V.dX16_branch_96 : decode cX16_branch 96 = .ok (.goto (-32), 3) := by decide +kernel
theorem V.dX16_branch_99 : decode cX16_branch 99 = .ok (.aload_n 0, 1) := by decide +kernel
theorem V.dX16_branch_100 : decode cX16_branch 100 = .ok (.iload_n 3, 1) := by decide +kernel
theorem V.dX16_branch_101 : decode cX16_branch 101 = .ok (.iload_n 2, 1) := by decide +kernel
theorem V.dX16_branch_102 : decode cX16_branch 102 = .ok (.iadd, 1) := by decide +kernel
theorem V.dX16_branch_103 : decode cX16_branch 103 = .ok (.putfield 135, 3) := by decide +kernel
theorem V.dX16_branch_106 : decode cX16_branch 106 = .ok (.aload_n 0, 1) := by decide +kernel
theorem V.dX16_branch_107 : decode cX16_branch 107 = .ok (.aload_n 0, 1) := by decide +kernel
theorem V.dX16_branch_108 : decode cX16_branch 108 = .ok (.getfield 42, 3) := by decide +kernel
theorem V.dX16_branch_111 : decode cX16_branch 111 = .ok (.iload_n 1, 1) := by decide +kernel
theorem V.dX16_branch_112 : decode cX16_branch 112 = .ok (.iconst 1, 1) := by decide +kernel
theorem V.dX16_branch_113 : decode cX16_branch 113 = .ok (.invokevirtual 316, 3) := by decide +kernel
theorem V.dX16_branch_116 : decode cX16_branch 116 = .ok (.putfield 144, 3) := by decide +kernel
theorem V.dX16_branch_119 : decode cX16_branch 119 = .ok (.return_, 1) := by decide +kernel
theorem V.mdX16_316 : MD RX16 316 yX6_fieldAt cX6_fieldAt 3 (some .int) 2 := ⟨Or.inl q2843, q366, q2422, by decide, by decide, by decide +kernel⟩
/-! ModuleEngine$Runner.branch(I)V -/
def V.Run_branch_p64  : Nat → HS → Nat → Int32 → Int32 → Int32 → Int32 → Option (Unit × HS)
  | 0, _, _, _, _, _, _ => none
  | n + 1, σ, x0, x1, x2, x3, x4 =>
    if x2 ≤ x4 then (
      ck (tg σ x0 = 17) <| bn (sI σ x0 15 (x3 + x2)) fun σ1 =>
      ck (tg σ1 x0 = 17) <|
      ck (tg σ1 (gR σ1 x0 0) = 7) <| cl (Flt_fieldAt σ1 (gR σ1 x0 0) x1 (1 : Int32)) fun r3 σ2 =>
      ck (tg σ2 x0 = 17) <| bn (sI σ2 x0 16 r3) fun σ4 =>
      some ((), σ4))
    else (
      ck (tg σ x0 = 17) <|
      ck (tg σ x0 = 17) <|
      ck (tg σ x0 = 17) <|
      ck (tg σ (gR σ x0 4) = 101 ∧ inb (((gI σ x0 15) - x2) + x4) (ln σ (gR σ x0 4))) <|
      ck (tg σ (gR σ x0 4) = 101 ∧ inb (x3 + x4) (ln σ (gR σ x0 4))) <| bn (sJ σ (gR σ x0 4) (ix (x3 + x4)) (gJ σ (gR σ x0 4) (ix (((gI σ x0 15) - x2) + x4)))) fun σ5 =>
      bn (x4 + (1 : Int32)) fun y6 =>
      Run_branch_p64 n σ5 x0 x1 x2 x3 y6)
theorem V.gX16_branch_p64 {X : CX}  : ∀ (n : Nat) (σ : HS) (x0 : Nat) (x1 : Int32) (x2 : Int32) (x3 : Int32) (x4 : Int32), G X RX16 "branch" cX16_branch 5 none 2 42 enV 64 [(0, av x0), (1, iv x1), (2, iv x2), (3, iv x3), (4, iv x4)] [] σ (Run_branch_p64 n σ x0 x1 x2 x3 x4)
  | 0, σ, x0, x1, x2, x3, x4 => by rw [Run_branch_p64]; exact G.nul
  | n + 1, σ, x0, x1, x2, x3, x4 => by
    rw [Run_branch_p64]
    refine g_iload 4 dX16_branch_64 rfl ?_
    refine g_iload_n 2 2 dX16_branch_66 rfl rfl ?_
    refine g_icmp_ge 99 dX16_branch_67 (by decide) ?_ ?_
    · refine g_aload_n 0 0 dX16_branch_99 rfl rfl ?_
      refine g_iload_n 3 3 dX16_branch_100 rfl rfl ?_
      refine g_iload_n 2 2 dX16_branch_101 rfl rfl ?_
      refine g_iadd dX16_branch_102 ?_
      refine g_putI fpX16_135 dX16_branch_103 (fun σ1 => ?_)
      refine g_aload_n 0 0 dX16_branch_106 rfl rfl ?_
      refine g_aload_n 0 0 dX16_branch_107 rfl rfl ?_
      refine g_getR fdX16_42 dX16_branch_108 ?_
      refine g_iload_n 1 1 dX16_branch_111 rfl rfl ?_
      refine g_iconst (v := 1) dX16_branch_112 (by decide) ?_
      refine g_callV (fc := fun sς => Flt_fieldAt sς (gR σ1 x0 0) x1 (1 : Int32)) (ci := 6) (as := [iv x1, iv (1 : Int32)]) rfl rfl rfl q2420 q2421 mdX16_316 (ctX6_fieldAt (gR σ1 x0 0) x1 (1 : Int32)) rfl (Nat.le_of_ble_eq_true rfl) (Nat.le_of_ble_eq_true rfl) (Nat.le_of_ble_eq_true rfl) pu_I dX16_branch_113 (fun r3 σ2 => ?_)
      refine g_putI fpX16_144 dX16_branch_116 (fun σ4 => ?_)
      exact g_return rfl dX16_branch_119
    · refine g_aload_n 0 0 dX16_branch_70 rfl rfl ?_
      refine g_getR fdX16_9 dX16_branch_71 ?_
      refine g_iload_n 3 3 dX16_branch_74 rfl rfl ?_
      refine g_iload 4 dX16_branch_75 rfl ?_
      refine g_iadd dX16_branch_77 ?_
      refine g_aload_n 0 0 dX16_branch_78 rfl rfl ?_
      refine g_getR fdX16_9 dX16_branch_79 ?_
      refine g_aload_n 0 0 dX16_branch_82 rfl rfl ?_
      refine g_getI fdX16_135 dX16_branch_83 ?_
      refine g_iload_n 2 2 dX16_branch_86 rfl rfl ?_
      refine g_isub dX16_branch_87 ?_
      refine g_iload 4 dX16_branch_88 rfl ?_
      refine g_iadd dX16_branch_90 ?_
      refine g_laload dX16_branch_91 ?_
      refine g_lastore dX16_branch_92 (fun σ5 => ?_)
      refine g_iincB (w := 1) 4 dX16_branch_93 rfl (by decide) (by decide) (fun _ => rfl) (fun y6 => ?_)
      refine g_goto 64 dX16_branch_96 (by decide) ?_
      refine G.sub [1, 2, 3, 4, 0] rfl ?_
      exact gX16_branch_p64 n _ _ _ _ _ _
def V.Run_branch (σ : HS) (x0 : Nat) (x1 : Int32) : Option (Unit × HS) :=
  ck (tg σ x0 = 17) <|
  ck (tg σ (gR σ x0 0) = 7) <| cl (Flt_fieldAt σ (gR σ x0 0) x1 (2 : Int32)) fun r2 σ1 =>
  ck (tg σ1 x0 = 17) <|
  ck (tg σ1 x0 = 17) <|
  ck (tg σ1 (gR σ1 x0 6) = 100 ∧ inb ((gI σ1 x0 13) - (1 : Int32)) (ln σ1 (gR σ1 x0 6))) <|
  ck (tg σ1 x0 = 17) <|
  ck (tg σ1 x0 = 17) <|
  ck (tg σ1 (gR σ1 x0 3) = 14) <|
  ck (tg σ1 x0 = 17) <|
  ck (tg σ1 x0 = 17) <|
  ck (tg σ1 (gR σ1 x0 5) = 100 ∧ inb ((gI σ1 x0 13) - (1 : Int32)) (ln σ1 (gR σ1 x0 5))) <|
  ck (tg σ1 (gR σ1 (gR σ1 x0 3) 6) = 4) <| cl (Row_at σ1 (gR σ1 (gR σ1 x0 3) 6) (gI σ1 (gR σ1 x0 5) (ix ((gI σ1 x0 13) - (1 : Int32))))) fun r4 σ3 =>
  ck (tg σ3 (gR σ1 x0 0) = 7) <| cl (Flt_localsOf σ3 (gR σ1 x0 0) r4) fun r6 σ5 =>
  ck (tg σ5 x0 = 17) <|
  ck (tg σ5 (gR σ5 x0 0) = 7) <| cl (Flt_fieldAt σ5 (gR σ5 x0 0) x1 (3 : Int32)) fun r8 σ7 =>
  bn (((gI σ1 (gR σ1 x0 6) (ix ((gI σ1 x0 13) - (1 : Int32)))) + r6) + r8) fun y9 =>
  Run_branch_p64 FU σ7 x0 x1 r2 y9 (0 : Int32)
theorem V.ctX16_branch (x0 : Nat) (x1 : Int32) : Ct yX16_branch  cX16_branch 5 none 2 42 eV [av x0, iv x1] (fun σ => Run_branch σ x0 x1) := by
  refine Ct.of (own := RX16) (nm := "branch") (desc := "(I)V") rfl (by decide) (Nat.le_of_ble_eq_true rfl) (by decide) (fun X σ => ?_)
  show G X RX16 "branch" cX16_branch 5 none 2 42 enV 0 [(0, av x0), (1, iv x1)] [] σ (Run_branch σ x0 x1)
  unfold Run_branch
  refine g_aload_n 0 0 dX16_branch_0 rfl rfl ?_
  refine g_getR fdX16_42 dX16_branch_1 ?_
  refine g_iload_n 1 1 dX16_branch_4 rfl rfl ?_
  refine g_iconst (v := 2) dX16_branch_5 (by decide) ?_
  refine g_callV (fc := fun sς => Flt_fieldAt sς (gR σ x0 0) x1 (2 : Int32)) (ci := 6) (as := [iv x1, iv (2 : Int32)]) rfl rfl rfl q2420 q2421 mdX16_316 (ctX6_fieldAt (gR σ x0 0) x1 (2 : Int32)) rfl (Nat.le_of_ble_eq_true rfl) (Nat.le_of_ble_eq_true rfl) (Nat.le_of_ble_eq_true rfl) pu_I dX16_branch_6 (fun r2 σ1 => ?_)
  refine g_istore_n 2 dX16_branch_9 rfl (by decide) rfl ?_
  refine g_aload_n 0 1 dX16_branch_10 rfl rfl ?_
  refine g_getR fdX16_17 dX16_branch_11 ?_
  refine g_aload_n 0 1 dX16_branch_14 rfl rfl ?_
  refine g_getI fdX16_67 dX16_branch_15 ?_
  refine g_iconst (v := 1) dX16_branch_18 (by decide) ?_
  refine g_isub dX16_branch_19 ?_
  refine g_iaload dX16_branch_20 ?_
  refine g_aload_n 0 1 dX16_branch_21 rfl rfl ?_
  refine g_getR fdX16_42 dX16_branch_22 ?_
  refine g_aload_n 0 1 dX16_branch_25 rfl rfl ?_
  refine g_getR fdX16_54 dX16_branch_26 ?_
  refine g_getR fdX16_97 dX16_branch_29 ?_
  refine g_aload_n 0 1 dX16_branch_32 rfl rfl ?_
  refine g_getR fdX16_13 dX16_branch_33 ?_
  refine g_aload_n 0 1 dX16_branch_36 rfl rfl ?_
  refine g_getI fdX16_67 dX16_branch_37 ?_
  refine g_iconst (v := 1) dX16_branch_40 (by decide) ?_
  refine g_isub dX16_branch_41 ?_
  refine g_iaload dX16_branch_42 ?_
  refine g_callV (fc := fun sς => Row_at sς (gR σ1 (gR σ1 x0 3) 6) (gI σ1 (gR σ1 x0 5) (ix ((gI σ1 x0 13) - (1 : Int32))))) (ci := 3) (as := [iv (gI σ1 (gR σ1 x0 5) (ix ((gI σ1 x0 13) - (1 : Int32))))]) rfl rfl rfl q1409 q1410 mdX16_101 (ctX3_at (gR σ1 (gR σ1 x0 3) 6) (gI σ1 (gR σ1 x0 5) (ix ((gI σ1 x0 13) - (1 : Int32))))) rfl (Nat.le_of_ble_eq_true rfl) (Nat.le_of_ble_eq_true rfl) (Nat.le_of_ble_eq_true rfl) pu_I dX16_branch_43 (fun r4 σ3 => ?_)
  refine g_callV (fc := fun sς => Flt_localsOf sς (gR σ1 x0 0) r4) (ci := 6) (as := [iv r4]) rfl rfl rfl q2390 q2391 mdX16_132 (ctX6_localsOf (gR σ1 x0 0) r4) rfl (Nat.le_of_ble_eq_true rfl) (Nat.le_of_ble_eq_true rfl) (Nat.le_of_ble_eq_true rfl) pu_I dX16_branch_46 (fun r6 σ5 => ?_)
  refine g_iadd dX16_branch_49 ?_
  refine g_aload_n 0 1 dX16_branch_50 rfl rfl ?_
  refine g_getR fdX16_42 dX16_branch_51 ?_
  refine g_iload_n 1 2 dX16_branch_54 rfl rfl ?_
  refine g_iconst (v := 3) dX16_branch_55 (by decide) ?_
  refine g_callV (fc := fun sς => Flt_fieldAt sς (gR σ5 x0 0) x1 (3 : Int32)) (ci := 6) (as := [iv x1, iv (3 : Int32)]) rfl rfl rfl q2420 q2421 mdX16_316 (ctX6_fieldAt (gR σ5 x0 0) x1 (3 : Int32)) rfl (Nat.le_of_ble_eq_true rfl) (Nat.le_of_ble_eq_true rfl) (Nat.le_of_ble_eq_true rfl) pu_I dX16_branch_56 (fun r8 σ7 => ?_)
  refine g_iadd dX16_branch_59 ?_
  refine g_nmI (fun y9 => ?_)
  refine g_istore_n 3 dX16_branch_60 rfl (by decide) rfl ?_
  refine g_iconst (v := 0) dX16_branch_61 (by decide) ?_
  refine g_istore dX16_branch_62 (by decide) rfl ?_
  refine G.sub [3, 4, 2, 1, 0] rfl ?_
  exact gX16_branch_p64 FU _ _ _ _ _ _
theorem V.dX16_push_0 : decode cX16_push 0 = .ok (.aload_n 0, 1) := by decide +kernel
theorem V.dX16_push_1 : decode cX16_push 1 = .ok (.getfield 9, 3) := by decide +kernel
theorem V.dX16_push_4 : decode cX16_push 4 = .ok (.aload_n 0, 1) := by decide +kernel
theorem V.dX16_push_5 : decode cX16_push 5 = .ok (.getfield 135, 3) := by decide +kernel
theorem V.dX16_push_8 : decode cX16_push 8 = .ok (.lload_n 1, 1) := by decide +kernel
theorem V.dX16_push_9 : decode cX16_push 9 = .ok (.lastore, 1) := by decide +kernel
theorem V.dX16_push_10 : decode cX16_push 10 = .ok (.aload_n 0, 1) := by decide +kernel
theorem V.dX16_push_11 : decode cX16_push 11 = .ok (.dup, 1) := by decide +kernel
theorem V.dX16_push_12 : decode cX16_push 12 = .ok (.getfield 135, 3) := by decide +kernel
theorem V.dX16_push_15 : decode cX16_push 15 = .ok (.iconst 1, 1) := by decide +kernel
theorem V.dX16_push_16 : decode cX16_push 16 = .ok (.iadd, 1) := by decide +kernel
theorem V.dX16_push_17 : decode cX16_push 17 = .ok (.putfield 135, 3) := by decide +kernel
theorem V.dX16_push_20 : decode cX16_push 20 = .ok (.return_, 1) := by decide +kernel
/-! ModuleEngine$Runner.push(J)V -/
def V.Run_push (σ : HS) (x0 : Nat) (x1 : Int64) : Option (Unit × HS) :=
  ck (tg σ x0 = 17) <|
  ck (tg σ x0 = 17) <|
  ck (tg σ (gR σ x0 4) = 101 ∧ inb (gI σ x0 15) (ln σ (gR σ x0 4))) <| bn (sJ σ (gR σ x0 4) (ix (gI σ x0 15)) x1) fun σ1 =>
  ck (tg σ1 x0 = 17) <|
  ck (tg σ1 x0 = 17) <| bn (sI σ1 x0 15 ((gI σ1 x0 15) + (1 : Int32))) fun σ2 =>
  some ((), σ2)
theorem V.ctX16_push (x0 : Nat) (x1 : Int64) : Ct yX16_push  cX16_push 3 none 0 0 eV [av x0, jv x1] (fun σ => Run_push σ x0 x1) := by
  refine Ct.of (own := RX16) (nm := "push") (desc := "(J)V") rfl (by decide) (Nat.le_of_ble_eq_true rfl) (by decide) (fun X σ => ?_)
  show G X RX16 "push" cX16_push 3 none 0 0 enV 0 [(0, av x0), (1, jv x1)] [] σ (Run_push σ x0 x1)
  unfold Run_push
  refine g_aload_n 0 0 dX16_push_0 rfl rfl ?_
  refine g_getR fdX16_9 dX16_push_1 ?_
  refine g_aload_n 0 0 dX16_push_4 rfl rfl ?_
  refine g_getI fdX16_135 dX16_push_5 ?_
  refine g_lload_n 1 1 dX16_push_8 rfl rfl ?_
  refine g_lastore dX16_push_9 (fun σ1 => ?_)
  refine g_aload_n 0 0 dX16_push_10 rfl rfl ?_
  refine g_dup dX16_push_11 rfl ?_
  refine g_getI fdX16_135 dX16_push_12 ?_
  refine g_iconst (v := 1) dX16_push_15 (by decide) ?_
  refine g_iadd dX16_push_16 ?_
  refine g_putI fpX16_135 dX16_push_17 (fun σ2 => ?_)
  exact g_return rfl dX16_push_20
theorem V.dX16_local_0 : decode cX16_local 0 = .ok (.aload_n 0, 1) := by decide +kernel
theorem V.dX16_local_1 : decode cX16_local 1 = .ok (.getfield 17, 3) := by decide +kernel
theorem V.dX16_local_4 : decode cX16_local 4 = .ok (.aload_n 0, 1) := by decide +kernel
theorem V.dX16_local_5 : decode cX16_local 5 = .ok (.getfield 67, 3) := by decide +kernel
theorem V.dX16_local_8 : decode cX16_local 8 = .ok (.iconst 1, 1) := by decide +kernel
theorem V.dX16_local_9 : decode cX16_local 9 = .ok (.isub, 1) := by decide +kernel
theorem V.dX16_local_10 : decode cX16_local 10 = .ok (.iaload, 1) := by decide +kernel
theorem V.dX16_local_11 : decode cX16_local 11 = .ok (.iload_n 1, 1) := by decide +kernel
theorem V.dX16_local_12 : decode cX16_local 12 = .ok (.iadd, 1) := by decide +kernel
theorem V.dX16_local_13 : decode cX16_local 13 = .ok (.ireturn, 1) := by decide +kernel
/-! ModuleEngine$Runner.local(I)I -/
def V.Run_local (σ : HS) (x0 : Nat) (x1 : Int32) : Option (Int32 × HS) :=
  ck (tg σ x0 = 17) <|
  ck (tg σ x0 = 17) <|
  ck (tg σ (gR σ x0 6) = 100 ∧ inb ((gI σ x0 13) - (1 : Int32)) (ln σ (gR σ x0 6))) <|
  some ((gI σ (gR σ x0 6) (ix ((gI σ x0 13) - (1 : Int32)))) + x1, σ)
theorem V.ctX16_local (x0 : Nat) (x1 : Int32) : Ct yX16_local  cX16_local 2 (some .int) 0 0 eI [av x0, iv x1] (fun σ => Run_local σ x0 x1) := by
  refine Ct.of (own := RX16) (nm := "local") (desc := "(I)I") rfl (by decide) (Nat.le_of_ble_eq_true rfl) (by decide) (fun X σ => ?_)
  show G X RX16 "local" cX16_local 2 (some .int) 0 0 enI 0 [(0, av x0), (1, iv x1)] [] σ (Run_local σ x0 x1)
  unfold Run_local
  refine g_aload_n 0 0 dX16_local_0 rfl rfl ?_
  refine g_getR fdX16_17 dX16_local_1 ?_
  refine g_aload_n 0 0 dX16_local_4 rfl rfl ?_
  refine g_getI fdX16_67 dX16_local_5 ?_
  refine g_iconst (v := 1) dX16_local_8 (by decide) ?_
  refine g_isub dX16_local_9 ?_
  refine g_iaload dX16_local_10 ?_
  refine g_iload_n 1 1 dX16_local_11 rfl rfl ?_
  refine g_iadd dX16_local_12 ?_
  exact g_ireturn rfl dX16_local_13
theorem V.dX16_moveFlat_0 : decode cX16_moveFlat 0 = .ok (.iload_n 1, 1) := by decide +kernel
theorem V.dX16_moveFlat_1 : decode cX16_moveFlat 1 = .ok (.bipush 53, 2) := by decide +kernel
theorem V.dX16_moveFlat_3 : decode cX16_moveFlat 3 = .ok (.if_icmp .le 10, 3) := by decide +kernel
theorem V.dX16_moveFlat_6 : decode cX16_moveFlat 6 = .ok (.aload_n 0, 1) := by decide +kernel
theorem V.dX16_moveFlat_7 : decode cX16_moveFlat 7 = .ok (.invokevirtual 320, 3) := by decide +kernel
theorem V.dX16_moveFlat_10 : decode cX16_moveFlat 10 = .ok (.goto 4, 3) := by decide +kernel
theorem V.dX16_moveFlat_13 : decode cX16_moveFlat 13 = .ok (.lconst 0, 1) := by decide +kernel
theorem V.dX16_moveFlat_14 : decode cX16_moveFlat 14 = .ok (.lstore 4, 2) := by decide +kernel
theorem V.dX16_moveFlat_16 : decode cX16_moveFlat 16 = .ok (.aload_n 0, 1) := by decide +kernel
theorem V.dX16_moveFlat_17 : decode cX16_moveFlat 17 = .ok (.invokevirtual 320, 3) := by decide +kernel
theorem V.dX16_moveFlat_20 : decode cX16_moveFlat 20 = .ok (.ldc2_w 262, 3) := by decide +kernel
theorem V.dX16_moveFlat_23 : decode cX16_moveFlat 23 = .ok (.land, 1) := by decide +kernel
theorem V.dX16_moveFlat_24 : decode cX16_moveFlat 24 = .ok (.lload_n 2, 1) := by decide +kernel
theorem V.dX16_moveFlat_25 : decode cX16_moveFlat 25 = .ok (.ladd, 1) := by decide +kernel
theorem V.dX16_moveFlat_26 : decode cX16_moveFlat 26 = .ok (.lstore 6, 2) := by decide +kernel
theorem V.dX16_moveFlat_28 : decode cX16_moveFlat 28 = .ok (.aload_n 0, 1) := by decide +kernel
theorem V.dX16_moveFlat_29 : decode cX16_moveFlat 29 = .ok (.iload_n 1, 1) := by decide +kernel
theorem V.dX16_moveFlat_30 : decode cX16_moveFlat 30 = .ok (.lload 6, 2) := by decide +kernel
theorem V.dX16_moveFlat_32 : decode cX16_moveFlat 32 = .ok (.invokevirtual 382, 3) := by decide +kernel
theorem V.dX16_moveFlat_35 : decode cX16_moveFlat 35 = .ok (.ifCond .ne 4, 3) := by decide +kernel
theorem V.dX16_moveFlat_38 : decode cX16_moveFlat 38 = .ok (.return_, 1) := by decide +kernel
theorem V.dX16_moveFlat_39 : decode cX16_moveFlat 39 = .ok (.iload_n 1, 1) := by decide +kernel
theorem V.dX16_moveFlat_40 : decode cX16_moveFlat 40 = .ok (.bipush 53, 2) := by decide +kernel
theorem V.dX16_moveFlat_42 : decode cX16_moveFlat 42 = .ok (.if_icmp .le 28, 3) := by decide +kernel
theorem V.dX16_moveFlat_45 : decode cX16_moveFlat 45 = .ok (.aload_n 0, 1) := by decide +kernel
theorem V.dX16_moveFlat_46 : decode cX16_moveFlat 46 = .ok (.getfield 54, 3) := by decide +kernel
theorem V.dX16_moveFlat_49 : decode cX16_moveFlat 49 = .ok (.getfield 246, 3) := by decide +kernel
theorem V.dX16_moveFlat_52 : decode cX16_moveFlat 52 = .ok (.aload_n 0, 1) := by decide +kernel
theorem V.dX16_moveFlat_53 : decode cX16_moveFlat 53 = .ok (.invokevirtual 250, 3) := by decide +kernel
theorem V.dX16_moveFlat_56 : decode cX16_moveFlat 56 = .ok (.lload 6, 2) := by decide +kernel
theorem V.dX16_moveFlat_58 : decode cX16_moveFlat 58 = .ok (.iload_n 1, 1) := by decide +kernel
theorem V.dX16_moveFlat_59 : decode cX16_moveFlat 59 = .ok (.invokestatic 243, 3) := by decide +kernel
theorem V.dX16_moveFlat_62 : decode cX16_moveFlat 62 = .ok (.lload 4, 2) := by decide +kernel
theorem V.dX16_moveFlat_64 : decode cX16_moveFlat 64 = .ok (.invokevirtual 386, 3) := by decide +kernel
theorem V.dX16_moveFlat_67 : decode cX16_moveFlat 67 = .ok (.goto 14, 3) := by decide +kernel
theorem V.dX16_moveFlat_70 : decode cX16_moveFlat 70 = .ok (.aload_n 0, 1) := by decide +kernel
theorem V.dX16_moveFlat_71 : decode cX16_moveFlat 71 = .ok (.aload_n 0, 1) := by decide +kernel
theorem V.dX16_moveFlat_72 : decode cX16_moveFlat 72 = .ok (.iload_n 1, 1) := by decide +kernel
theorem V.dX16_moveFlat_73 : decode cX16_moveFlat 73 = .ok (.lload 6, 2) := by decide +kernel
theorem V.dX16_moveFlat_75 : decode cX16_moveFlat 75 = .ok (.invokevirtual 389, 3) := by decide +kernel
theorem V.dX16_moveFlat_78 : decode cX16_moveFlat 78 = .ok (.invokevirtual 340, 3) := by decide +kernel
theorem V.dX16_moveFlat_81 : decode cX16_moveFlat 81 = .ok (.return_, 1) := by decide +kernel
theorem V.mdX16_320 : MD RX16 320 yX16_pop cX16_pop 1 (some .long) 0 := ⟨Or.inl q2844, q376, q2847, by decide, by decide, by decide +kernel⟩
theorem V.mdX16_340 : MD RX16 340 yX16_push cX16_push 3 none 1 := ⟨Or.inl q2856, q376, q2859, by decide, by decide, by decide +kernel⟩
/-! ModuleEngine$Runner.moveFlat(IJ)V -/
def V.Run_moveFlat_p14  (σ : HS) (x0 : Nat) (x1 : Int32) (x2 : Int64) (s0 : Int64) : Option (Unit × HS) :=
  ck (tg σ x0 = 17) <| cl (Run_pop σ x0 ) fun r2 σ1 =>
  bn ((r2 &&& (4294967295 : Int64)) + x2) fun y3 =>
  ck (tg σ1 x0 = 17) <| cl (Run_isIn σ1 x0 x1 y3) fun r5 σ4 =>
  if r5 = 0 then (
    some ((), σ4))
  else (
    if x1 ≤ (53 : Int32) then (
      ck (tg σ4 x0 = 17) <| cl (Run_load σ4 x0 x1 y3) fun r7 σ6 =>
      ck (tg σ6 x0 = 17) <| cl (Run_push σ6 x0 r7) fun _ σ8 =>
      some ((), σ8))
    else (
      ck (tg σ4 x0 = 17) <|
      ck (tg σ4 (gR σ4 x0 3) = 14) <|
      ck (tg σ4 x0 = 17) <| cl (Run_memory σ4 x0 ) fun r10 σ9 =>
      cl (Run_bytesOf σ9 x1) fun r12 σ11 =>
      ck (tg σ11 (gR σ4 (gR σ4 x0 3) 8) = 16) <| cl (Pag_write σ11 (gR σ4 (gR σ4 x0 3) 8) r10 y3 r12 s0) fun _ σ13 =>
      some ((), σ13)))
theorem V.gX16_moveFlat_p14 {X : CX}  (σ : HS) (x0 : Nat) (x1 : Int32) (x2 : Int64) (s0 : Int64) : G X RX16 "moveFlat" cX16_moveFlat 8 none 4 101 enV 14 [(0, av x0), (1, iv x1), (2, jv x2)] [jv s0] σ (Run_moveFlat_p14 σ x0 x1 x2 s0) := by
  unfold Run_moveFlat_p14
  refine g_lstore dX16_moveFlat_14 (by decide) rfl ?_
  refine g_aload_n 0 1 dX16_moveFlat_16 rfl rfl ?_
  refine g_callV (fc := fun sς => Run_pop sς x0 ) (ci := 16) (as := []) rfl rfl rfl q2846 qs201 mdX16_320 (ctX16_pop x0 ) rfl (Nat.le_of_ble_eq_true rfl) (Nat.le_of_ble_eq_true rfl) (Nat.le_of_ble_eq_true rfl) pu_J dX16_moveFlat_17 (fun r2 σ1 => ?_)
  refine g_ldc2 q2717 dX16_moveFlat_20 ?_
  refine g_land dX16_moveFlat_23 ?_
  refine g_lload_n 2 3 dX16_moveFlat_24 rfl rfl ?_
  refine g_ladd dX16_moveFlat_25 ?_
  refine g_nmJ (fun y3 => ?_)
  refine g_lstore dX16_moveFlat_26 (by decide) rfl ?_
  refine g_aload_n 0 2 dX16_moveFlat_28 rfl rfl ?_
  refine g_iload_n 1 3 dX16_moveFlat_29 rfl rfl ?_
  refine g_lload 0 dX16_moveFlat_30 rfl ?_
  refine g_callV (fc := fun sς => Run_isIn sς x0 x1 y3) (ci := 16) (as := [iv x1, jv y3]) rfl rfl rfl q2815 qs197 mdX16_382 (ctX16_isIn x0 x1 y3) rfl (Nat.le_of_ble_eq_true rfl) (Nat.le_of_ble_eq_true rfl) (Nat.le_of_ble_eq_true rfl) pu_I dX16_moveFlat_32 (fun r5 σ4 => ?_)
  refine g_if_ne 39 dX16_moveFlat_35 (by decide) ?_ ?_
  · refine g_iload_n 1 3 dX16_moveFlat_39 rfl rfl ?_
    refine g_bipush (v := 53) dX16_moveFlat_40 (by decide) ?_
    refine g_icmp_le 70 dX16_moveFlat_42 (by decide) ?_ ?_
    · refine g_aload_n 0 2 dX16_moveFlat_70 rfl rfl ?_
      refine g_aload_n 0 2 dX16_moveFlat_71 rfl rfl ?_
      refine g_iload_n 1 3 dX16_moveFlat_72 rfl rfl ?_
      refine g_lload 0 dX16_moveFlat_73 rfl ?_
      refine g_callV (fc := fun sς => Run_load sς x0 x1 y3) (ci := 16) (as := [iv x1, jv y3]) rfl rfl rfl q2827 qs198 mdX16_389 (ctX16_load x0 x1 y3) rfl (Nat.le_of_ble_eq_true rfl) (Nat.le_of_ble_eq_true rfl) (Nat.le_of_ble_eq_true rfl) pu_J dX16_moveFlat_75 (fun r7 σ6 => ?_)
      refine g_callV (fc := fun sς => Run_push sς x0 r7) (ci := 16) (as := [jv r7]) rfl rfl rfl q2858 qs204 mdX16_340 (ctX16_push x0 r7) rfl (Nat.le_of_ble_eq_true rfl) (Nat.le_of_ble_eq_true rfl) (Nat.le_of_ble_eq_true rfl) pu_V dX16_moveFlat_78 (fun _ σ8 => ?_)
      exact g_return rfl dX16_moveFlat_81
    · refine g_aload_n 0 2 dX16_moveFlat_45 rfl rfl ?_
      refine g_getR fdX16_54 dX16_moveFlat_46 ?_
      refine g_getR fdX16_246 dX16_moveFlat_49 ?_
      refine g_aload_n 0 2 dX16_moveFlat_52 rfl rfl ?_
      refine g_callV (fc := fun sς => Run_memory sς x0 ) (ci := 16) (as := []) rfl rfl rfl q2754 qs189 mdX16_250 (ctX16_memory x0 ) rfl (Nat.le_of_ble_eq_true rfl) (Nat.le_of_ble_eq_true rfl) (Nat.le_of_ble_eq_true rfl) pu_I dX16_moveFlat_53 (fun r10 σ9 => ?_)
      refine g_lload 0 dX16_moveFlat_56 rfl ?_
      refine g_iload_n 1 3 dX16_moveFlat_58 rfl rfl ?_
      refine g_callS (fc := fun sς => Run_bytesOf sς x1) (as := [iv x1]) q2818 mdX16_243 (ctX16_bytesOf x1) rfl (Nat.le_of_ble_eq_true rfl) (Nat.le_of_ble_eq_true rfl) (Nat.le_of_ble_eq_true rfl) pu_I dX16_moveFlat_59 (fun r12 σ11 => ?_)
      refine g_lload 1 dX16_moveFlat_62 rfl ?_
      refine g_callV (fc := fun sς => Pag_write sς (gR σ4 (gR σ4 x0 3) 8) r10 y3 r12 s0) (ci := 15) (as := [iv r10, jv y3, iv r12, jv s0]) rfl rfl rfl q2821 q2822 mdX16_386 (ctX15_write (gR σ4 (gR σ4 x0 3) 8) r10 y3 r12 s0) rfl (Nat.le_of_ble_eq_true rfl) (Nat.le_of_ble_eq_true rfl) (Nat.le_of_ble_eq_true rfl) pu_V dX16_moveFlat_64 (fun _ σ13 => ?_)
      refine g_goto 81 dX16_moveFlat_67 (by decide) ?_
      exact g_return rfl dX16_moveFlat_81
  · exact g_return rfl dX16_moveFlat_38
def V.Run_moveFlat (σ : HS) (x0 : Nat) (x1 : Int32) (x2 : Int64) : Option (Unit × HS) :=
  if x1 ≤ (53 : Int32) then (
    Run_moveFlat_p14 σ x0 x1 x2 (0 : Int64))
  else (
    ck (tg σ x0 = 17) <| cl (Run_pop σ x0 ) fun r2 σ1 =>
    Run_moveFlat_p14 σ1 x0 x1 x2 r2)
theorem V.ctX16_moveFlat (x0 : Nat) (x1 : Int32) (x2 : Int64) : Ct yX16_moveFlat  cX16_moveFlat 8 none 4 101 eV [av x0, iv x1, jv x2] (fun σ => Run_moveFlat σ x0 x1 x2) := by
  refine Ct.of (own := RX16) (nm := "moveFlat") (desc := "(IJ)V") rfl (by decide) (Nat.le_of_ble_eq_true rfl) (by decide) (fun X σ => ?_)
  show G X RX16 "moveFlat" cX16_moveFlat 8 none 4 101 enV 0 [(0, av x0), (1, iv x1), (2, jv x2)] [] σ (Run_moveFlat σ x0 x1 x2)
  unfold Run_moveFlat
  refine g_iload_n 1 1 dX16_moveFlat_0 rfl rfl ?_
  refine g_bipush (v := 53) dX16_moveFlat_1 (by decide) ?_
  refine g_icmp_le 13 dX16_moveFlat_3 (by decide) ?_ ?_
  · refine g_lconst (v := 0) dX16_moveFlat_13 (by decide) ?_
    exact gX16_moveFlat_p14 _ _ _ _ _
  · refine g_aload_n 0 0 dX16_moveFlat_6 rfl rfl ?_
    refine g_callV (fc := fun sς => Run_pop sς x0 ) (ci := 16) (as := []) rfl rfl rfl q2846 qs201 mdX16_320 (ctX16_pop x0 ) rfl (Nat.le_of_ble_eq_true rfl) (Nat.le_of_ble_eq_true rfl) (Nat.le_of_ble_eq_true rfl) pu_J dX16_moveFlat_7 (fun r2 σ1 => ?_)
    refine g_goto 14 dX16_moveFlat_10 (by decide) ?_
    exact gX16_moveFlat_p14 _ _ _ _ _
theorem V.dX16_otherFlat_0 : decode cX16_otherFlat 0 = .ok (.iload_n 1, 1) := by decide +kernel
theorem V.dX16_otherFlat_1 : decode cX16_otherFlat 1 = .ok (.sipush 207, 3) := by decide +kernel
theorem V.dX16_otherFlat_4 : decode cX16_otherFlat 4 = .ok (.if_icmp .gt 15, 3) := by decide +kernel
theorem V.dX16_otherFlat_7 : decode cX16_otherFlat 7 = .ok (.iload_n 1, 1) := by decide +kernel
theorem V.dX16_otherFlat_8 : decode cX16_otherFlat 8 = .ok (.bipush 37, 2) := by decide +kernel
theorem V.dX16_otherFlat_10 : decode cX16_otherFlat 10 = .ok (.if_icmp .eq 9, 3) := by decide +kernel
theorem V.dX16_otherFlat_13 : decode cX16_otherFlat 13 = .ok (.iload_n 1, 1) := by decide +kernel
theorem V.dX16_otherFlat_14 : decode cX16_otherFlat 14 = .ok (.bipush 38, 2) := by decide +kernel
theorem V.dX16_otherFlat_16 : decode cX16_otherFlat 16 = .ok (.if_icmp .ne 45, 3) := by decide +kernel
theorem V.dX16_otherFlat_19 : decode cX16_otherFlat 19 = .ok (.aload_n 0, 1) := by decide +kernel
theorem V.dX16_otherFlat_20 : decode cX16_otherFlat 20 = .ok (.getfield 135, 3) := by decide +kernel
theorem V.dX16_otherFlat_23 : decode cX16_otherFlat 23 = .ok (.aload_n 0, 1) := by decide +kernel
theorem V.dX16_otherFlat_24 : decode cX16_otherFlat 24 = .ok (.getfield 42, 3) := by decide +kernel
theorem V.dX16_otherFlat_27 : decode cX16_otherFlat 27 = .ok (.iload_n 1, 1) := by decide +kernel
theorem V.dX16_otherFlat_28 : decode cX16_otherFlat 28 = .ok (.invokevirtual 270, 3) := by decide +kernel
theorem V.dX16_otherFlat_31 : decode cX16_otherFlat 31 = .ok (.isub, 1) := by decide +kernel
theorem V.dX16_otherFlat_32 : decode cX16_otherFlat 32 = .ok (.istore 4, 2) := by decide +kernel
theorem V.dX16_otherFlat_34 : decode cX16_otherFlat 34 = .ok (.aload_n 0, 1) := by decide +kernel
theorem V.dX16_otherFlat_35 : decode cX16_otherFlat 35 = .ok (.iload_n 1, 1) := by decide +kernel
theorem V.dX16_otherFlat_36 : decode cX16_otherFlat 36 = .ok (.iload_n 2, 1) := by decide +kernel
theorem V.dX16_otherFlat_37 : decode cX16_otherFlat 37 = .ok (.iload_n 3, 1) := by decide +kernel
theorem V.dX16_otherFlat_38 : decode cX16_otherFlat 38 = .ok (.iload 4, 2) := by decide +kernel
theorem V.dX16_otherFlat_40 : decode cX16_otherFlat 40 = .ok (.invokevirtual 360, 3) := by decide +kernel
theorem V.dX16_otherFlat_43 : decode cX16_otherFlat 43 = .ok (.aload_n 0, 1) := by decide +kernel
theorem V.dX16_otherFlat_44 : decode cX16_otherFlat 44 = .ok (.iload 4, 2) := by decide +kernel
theorem V.dX16_otherFlat_46 : decode cX16_otherFlat 46 = .ok (.aload_n 0, 1) := by decide +kernel
theorem V.dX16_otherFlat_47 : decode cX16_otherFlat 47 = .ok (.getfield 42, 3) := by decide +kernel
theorem V.dX16_otherFlat_50 : decode cX16_otherFlat 50 = .ok (.iload_n 1, 1) := by decide +kernel
theorem V.dX16_otherFlat_51 : decode cX16_otherFlat 51 = .ok (.invokevirtual 364, 3) := by decide +kernel
theorem V.dX16_otherFlat_54 : decode cX16_otherFlat 54 = .ok (.iadd, 1) := by decide +kernel
theorem V.dX16_otherFlat_55 : decode cX16_otherFlat 55 = .ok (.putfield 135, 3) := by decide +kernel
theorem V.dX16_otherFlat_58 : decode cX16_otherFlat 58 = .ok (.goto 98, 3) := by decide +kernel
theorem V.dX16_otherFlat_61 : decode cX16_otherFlat 61 = .ok (.iload_n 1, 1) := by decide +kernel
theorem V.dX16_otherFlat_62 : decode cX16_otherFlat 62 = .ok (.bipush 63, 2) := by decide +kernel
theorem V.dX16_otherFlat_64 : decode cX16_otherFlat 64 = .ok (.if_icmp .ge 17, 3) := by decide +kernel
theorem V.dX16_otherFlat_67 : decode cX16_otherFlat 67 = .ok (.aload_n 0, 1) := by decide +kernel
theorem V.dX16_otherFlat_68 : decode cX16_otherFlat 68 = .ok (.iload_n 1, 1) := by decide +kernel
theorem V.dX16_otherFlat_69 : decode cX16_otherFlat 69 = .ok (.iload_n 2, 1) := by decide +kernel
theorem V.dX16_otherFlat_70 : decode cX16_otherFlat 70 = .ok (.i2l, 1) := by decide +kernel
theorem V.dX16_otherFlat_71 : decode cX16_otherFlat 71 = .ok (.ldc2_w 262, 3) := by decide +kernel
theorem V.dX16_otherFlat_74 : decode cX16_otherFlat 74 = .ok (.land, 1) := by decide +kernel
theorem V.dX16_otherFlat_75 : decode cX16_otherFlat 75 = .ok (.invokevirtual 367, 3) := by decide +kernel
theorem V.dX16_otherFlat_78 : decode cX16_otherFlat 78 = .ok (.goto 78, 3) := by decide +kernel
theorem V.dX16_otherFlat_81 : decode cX16_otherFlat 81 = .ok (.aload_n 0, 1) := by decide +kernel
theorem V.dX16_otherFlat_82 : decode cX16_otherFlat 82 = .ok (.invokevirtual 320, 3) := by decide +kernel
theorem V.dX16_otherFlat_85 : decode cX16_otherFlat 85 = .ok (.lstore 4, 2) := by decide +kernel
theorem V.dX16_otherFlat_87 : decode cX16_otherFlat 87 = .ok (.aload_n 0, 1) := by decide +kernel
theorem V.dX16_otherFlat_88 : decode cX16_otherFlat 88 = .ok (.getfield 50, 3) := by decide +kernel
theorem V.dX16_otherFlat_91 : decode cX16_otherFlat 91 = .ok (.iload_n 1, 1) := by decide +kernel
theorem V.dX16_otherFlat_92 : decode cX16_otherFlat 92 = .ok (.invokevirtual 371, 3) := by decide +kernel
theorem V.dX16_otherFlat_95 : decode cX16_otherFlat 95 = .ok (.iconst 2, 1) := by decide +kernel
theorem V.dX16_otherFlat_96 : decode cX16_otherFlat 96 = .ok (.if_icmp .ne 10, 3) := by decide +kernel
theorem V.dX16_otherFlat_99 : decode cX16_otherFlat 99 = .ok (.aload_n 0, 1) := by decide +kernel
theorem V.dX16_otherFlat_100 : decode cX16_otherFlat 100 = .ok (.invokevirtual 320, 3) := by decide +kernel
theorem V.dX16_otherFlat_103 : decode cX16_otherFlat 103 = .ok (.goto 5, 3) := by decide +kernel
theorem V.dX16_otherFlat_106 : decode cX16_otherFlat 106 = .ok (.lload 4, 2) := by decide +kernel
theorem V.dX16_otherFlat_108 : decode cX16_otherFlat 108 = .ok (.lstore 6, 2) := by decide +kernel
theorem V.dX16_otherFlat_110 : decode cX16_otherFlat 110 = .ok (.aload_n 0, 1) := by decide +kernel
theorem V.dX16_otherFlat_111 : decode cX16_otherFlat 111 = .ok (.getfield 50, 3) := by decide +kernel
theorem V.dX16_otherFlat_114 : decode cX16_otherFlat 114 = .ok (.iload_n 1, 1) := by decide +kernel
theorem V.dX16_otherFlat_115 : decode cX16_otherFlat 115 = .ok (.lload 6, 2) := by decide +kernel
theorem V.dX16_otherFlat_117 : decode cX16_otherFlat 117 = .ok (.lload 4, 2) := by decide +kernel
theorem V.dX16_otherFlat_119 : decode cX16_otherFlat 119 = .ok (.invokevirtual 376, 3) := by decide +kernel
theorem V.dX16_otherFlat_122 : decode cX16_otherFlat 122 = .ok (.lstore 8, 2) := by decide +kernel
theorem V.dX16_otherFlat_124 : decode cX16_otherFlat 124 = .ok (.aload_n 0, 1) := by decide +kernel
theorem V.dX16_otherFlat_125 : decode cX16_otherFlat 125 = .ok (.getfield 50, 3) := by decide +kernel
theorem V.dX16_otherFlat_128 : decode cX16_otherFlat 128 = .ok (.invokevirtual 380, 3) := by decide +kernel
theorem V.dX16_otherFlat_131 : decode cX16_otherFlat 131 = .ok (.ifCond .le 19, 3) := by decide +kernel
theorem V.dX16_otherFlat_134 : decode cX16_otherFlat 134 = .ok (.aload_n 0, 1) := by decide +kernel
theorem V.dX16_otherFlat_135 : decode cX16_otherFlat 135 = .ok (.iconst 1, 1) := by decide +kernel
theorem V.dX16_otherFlat_136 : decode cX16_otherFlat 136 = .ok (.aload_n 0, 1) := by decide +kernel
theorem V.dX16_otherFlat_137 : decode cX16_otherFlat 137 = .ok (.getfield 50, 3) := by decide +kernel
theorem V.dX16_otherFlat_140 : decode cX16_otherFlat 140 = .ok (.invokevirtual 380, 3) := by decide +kernel
theorem V.dX16_otherFlat_143 : decode cX16_otherFlat 143 = .ok (.iadd, 1) := by decide +kernel
theorem V.dX16_otherFlat_144 : decode cX16_otherFlat 144 = .ok (.invokevirtual 226, 3) := by decide +kernel
theorem V.dX16_otherFlat_147 : decode cX16_otherFlat 147 = .ok (.goto 9, 3) := by decide +kernel
theorem V.dX16_otherFlat_150 : decode cX16_otherFlat 150 = .ok (.aload_n 0, 1) := by decide +kernel
theorem V.dX16_otherFlat_151 : decode cX16_otherFlat 151 = .ok (.lload 8, 2) := by decide +kernel
theorem V.dX16_otherFlat_153 : decode cX16_otherFlat 153 = .ok (.invokevirtual 340, 3) := by decide +kernel
theorem V.dX16_otherFlat_156 : decode cX16_otherFlat 156 = .ok (.return_, 1) := by decide +kernel
theorem V.mdX16_371 : MD RX16 371 yX4_operands cX4_operands 2 (some .int) 1 := ⟨Or.inl q2873, q364, q2127, by decide, by decide, by decide +kernel⟩
theorem V.mdX16_367 : MD RX16 367 yX16_moveFlat cX16_moveFlat 8 none 2 := ⟨Or.inl q2869, q376, q2872, by decide, by decide, by decide +kernel⟩
theorem V.mdX16_364 : MD RX16 364 yX6_out cX6_out 2 (some .int) 1 := ⟨Or.inl q2868, q366, q2131, by decide, by decide, by decide +kernel⟩
/-! ModuleEngine$Runner.otherFlat(III)V -/
def V.Run_otherFlat_p19  (σ : HS) (x0 : Nat) (x1 : Int32) (x2 : Int32) (x3 : Int32) : Option (Unit × HS) :=
  ck (tg σ x0 = 17) <|
  ck (tg σ x0 = 17) <|
  ck (tg σ (gR σ x0 0) = 7) <| cl (Flt_in σ (gR σ x0 0) x1) fun r2 σ1 =>
  bn ((gI σ x0 15) - r2) fun y3 =>
  ck (tg σ1 x0 = 17) <| cl (Run_place σ1 x0 x1 x2 x3 y3) fun _ σ4 =>
  ck (tg σ4 x0 = 17) <|
  ck (tg σ4 (gR σ4 x0 0) = 7) <| cl (Flt_out σ4 (gR σ4 x0 0) x1) fun r6 σ5 =>
  ck (tg σ5 x0 = 17) <| bn (sI σ5 x0 15 (y3 + r6)) fun σ7 =>
  some ((), σ7)
theorem V.gX16_otherFlat_p19 {X : CX}  (σ : HS) (x0 : Nat) (x1 : Int32) (x2 : Int32) (x3 : Int32) : G X RX16 "otherFlat" cX16_otherFlat 10 none 7 191 enV 19 [(0, av x0), (1, iv x1), (2, iv x2), (3, iv x3)] [] σ (Run_otherFlat_p19 σ x0 x1 x2 x3) := by
  unfold Run_otherFlat_p19
  refine g_aload_n 0 0 dX16_otherFlat_19 rfl rfl ?_
  refine g_getI fdX16_135 dX16_otherFlat_20 ?_
  refine g_aload_n 0 0 dX16_otherFlat_23 rfl rfl ?_
  refine g_getR fdX16_42 dX16_otherFlat_24 ?_
  refine g_iload_n 1 1 dX16_otherFlat_27 rfl rfl ?_
  refine g_callV (fc := fun sς => Flt_in sς (gR σ x0 0) x1) (ci := 6) (as := [iv x1]) rfl rfl rfl q2121 q2122 mdX16_270 (ctX6_in (gR σ x0 0) x1) rfl (Nat.le_of_ble_eq_true rfl) (Nat.le_of_ble_eq_true rfl) (Nat.le_of_ble_eq_true rfl) pu_I dX16_otherFlat_28 (fun r2 σ1 => ?_)
  refine g_isub dX16_otherFlat_31 ?_
  refine g_nmI (fun y3 => ?_)
  refine g_istore dX16_otherFlat_32 (by decide) rfl ?_
  refine g_aload_n 0 1 dX16_otherFlat_34 rfl rfl ?_
  refine g_iload_n 1 2 dX16_otherFlat_35 rfl rfl ?_
  refine g_iload_n 2 3 dX16_otherFlat_36 rfl rfl ?_
  refine g_iload_n 3 4 dX16_otherFlat_37 rfl rfl ?_
  refine g_iload 0 dX16_otherFlat_38 rfl ?_
  refine g_callV (fc := fun sς => Run_place sς x0 x1 x2 x3 y3) (ci := 16) (as := [iv x1, iv x2, iv x3, iv y3]) rfl rfl rfl q2767 qs191 mdX16_360 (ctX16_place x0 x1 x2 x3 y3) rfl (Nat.le_of_ble_eq_true rfl) (Nat.le_of_ble_eq_true rfl) (Nat.le_of_ble_eq_true rfl) pu_V dX16_otherFlat_40 (fun _ σ4 => ?_)
  refine g_aload_n 0 1 dX16_otherFlat_43 rfl rfl ?_
  refine g_iload 0 dX16_otherFlat_44 rfl ?_
  refine g_aload_n 0 1 dX16_otherFlat_46 rfl rfl ?_
  refine g_getR fdX16_42 dX16_otherFlat_47 ?_
  refine g_iload_n 1 2 dX16_otherFlat_50 rfl rfl ?_
  refine g_callV (fc := fun sς => Flt_out sς (gR σ4 x0 0) x1) (ci := 6) (as := [iv x1]) rfl rfl rfl q2129 q2130 mdX16_364 (ctX6_out (gR σ4 x0 0) x1) rfl (Nat.le_of_ble_eq_true rfl) (Nat.le_of_ble_eq_true rfl) (Nat.le_of_ble_eq_true rfl) pu_I dX16_otherFlat_51 (fun r6 σ5 => ?_)
  refine g_iadd dX16_otherFlat_54 ?_
  refine g_putI fpX16_135 dX16_otherFlat_55 (fun σ7 => ?_)
  refine g_goto 156 dX16_otherFlat_58 (by decide) ?_
  exact g_return rfl dX16_otherFlat_156
def V.Run_otherFlat_p108  (σ : HS) (x0 : Nat) (x1 : Int32) (x4 : Int64) (s0 : Int64) : Option (Unit × HS) :=
  ck (tg σ x0 = 17) <|
  ck (tg σ (gR σ x0 2) = 5) <| cl (Num_apply σ (gR σ x0 2) x1 s0 x4) fun r2 σ1 =>
  ck (tg σ1 x0 = 17) <|
  ck (tg σ1 (gR σ1 x0 2) = 5) <| cl (Num_trap σ1 (gR σ1 x0 2) ) fun r4 σ3 =>
  if r4 ≤ 0 then (
    ck (tg σ3 x0 = 17) <| cl (Run_push σ3 x0 r2) fun _ σ5 =>
    some ((), σ5))
  else (
    ck (tg σ3 x0 = 17) <|
    ck (tg σ3 (gR σ3 x0 2) = 5) <| cl (Num_trap σ3 (gR σ3 x0 2) ) fun r7 σ6 =>
    ck (tg σ6 x0 = 17) <| cl (Run_stop σ6 x0 ((1 : Int32) + r7)) fun _ σ8 =>
    some ((), σ8))
theorem V.gX16_otherFlat_p108 {X : CX}  (σ : HS) (x0 : Nat) (x1 : Int32) (x4 : Int64) (s0 : Int64) : G X RX16 "otherFlat" cX16_otherFlat 10 none 7 191 enV 108 [(0, av x0), (1, iv x1), (4, jv x4)] [jv s0] σ (Run_otherFlat_p108 σ x0 x1 x4 s0) := by
  unfold Run_otherFlat_p108
  refine g_lstore dX16_otherFlat_108 (by decide) rfl ?_
  refine g_aload_n 0 1 dX16_otherFlat_110 rfl rfl ?_
  refine g_getR fdX16_50 dX16_otherFlat_111 ?_
  refine g_iload_n 1 2 dX16_otherFlat_114 rfl rfl ?_
  refine g_lload 0 dX16_otherFlat_115 rfl ?_
  refine g_lload 3 dX16_otherFlat_117 rfl ?_
  refine g_callV (fc := fun sς => Num_apply sς (gR σ x0 2) x1 s0 x4) (ci := 4) (as := [iv x1, jv s0, jv x4]) rfl rfl rfl q2514 q2515 mdX16_376 (ctX4_apply (gR σ x0 2) x1 s0 x4) rfl (Nat.le_of_ble_eq_true rfl) (Nat.le_of_ble_eq_true rfl) (Nat.le_of_ble_eq_true rfl) pu_J dX16_otherFlat_119 (fun r2 σ1 => ?_)
  refine g_lstore dX16_otherFlat_122 (by decide) rfl ?_
  refine g_aload_n 0 2 dX16_otherFlat_124 rfl rfl ?_
  refine g_getR fdX16_50 dX16_otherFlat_125 ?_
  refine g_callV (fc := fun sς => Num_trap sς (gR σ1 x0 2) ) (ci := 4) (as := []) rfl rfl rfl q2667 q2668 mdX16_380 (ctX4_trap (gR σ1 x0 2) ) rfl (Nat.le_of_ble_eq_true rfl) (Nat.le_of_ble_eq_true rfl) (Nat.le_of_ble_eq_true rfl) pu_I dX16_otherFlat_128 (fun r4 σ3 => ?_)
  refine g_if_le 150 dX16_otherFlat_131 (by decide) ?_ ?_
  · refine g_aload_n 0 2 dX16_otherFlat_150 rfl rfl ?_
    refine g_lload 0 dX16_otherFlat_151 rfl ?_
    refine g_callV (fc := fun sς => Run_push sς x0 r2) (ci := 16) (as := [jv r2]) rfl rfl rfl q2858 qs204 mdX16_340 (ctX16_push x0 r2) rfl (Nat.le_of_ble_eq_true rfl) (Nat.le_of_ble_eq_true rfl) (Nat.le_of_ble_eq_true rfl) pu_V dX16_otherFlat_153 (fun _ σ5 => ?_)
    exact g_return rfl dX16_otherFlat_156
  · refine g_aload_n 0 2 dX16_otherFlat_134 rfl rfl ?_
    refine g_iconst (v := 1) dX16_otherFlat_135 (by decide) ?_
    refine g_aload_n 0 2 dX16_otherFlat_136 rfl rfl ?_
    refine g_getR fdX16_50 dX16_otherFlat_137 ?_
    refine g_callV (fc := fun sς => Num_trap sς (gR σ3 x0 2) ) (ci := 4) (as := []) rfl rfl rfl q2667 q2668 mdX16_380 (ctX4_trap (gR σ3 x0 2) ) rfl (Nat.le_of_ble_eq_true rfl) (Nat.le_of_ble_eq_true rfl) (Nat.le_of_ble_eq_true rfl) pu_I dX16_otherFlat_140 (fun r7 σ6 => ?_)
    refine g_iadd dX16_otherFlat_143 ?_
    refine g_callV (fc := fun sς => Run_stop sς x0 ((1 : Int32) + r7)) (ci := 16) (as := [iv ((1 : Int32) + r7)]) rfl rfl rfl q2364 q2365 mdX16_226 (ctX16_stop x0 ((1 : Int32) + r7)) rfl (Nat.le_of_ble_eq_true rfl) (Nat.le_of_ble_eq_true rfl) (Nat.le_of_ble_eq_true rfl) pu_V dX16_otherFlat_144 (fun _ σ8 => ?_)
    refine g_goto 156 dX16_otherFlat_147 (by decide) ?_
    exact g_return rfl dX16_otherFlat_156
def V.Run_otherFlat (σ : HS) (x0 : Nat) (x1 : Int32) (x2 : Int32) (x3 : Int32) : Option (Unit × HS) :=
  if (207 : Int32) < x1 then (
    Run_otherFlat_p19 σ x0 x1 x2 x3)
  else (
    if x1 = (37 : Int32) then (
      Run_otherFlat_p19 σ x0 x1 x2 x3)
    else (
      if x1 = (38 : Int32) then (
        Run_otherFlat_p19 σ x0 x1 x2 x3)
      else (
        if (63 : Int32) ≤ x1 then (
          ck (tg σ x0 = 17) <| cl (Run_pop σ x0 ) fun r2 σ1 =>
          ck (tg σ1 x0 = 17) <|
          ck (tg σ1 (gR σ1 x0 2) = 5) <| cl (Num_operands σ1 (gR σ1 x0 2) x1) fun r4 σ3 =>
          if r4 = (2 : Int32) then (
            ck (tg σ3 x0 = 17) <| cl (Run_pop σ3 x0 ) fun r6 σ5 =>
            Run_otherFlat_p108 σ5 x0 x1 r2 r6)
          else (
            Run_otherFlat_p108 σ3 x0 x1 r2 r2))
        else (
          ck (tg σ x0 = 17) <| cl (Run_moveFlat σ x0 x1 (x2.toInt64 &&& (4294967295 : Int64))) fun _ σ7 =>
          some ((), σ7)))))
theorem V.ctX16_otherFlat (x0 : Nat) (x1 : Int32) (x2 : Int32) (x3 : Int32) : Ct yX16_otherFlat  cX16_otherFlat 10 none 7 191 eV [av x0, iv x1, iv x2, iv x3] (fun σ => Run_otherFlat σ x0 x1 x2 x3) := by
  refine Ct.of (own := RX16) (nm := "otherFlat") (desc := "(III)V") rfl (by decide) (Nat.le_of_ble_eq_true rfl) (by decide) (fun X σ => ?_)
  show G X RX16 "otherFlat" cX16_otherFlat 10 none 7 191 enV 0 [(0, av x0), (1, iv x1), (2, iv x2), (3, iv x3)] [] σ (Run_otherFlat σ x0 x1 x2 x3)
  unfold Run_otherFlat
  refine g_iload_n 1 1 dX16_otherFlat_0 rfl rfl ?_
  refine g_sipush (v := 207) dX16_otherFlat_1 (by decide) ?_
  refine g_icmp_gt 19 dX16_otherFlat_4 (by decide) ?_ ?_
  · exact gX16_otherFlat_p19 _ _ _ _ _
  · refine g_iload_n 1 1 dX16_otherFlat_7 rfl rfl ?_
    refine g_bipush (v := 37) dX16_otherFlat_8 (by decide) ?_
    refine g_icmp_eq 19 dX16_otherFlat_10 (by decide) ?_ ?_
    · exact gX16_otherFlat_p19 _ _ _ _ _
    · refine g_iload_n 1 1 dX16_otherFlat_13 rfl rfl ?_
      refine g_bipush (v := 38) dX16_otherFlat_14 (by decide) ?_
      refine g_icmp_ne 61 dX16_otherFlat_16 (by decide) ?_ ?_
      · refine g_iload_n 1 1 dX16_otherFlat_61 rfl rfl ?_
        refine g_bipush (v := 63) dX16_otherFlat_62 (by decide) ?_
        refine g_icmp_ge 81 dX16_otherFlat_64 (by decide) ?_ ?_
        · refine g_aload_n 0 0 dX16_otherFlat_81 rfl rfl ?_
          refine g_callV (fc := fun sς => Run_pop sς x0 ) (ci := 16) (as := []) rfl rfl rfl q2846 qs201 mdX16_320 (ctX16_pop x0 ) rfl (Nat.le_of_ble_eq_true rfl) (Nat.le_of_ble_eq_true rfl) (Nat.le_of_ble_eq_true rfl) pu_J dX16_otherFlat_82 (fun r2 σ1 => ?_)
          refine g_lstore dX16_otherFlat_85 (by decide) rfl ?_
          refine g_aload_n 0 1 dX16_otherFlat_87 rfl rfl ?_
          refine g_getR fdX16_50 dX16_otherFlat_88 ?_
          refine g_iload_n 1 2 dX16_otherFlat_91 rfl rfl ?_
          refine g_callV (fc := fun sς => Num_operands sς (gR σ1 x0 2) x1) (ci := 4) (as := [iv x1]) rfl rfl rfl q2125 q2126 mdX16_371 (ctX4_operands (gR σ1 x0 2) x1) rfl (Nat.le_of_ble_eq_true rfl) (Nat.le_of_ble_eq_true rfl) (Nat.le_of_ble_eq_true rfl) pu_I dX16_otherFlat_92 (fun r4 σ3 => ?_)
          refine g_iconst (v := 2) dX16_otherFlat_95 (by decide) ?_
          refine g_icmp_ne 106 dX16_otherFlat_96 (by decide) ?_ ?_
          · refine g_lload 0 dX16_otherFlat_106 rfl ?_
            refine G.sub [1, 2, 0] rfl ?_
            exact gX16_otherFlat_p108 _ _ _ _ _
          · refine g_aload_n 0 1 dX16_otherFlat_99 rfl rfl ?_
            refine g_callV (fc := fun sς => Run_pop sς x0 ) (ci := 16) (as := []) rfl rfl rfl q2846 qs201 mdX16_320 (ctX16_pop x0 ) rfl (Nat.le_of_ble_eq_true rfl) (Nat.le_of_ble_eq_true rfl) (Nat.le_of_ble_eq_true rfl) pu_J dX16_otherFlat_100 (fun r6 σ5 => ?_)
            refine g_goto 108 dX16_otherFlat_103 (by decide) ?_
            refine G.sub [1, 2, 0] rfl ?_
            exact gX16_otherFlat_p108 _ _ _ _ _
        · refine g_aload_n 0 0 dX16_otherFlat_67 rfl rfl ?_
          refine g_iload_n 1 1 dX16_otherFlat_68 rfl rfl ?_
          refine g_iload_n 2 2 dX16_otherFlat_69 rfl rfl ?_
          refine g_i2l dX16_otherFlat_70 ?_
          refine g_ldc2 q2717 dX16_otherFlat_71 ?_
          refine g_land dX16_otherFlat_74 ?_
          refine g_callV (fc := fun sς => Run_moveFlat sς x0 x1 (x2.toInt64 &&& (4294967295 : Int64))) (ci := 16) (as := [iv x1, jv (x2.toInt64 &&& (4294967295 : Int64))]) rfl rfl rfl q2871 qs207 mdX16_367 (ctX16_moveFlat x0 x1 (x2.toInt64 &&& (4294967295 : Int64))) rfl (Nat.le_of_ble_eq_true rfl) (Nat.le_of_ble_eq_true rfl) (Nat.le_of_ble_eq_true rfl) pu_V dX16_otherFlat_75 (fun _ σ7 => ?_)
          refine g_goto 156 dX16_otherFlat_78 (by decide) ?_
          exact g_return rfl dX16_otherFlat_156
      · exact gX16_otherFlat_p19 _ _ _ _ _
theorem V.dX16_plainFlat_0 : decode cX16_plainFlat 0 = .ok (.iload_n 1, 1) := by decide +kernel
theorem V.dX16_plainFlat_1 : decode cX16_plainFlat 1 = .ok (.lookupswitch 391 #[(26, 123), (27, 131), (32, 174), (33, 191), (34, 208), (35, 232), (36, 252), (63, 272), (64, 294), (65, 313), (66, 326), (208, 345), (209, 355), (210, 378)], 123) := by decide +kernel
theorem V.dX16_plainFlat_124 : decode cX16_plainFlat 124 = .ok (.aload_n 0, 1) := by decide +kernel
theorem V.dX16_plainFlat_125 : decode cX16_plainFlat 125 = .ok (.invokevirtual 320, 3) := by decide +kernel
theorem V.dX16_plainFlat_128 : decode cX16_plainFlat 128 = .ok (.pop2, 1) := by decide +kernel
theorem V.dX16_plainFlat_129 : decode cX16_plainFlat 129 = .ok (.goto 270, 3) := by decide +kernel
theorem V.dX16_plainFlat_132 : decode cX16_plainFlat 132 = .ok (.aload_n 0, 1) := by decide +kernel
theorem V.dX16_plainFlat_133 : decode cX16_plainFlat 133 = .ok (.invokevirtual 320, 3) := by decide +kernel
theorem V.dX16_plainFlat_136 : decode cX16_plainFlat 136 = .ok (.ldc2_w 262, 3) := by decide +kernel
theorem V.dX16_plainFlat_139 : decode cX16_plainFlat 139 = .ok (.land, 1) := by decide +kernel
theorem V.dX16_plainFlat_140 : decode cX16_plainFlat 140 = .ok (.lstore 4, 2) := by decide +kernel
theorem V.dX16_plainFlat_142 : decode cX16_plainFlat 142 = .ok (.aload_n 0, 1) := by decide +kernel
theorem V.dX16_plainFlat_143 : decode cX16_plainFlat 143 = .ok (.invokevirtual 320, 3) := by decide +kernel
theorem V.dX16_plainFlat_146 : decode cX16_plainFlat 146 = .ok (.lstore 6, 2) := by decide +kernel
theorem V.dX16_plainFlat_148 : decode cX16_plainFlat 148 = .ok (.aload_n 0, 1) := by decide +kernel
theorem V.dX16_plainFlat_149 : decode cX16_plainFlat 149 = .ok (.invokevirtual 320, 3) := by decide +kernel
theorem V.dX16_plainFlat_152 : decode cX16_plainFlat 152 = .ok (.lstore 8, 2) := by decide +kernel
theorem V.dX16_plainFlat_154 : decode cX16_plainFlat 154 = .ok (.aload_n 0, 1) := by decide +kernel
theorem V.dX16_plainFlat_155 : decode cX16_plainFlat 155 = .ok (.lload 4, 2) := by decide +kernel
theorem V.dX16_plainFlat_157 : decode cX16_plainFlat 157 = .ok (.lconst 0, 1) := by decide +kernel
theorem V.dX16_plainFlat_158 : decode cX16_plainFlat 158 = .ok (.lcmp, 1) := by decide +kernel
theorem V.dX16_plainFlat_159 : decode cX16_plainFlat 159 = .ok (.ifCond .eq 8, 3) := by decide +kernel
theorem V.dX16_plainFlat_162 : decode cX16_plainFlat 162 = .ok (.lload 8, 2) := by decide +kernel
theorem V.dX16_plainFlat_164 : decode cX16_plainFlat 164 = .ok (.goto 5, 3) := by decide +kernel
theorem V.dX16_plainFlat_167 : decode cX16_plainFlat 167 = .ok (.lload 6, 2) := by decide +kernel
theorem V.dX16_plainFlat_169 : decode cX16_plainFlat 169 = .ok (.invokevirtual 340, 3) := by decide +kernel
theorem V.dX16_plainFlat_172 : decode cX16_plainFlat 172 = .ok (.goto 227, 3) := by decide +kernel
theorem V.dX16_plainFlat_175 : decode cX16_plainFlat 175 = .ok (.aload_n 0, 1) := by decide +kernel
theorem V.dX16_plainFlat_176 : decode cX16_plainFlat 176 = .ok (.aload_n 0, 1) := by decide +kernel
theorem V.dX16_plainFlat_177 : decode cX16_plainFlat 177 = .ok (.getfield 9, 3) := by decide +kernel
theorem V.dX16_plainFlat_180 : decode cX16_plainFlat 180 = .ok (.aload_n 0, 1) := by decide +kernel
theorem V.dX16_plainFlat_181 : decode cX16_plainFlat 181 = .ok (.iload_n 2, 1) := by decide +kernel
theorem V.dX16_plainFlat_182 : decode cX16_plainFlat 182 = .ok (.invokevirtual 344, 3) := by decide +kernel
theorem V.dX16_plainFlat_185 : decode cX16_plainFlat 185 = .ok (.laload, 1) := by decide +kernel
theorem V.dX16_plainFlat_186 : decode cX16_plainFlat 186 = .ok (.invokevirtual 340, 3) := by decide +kernel
theorem V.dX16_plainFlat_189 : decode cX16_plainFlat 189 = .ok (.goto 210, 3) := by decide +kernel
theorem V.dX16_plainFlat_192 : decode cX16_plainFlat 192 = .ok (.aload_n 0, 1) := by decide +kernel
theorem V.dX16_plainFlat_193 : decode cX16_plainFlat 193 = .ok (.getfield 9, 3) := by decide +kernel
theorem V.dX16_plainFlat_196 : decode cX16_plainFlat 196 = .ok (.aload_n 0, 1) := by decide +kernel
theorem V.dX16_plainFlat_197 : decode cX16_plainFlat 197 = .ok (.iload_n 2, 1) := by decide +kernel
theorem V.dX16_plainFlat_198 : decode cX16_plainFlat 198 = .ok (.invokevirtual 344, 3) := by decide +kernel
theorem V.dX16_plainFlat_201 : decode cX16_plainFlat 201 = .ok (.aload_n 0, 1) := by decide +kernel
theorem V.dX16_plainFlat_202 : decode cX16_plainFlat 202 = .ok (.invokevirtual 320, 3) := by decide +kernel
theorem V.dX16_plainFlat_205 : decode cX16_plainFlat 205 = .ok (.lastore, 1) := by decide +kernel
theorem V.dX16_plainFlat_206 : decode cX16_plainFlat 206 = .ok (.goto 193, 3) := by decide +kernel
theorem V.dX16_plainFlat_209 : decode cX16_plainFlat 209 = .ok (.aload_n 0, 1) := by decide +kernel
theorem V.dX16_plainFlat_210 : decode cX16_plainFlat 210 = .ok (.getfield 9, 3) := by decide +kernel
theorem V.dX16_plainFlat_213 : decode cX16_plainFlat 213 = .ok (.aload_n 0, 1) := by decide +kernel
theorem V.dX16_plainFlat_214 : decode cX16_plainFlat 214 = .ok (.iload_n 2, 1) := by decide +kernel
theorem V.dX16_plainFlat_215 : decode cX16_plainFlat 215 = .ok (.invokevirtual 344, 3) := by decide +kernel
theorem V.dX16_plainFlat_218 : decode cX16_plainFlat 218 = .ok (.aload_n 0, 1) := by decide +kernel
theorem V.dX16_plainFlat_219 : decode cX16_plainFlat 219 = .ok (.getfield 9, 3) := by decide +kernel
theorem V.dX16_plainFlat_222 : decode cX16_plainFlat 222 = .ok (.aload_n 0, 1) := by decide +kernel
theorem V.dX16_plainFlat_223 : decode cX16_plainFlat 223 = .ok (.getfield 135, 3) := by decide +kernel
theorem V.dX16_plainFlat_226 : decode cX16_plainFlat 226 = .ok (.iconst 1, 1) := by decide +kernel
theorem V.dX16_plainFlat_227 : decode cX16_plainFlat 227 = .ok (.isub, 1) := by decide +kernel
theorem V.dX16_plainFlat_228 : decode cX16_plainFlat 228 = .ok (.laload, 1) := by decide +kernel
theorem V.dX16_plainFlat_229 : decode cX16_plainFlat 229 = .ok (.lastore, 1) := by decide +kernel
theorem V.dX16_plainFlat_230 : decode cX16_plainFlat 230 = .ok (.goto 169, 3) := by decide +kernel
theorem V.dX16_plainFlat_233 : decode cX16_plainFlat 233 = .ok (.aload_n 0, 1) := by decide +kernel
theorem V.dX16_plainFlat_234 : decode cX16_plainFlat 234 = .ok (.aload_n 0, 1) := by decide +kernel
theorem V.dX16_plainFlat_235 : decode cX16_plainFlat 235 = .ok (.getfield 54, 3) := by decide +kernel
theorem V.dX16_plainFlat_238 : decode cX16_plainFlat 238 = .ok (.getfield 347, 3) := by decide +kernel
theorem V.dX16_plainFlat_241 : decode cX16_plainFlat 241 = .ok (.aload_n 0, 1) := by decide +kernel
theorem V.dX16_plainFlat_242 : decode cX16_plainFlat 242 = .ok (.iload_n 2, 1) := by decide +kernel
theorem V.dX16_plainFlat_243 : decode cX16_plainFlat 243 = .ok (.invokevirtual 350, 3) := by decide +kernel
theorem V.dX16_plainFlat_246 : decode cX16_plainFlat 246 = .ok (.laload, 1) := by decide +kernel
theorem V.dX16_plainFlat_247 : decode cX16_plainFlat 247 = .ok (.invokevirtual 340, 3) := by decide +kernel
theorem V.dX16_plainFlat_250 : decode cX16_plainFlat 250 = .ok (.goto 149, 3) := by decide +kernel
theorem V.dX16_plainFlat_253 : decode cX16_plainFlat 253 = .ok (.aload_n 0, 1) := by decide +kernel
theorem V.dX16_plainFlat_254 : decode cX16_plainFlat 254 = .ok (.getfield 54, 3) := by decide +kernel
theorem V.dX16_plainFlat_257 : decode cX16_plainFlat 257 = .ok (.getfield 347, 3) := by decide +kernel
theorem V.dX16_plainFlat_260 : decode cX16_plainFlat 260 = .ok (.aload_n 0, 1) := by decide +kernel
theorem V.dX16_plainFlat_261 : decode cX16_plainFlat 261 = .ok (.iload_n 2, 1) := by decide +kernel
theorem V.dX16_plainFlat_262 : decode cX16_plainFlat 262 = .ok (.invokevirtual 350, 3) := by decide +kernel
theorem V.dX16_plainFlat_265 : decode cX16_plainFlat 265 = .ok (.aload_n 0, 1) := by decide +kernel
theorem V.dX16_plainFlat_266 : decode cX16_plainFlat 266 = .ok (.invokevirtual 320, 3) := by decide +kernel
theorem V.dX16_plainFlat_269 : decode cX16_plainFlat 269 = .ok (.lastore, 1) := by decide +kernel
theorem V.dX16_plainFlat_270 : decode cX16_plainFlat 270 = .ok (.goto 129, 3) := by decide +kernel
theorem V.dX16_plainFlat_273 : decode cX16_plainFlat 273 = .ok (.aload_n 0, 1) := by decide +kernel
theorem V.dX16_plainFlat_274 : decode cX16_plainFlat 274 = .ok (.aload_n 0, 1) := by decide +kernel
theorem V.dX16_plainFlat_275 : decode cX16_plainFlat 275 = .ok (.getfield 54, 3) := by decide +kernel
theorem V.dX16_plainFlat_278 : decode cX16_plainFlat 278 = .ok (.getfield 246, 3) := by decide +kernel
theorem V.dX16_plainFlat_281 : decode cX16_plainFlat 281 = .ok (.aload_n 0, 1) := by decide +kernel
theorem V.dX16_plainFlat_282 : decode cX16_plainFlat 282 = .ok (.invokevirtual 250, 3) := by decide +kernel
theorem V.dX16_plainFlat_285 : decode cX16_plainFlat 285 = .ok (.invokevirtual 353, 3) := by decide +kernel
theorem V.dX16_plainFlat_288 : decode cX16_plainFlat 288 = .ok (.i2l, 1) := by decide +kernel
theorem V.dX16_plainFlat_289 : decode cX16_plainFlat 289 = .ok (.invokevirtual 340, 3) := by decide +kernel
theorem V.dX16_plainFlat_292 : decode cX16_plainFlat 292 = .ok (.goto 107, 3) := by decide +kernel
theorem V.dX16_plainFlat_295 : decode cX16_plainFlat 295 = .ok (.aload_n 0, 1) := by decide +kernel
theorem V.dX16_plainFlat_296 : decode cX16_plainFlat 296 = .ok (.aload_n 0, 1) := by decide +kernel
theorem V.dX16_plainFlat_297 : decode cX16_plainFlat 297 = .ok (.aload_n 0, 1) := by decide +kernel
theorem V.dX16_plainFlat_298 : decode cX16_plainFlat 298 = .ok (.invokevirtual 320, 3) := by decide +kernel
theorem V.dX16_plainFlat_301 : decode cX16_plainFlat 301 = .ok (.ldc2_w 262, 3) := by decide +kernel
theorem V.dX16_plainFlat_304 : decode cX16_plainFlat 304 = .ok (.land, 1) := by decide +kernel
theorem V.dX16_plainFlat_305 : decode cX16_plainFlat 305 = .ok (.invokevirtual 354, 3) := by decide +kernel
theorem V.dX16_plainFlat_308 : decode cX16_plainFlat 308 = .ok (.invokevirtual 340, 3) := by decide +kernel
theorem V.dX16_plainFlat_311 : decode cX16_plainFlat 311 = .ok (.goto 88, 3) := by decide +kernel
theorem V.dX16_plainFlat_314 : decode cX16_plainFlat 314 = .ok (.aload_n 0, 1) := by decide +kernel
theorem V.dX16_plainFlat_315 : decode cX16_plainFlat 315 = .ok (.iload_n 2, 1) := by decide +kernel
theorem V.dX16_plainFlat_316 : decode cX16_plainFlat 316 = .ok (.i2l, 1) := by decide +kernel
theorem V.dX16_plainFlat_317 : decode cX16_plainFlat 317 = .ok (.ldc2_w 262, 3) := by decide +kernel
theorem V.dX16_plainFlat_320 : decode cX16_plainFlat 320 = .ok (.land, 1) := by decide +kernel
theorem V.dX16_plainFlat_321 : decode cX16_plainFlat 321 = .ok (.invokevirtual 340, 3) := by decide +kernel
theorem V.dX16_plainFlat_324 : decode cX16_plainFlat 324 = .ok (.goto 75, 3) := by decide +kernel
theorem V.dX16_plainFlat_327 : decode cX16_plainFlat 327 = .ok (.aload_n 0, 1) := by decide +kernel
theorem V.dX16_plainFlat_328 : decode cX16_plainFlat 328 = .ok (.iload_n 3, 1) := by decide +kernel
theorem V.dX16_plainFlat_329 : decode cX16_plainFlat 329 = .ok (.i2l, 1) := by decide +kernel
theorem V.dX16_plainFlat_330 : decode cX16_plainFlat 330 = .ok (.bipush 32, 2) := by decide +kernel
theorem V.dX16_plainFlat_332 : decode cX16_plainFlat 332 = .ok (.lshl, 1) := by decide +kernel
theorem V.dX16_plainFlat_333 : decode cX16_plainFlat 333 = .ok (.iload_n 2, 1) := by decide +kernel
theorem V.dX16_plainFlat_334 : decode cX16_plainFlat 334 = .ok (.i2l, 1) := by decide +kernel
theorem V.dX16_plainFlat_335 : decode cX16_plainFlat 335 = .ok (.ldc2_w 262, 3) := by decide +kernel
theorem V.dX16_plainFlat_338 : decode cX16_plainFlat 338 = .ok (.land, 1) := by decide +kernel
theorem V.dX16_plainFlat_339 : decode cX16_plainFlat 339 = .ok (.lor, 1) := by decide +kernel
theorem V.dX16_plainFlat_340 : decode cX16_plainFlat 340 = .ok (.invokevirtual 340, 3) := by decide +kernel
theorem V.dX16_plainFlat_343 : decode cX16_plainFlat 343 = .ok (.goto 56, 3) := by decide +kernel
theorem V.dX16_plainFlat_346 : decode cX16_plainFlat 346 = .ok (.aload_n 0, 1) := by decide +kernel
theorem V.dX16_plainFlat_347 : decode cX16_plainFlat 347 = .ok (.ldc2_w 177, 3) := by decide +kernel
theorem V.dX16_plainFlat_350 : decode cX16_plainFlat 350 = .ok (.invokevirtual 340, 3) := by decide +kernel
theorem V.dX16_plainFlat_353 : decode cX16_plainFlat 353 = .ok (.goto 46, 3) := by decide +kernel
theorem V.dX16_plainFlat_356 : decode cX16_plainFlat 356 = .ok (.aload_n 0, 1) := by decide +kernel
theorem V.dX16_plainFlat_357 : decode cX16_plainFlat 357 = .ok (.aload_n 0, 1) := by decide +kernel
theorem V.dX16_plainFlat_358 : decode cX16_plainFlat 358 = .ok (.invokevirtual 320, 3) := by decide +kernel
theorem V.dX16_plainFlat_361 : decode cX16_plainFlat 361 = .ok (.ldc2_w 177, 3) := by decide +kernel
theorem V.dX16_plainFlat_364 : decode cX16_plainFlat 364 = .ok (.lcmp, 1) := by decide +kernel
theorem V.dX16_plainFlat_365 : decode cX16_plainFlat 365 = .ok (.ifCond .ne 7, 3) := by decide +kernel
theorem V.dX16_plainFlat_368 : decode cX16_plainFlat 368 = .ok (.lconst 1, 1) := by decide +kernel
theorem V.dX16_plainFlat_369 : decode cX16_plainFlat 369 = .ok (.goto 4, 3) := by decide +kernel
theorem V.dX16_plainFlat_372 : decode cX16_plainFlat 372 = .ok (.lconst 0, 1) := by decide +kernel
theorem V.dX16_plainFlat_373 : decode cX16_plainFlat 373 = .ok (.invokevirtual 340, 3) := by decide +kernel
theorem V.dX16_plainFlat_376 : decode cX16_plainFlat 376 = .ok (.goto 23, 3) := by decide +kernel
theorem V.dX16_plainFlat_379 : decode cX16_plainFlat 379 = .ok (.aload_n 0, 1) := by decide +kernel
theorem V.dX16_plainFlat_380 : decode cX16_plainFlat 380 = .ok (.aload_n 0, 1) := by decide +kernel
theorem V.dX16_plainFlat_381 : decode cX16_plainFlat 381 = .ok (.iload_n 2, 1) := by decide +kernel
theorem V.dX16_plainFlat_382 : decode cX16_plainFlat 382 = .ok (.invokevirtual 330, 3) := by decide +kernel
theorem V.dX16_plainFlat_385 : decode cX16_plainFlat 385 = .ok (.i2l, 1) := by decide +kernel
theorem V.dX16_plainFlat_386 : decode cX16_plainFlat 386 = .ok (.invokevirtual 340, 3) := by decide +kernel
theorem V.dX16_plainFlat_389 : decode cX16_plainFlat 389 = .ok (.goto 10, 3) := by decide +kernel
theorem V.dX16_plainFlat_392 : decode cX16_plainFlat 392 = .ok (.aload_n 0, 1) := by decide +kernel
theorem V.dX16_plainFlat_393 : decode cX16_plainFlat 393 = .ok (.iload_n 1, 1) := by decide +kernel
theorem V.dX16_plainFlat_394 : decode cX16_plainFlat 394 = .ok (.iload_n 2, 1) := by decide +kernel
theorem V.dX16_plainFlat_395 : decode cX16_plainFlat 395 = .ok (.iload_n 3, 1) := by decide +kernel
theorem V.dX16_plainFlat_396 : decode cX16_plainFlat 396 = .ok (.invokevirtual 357, 3) := by decide +kernel
theorem V.dX16_plainFlat_399 : decode cX16_plainFlat 399 = .ok (.return_, 1) := by decide +kernel
theorem V.mdX16_344 : MD RX16 344 yX16_local cX16_local 2 (some .int) 1 := ⟨Or.inl q2860, q376, q2863, by decide, by decide, by decide +kernel⟩
theorem V.mdX16_357 : MD RX16 357 yX16_otherFlat cX16_otherFlat 10 none 3 := ⟨Or.inl q2864, q376, q2867, by decide, by decide, by decide +kernel⟩
/-! ModuleEngine$Runner.plainFlat(III)V -/
def V.Run_plainFlat_p169  (σ : HS) (s0 : Int64) (s1 : Nat) : Option (Unit × HS) :=
  ck (tg σ s1 = 17) <| cl (Run_push σ s1 s0) fun _ σ1 =>
  some ((), σ1)
theorem V.gX16_plainFlat_p169 {X : CX}  (σ : HS) (s0 : Int64) (s1 : Nat) : G X RX16 "plainFlat" cX16_plainFlat 10 none 8 220 enV 169 [] [jv s0, av s1] σ (Run_plainFlat_p169 σ s0 s1) := by
  unfold Run_plainFlat_p169
  refine g_callV (fc := fun sς => Run_push sς s1 s0) (ci := 16) (as := [jv s0]) rfl rfl rfl q2858 qs204 mdX16_340 (ctX16_push s1 s0) rfl (Nat.le_of_ble_eq_true rfl) (Nat.le_of_ble_eq_true rfl) (Nat.le_of_ble_eq_true rfl) pu_V dX16_plainFlat_169 (fun _ σ1 => ?_)
  refine g_goto 399 dX16_plainFlat_172 (by decide) ?_
  exact g_return rfl dX16_plainFlat_399
def V.Run_plainFlat_p373  (σ : HS) (s0 : Int64) (s1 : Nat) : Option (Unit × HS) :=
  ck (tg σ s1 = 17) <| cl (Run_push σ s1 s0) fun _ σ1 =>
  some ((), σ1)
theorem V.gX16_plainFlat_p373 {X : CX}  (σ : HS) (s0 : Int64) (s1 : Nat) : G X RX16 "plainFlat" cX16_plainFlat 10 none 8 220 enV 373 [] [jv s0, av s1] σ (Run_plainFlat_p373 σ s0 s1) := by
  unfold Run_plainFlat_p373
  refine g_callV (fc := fun sς => Run_push sς s1 s0) (ci := 16) (as := [jv s0]) rfl rfl rfl q2858 qs204 mdX16_340 (ctX16_push s1 s0) rfl (Nat.le_of_ble_eq_true rfl) (Nat.le_of_ble_eq_true rfl) (Nat.le_of_ble_eq_true rfl) pu_V dX16_plainFlat_373 (fun _ σ1 => ?_)
  refine g_goto 399 dX16_plainFlat_376 (by decide) ?_
  exact g_return rfl dX16_plainFlat_399
def V.Run_plainFlat (σ : HS) (x0 : Nat) (x1 : Int32) (x2 : Int32) (x3 : Int32) : Option (Unit × HS) :=
  swx x1 [
    (26, (
      ck (tg σ x0 = 17) <| cl (Run_pop σ x0 ) fun r2 σ1 =>
      some ((), σ1))),
    (27, (
      ck (tg σ x0 = 17) <| cl (Run_pop σ x0 ) fun r4 σ3 =>
      bn (r4 &&& (4294967295 : Int64)) fun y5 =>
      ck (tg σ3 x0 = 17) <| cl (Run_pop σ3 x0 ) fun r7 σ6 =>
      ck (tg σ6 x0 = 17) <| cl (Run_pop σ6 x0 ) fun r9 σ8 =>
      if y5 = (0 : Int64) then (
        Run_plainFlat_p169 σ8 r7 x0)
      else (
        Run_plainFlat_p169 σ8 r9 x0))),
    (32, (
      ck (tg σ x0 = 17) <|
      ck (tg σ x0 = 17) <| cl (Run_local σ x0 x2) fun r11 σ10 =>
      ck (tg σ10 (gR σ x0 4) = 101 ∧ inb r11 (ln σ10 (gR σ x0 4))) <|
      ck (tg σ10 x0 = 17) <| cl (Run_push σ10 x0 (gJ σ10 (gR σ x0 4) (ix r11))) fun _ σ12 =>
      some ((), σ12))),
    (33, (
      ck (tg σ x0 = 17) <|
      ck (tg σ x0 = 17) <| cl (Run_local σ x0 x2) fun r14 σ13 =>
      ck (tg σ13 x0 = 17) <| cl (Run_pop σ13 x0 ) fun r16 σ15 =>
      ck (tg σ15 (gR σ x0 4) = 101 ∧ inb r14 (ln σ15 (gR σ x0 4))) <| bn (sJ σ15 (gR σ x0 4) (ix r14) r16) fun σ17 =>
      some ((), σ17))),
    (34, (
      ck (tg σ x0 = 17) <|
      ck (tg σ x0 = 17) <| cl (Run_local σ x0 x2) fun r19 σ18 =>
      ck (tg σ18 x0 = 17) <|
      ck (tg σ18 x0 = 17) <|
      ck (tg σ18 (gR σ18 x0 4) = 101 ∧ inb ((gI σ18 x0 15) - (1 : Int32)) (ln σ18 (gR σ18 x0 4))) <|
      ck (tg σ18 (gR σ x0 4) = 101 ∧ inb r19 (ln σ18 (gR σ x0 4))) <| bn (sJ σ18 (gR σ x0 4) (ix r19) (gJ σ18 (gR σ18 x0 4) (ix ((gI σ18 x0 15) - (1 : Int32))))) fun σ20 =>
      some ((), σ20))),
    (35, (
      ck (tg σ x0 = 17) <|
      ck (tg σ (gR σ x0 3) = 14) <|
      ck (tg σ x0 = 17) <| cl (Run_global σ x0 x2) fun r22 σ21 =>
      ck (tg σ21 (gR σ (gR σ x0 3) 13) = 101 ∧ inb r22 (ln σ21 (gR σ (gR σ x0 3) 13))) <|
      ck (tg σ21 x0 = 17) <| cl (Run_push σ21 x0 (gJ σ21 (gR σ (gR σ x0 3) 13) (ix r22))) fun _ σ23 =>
      some ((), σ23))),
    (36, (
      ck (tg σ x0 = 17) <|
      ck (tg σ (gR σ x0 3) = 14) <|
      ck (tg σ x0 = 17) <| cl (Run_global σ x0 x2) fun r25 σ24 =>
      ck (tg σ24 x0 = 17) <| cl (Run_pop σ24 x0 ) fun r27 σ26 =>
      ck (tg σ26 (gR σ (gR σ x0 3) 13) = 101 ∧ inb r25 (ln σ26 (gR σ (gR σ x0 3) 13))) <| bn (sJ σ26 (gR σ (gR σ x0 3) 13) (ix r25) r27) fun σ28 =>
      some ((), σ28))),
    (63, (
      ck (tg σ x0 = 17) <|
      ck (tg σ (gR σ x0 3) = 14) <|
      ck (tg σ x0 = 17) <| cl (Run_memory σ x0 ) fun r30 σ29 =>
      ck (tg σ29 (gR σ (gR σ x0 3) 8) = 16) <| cl (Pag_size σ29 (gR σ (gR σ x0 3) 8) r30) fun r32 σ31 =>
      ck (tg σ31 x0 = 17) <| cl (Run_push σ31 x0 r32.toInt64) fun _ σ33 =>
      some ((), σ33))),
    (64, (
      ck (tg σ x0 = 17) <| cl (Run_pop σ x0 ) fun r35 σ34 =>
      ck (tg σ34 x0 = 17) <| cl (Run_grow σ34 x0 (r35 &&& (4294967295 : Int64))) fun r37 σ36 =>
      ck (tg σ36 x0 = 17) <| cl (Run_push σ36 x0 r37) fun _ σ38 =>
      some ((), σ38))),
    (65, (
      ck (tg σ x0 = 17) <| cl (Run_push σ x0 (x2.toInt64 &&& (4294967295 : Int64))) fun _ σ39 =>
      some ((), σ39))),
    (66, (
      ck (tg σ x0 = 17) <| cl (Run_push σ x0 ((lshl x3.toInt64 (32 : Int32)) ||| (x2.toInt64 &&& (4294967295 : Int64)))) fun _ σ40 =>
      some ((), σ40))),
    (208, (
      ck (tg σ x0 = 17) <| cl (Run_push σ x0 (-1 : Int64)) fun _ σ41 =>
      some ((), σ41))),
    (209, (
      ck (tg σ x0 = 17) <| cl (Run_pop σ x0 ) fun r43 σ42 =>
      if r43 = (-1 : Int64) then (
        Run_plainFlat_p373 σ42 (1 : Int64) x0)
      else (
        Run_plainFlat_p373 σ42 (0 : Int64) x0))),
    (210, (
      ck (tg σ x0 = 17) <| cl (Run_called σ x0 x2) fun r45 σ44 =>
      ck (tg σ44 x0 = 17) <| cl (Run_push σ44 x0 r45.toInt64) fun _ σ46 =>
      some ((), σ46)))
    ] (
    ck (tg σ x0 = 17) <| cl (Run_otherFlat σ x0 x1 x2 x3) fun _ σ47 =>
    some ((), σ47))
theorem V.ctX16_plainFlat (x0 : Nat) (x1 : Int32) (x2 : Int32) (x3 : Int32) : Ct yX16_plainFlat  cX16_plainFlat 10 none 8 220 eV [av x0, iv x1, iv x2, iv x3] (fun σ => Run_plainFlat σ x0 x1 x2 x3) := by
  refine Ct.of (own := RX16) (nm := "plainFlat") (desc := "(III)V") rfl (by decide) (Nat.le_of_ble_eq_true rfl) (by decide) (fun X σ => ?_)
  show G X RX16 "plainFlat" cX16_plainFlat 10 none 8 220 enV 0 [(0, av x0), (1, iv x1), (2, iv x2), (3, iv x3)] [] σ (Run_plainFlat σ x0 x1 x2 x3)
  unfold Run_plainFlat
  refine g_iload_n 1 1 dX16_plainFlat_0 rfl rfl ?_
  refine g_lsw dX16_plainFlat_1 (by decide +kernel) ?_
  refine g_case ex0 (t := 124) (by decide +kernel) ?_ (fun hx => ?_)
  · refine g_aload_n 0 0 dX16_plainFlat_124 rfl rfl ?_
    refine g_callV (fc := fun sς => Run_pop sς x0 ) (ci := 16) (as := []) rfl rfl rfl q2846 qs201 mdX16_320 (ctX16_pop x0 ) rfl (Nat.le_of_ble_eq_true rfl) (Nat.le_of_ble_eq_true rfl) (Nat.le_of_ble_eq_true rfl) pu_J dX16_plainFlat_125 (fun r2 σ1 => ?_)
    refine g_pop2_2 dX16_plainFlat_128 rfl ?_
    refine g_goto 399 dX16_plainFlat_129 (by decide) ?_
    exact g_return rfl dX16_plainFlat_399
  refine g_case hx (t := 132) (by decide +kernel) ?_ (fun hx => ?_)
  · refine g_aload_n 0 0 dX16_plainFlat_132 rfl rfl ?_
    refine g_callV (fc := fun sς => Run_pop sς x0 ) (ci := 16) (as := []) rfl rfl rfl q2846 qs201 mdX16_320 (ctX16_pop x0 ) rfl (Nat.le_of_ble_eq_true rfl) (Nat.le_of_ble_eq_true rfl) (Nat.le_of_ble_eq_true rfl) pu_J dX16_plainFlat_133 (fun r4 σ3 => ?_)
    refine g_ldc2 q2717 dX16_plainFlat_136 ?_
    refine g_land dX16_plainFlat_139 ?_
    refine g_nmJ (fun y5 => ?_)
    refine g_lstore dX16_plainFlat_140 (by decide) rfl ?_
    refine g_aload_n 0 1 dX16_plainFlat_142 rfl rfl ?_
    refine g_callV (fc := fun sς => Run_pop sς x0 ) (ci := 16) (as := []) rfl rfl rfl q2846 qs201 mdX16_320 (ctX16_pop x0 ) rfl (Nat.le_of_ble_eq_true rfl) (Nat.le_of_ble_eq_true rfl) (Nat.le_of_ble_eq_true rfl) pu_J dX16_plainFlat_143 (fun r7 σ6 => ?_)
    refine g_lstore dX16_plainFlat_146 (by decide) rfl ?_
    refine g_aload_n 0 2 dX16_plainFlat_148 rfl rfl ?_
    refine g_callV (fc := fun sς => Run_pop sς x0 ) (ci := 16) (as := []) rfl rfl rfl q2846 qs201 mdX16_320 (ctX16_pop x0 ) rfl (Nat.le_of_ble_eq_true rfl) (Nat.le_of_ble_eq_true rfl) (Nat.le_of_ble_eq_true rfl) pu_J dX16_plainFlat_149 (fun r9 σ8 => ?_)
    refine g_lstore dX16_plainFlat_152 (by decide) rfl ?_
    refine g_aload_n 0 3 dX16_plainFlat_154 rfl rfl ?_
    refine g_lload 2 dX16_plainFlat_155 rfl ?_
    refine g_lconst (v := 0) dX16_plainFlat_157 (by decide) ?_
    refine g_lcmp_eq 167 dX16_plainFlat_158 dX16_plainFlat_159 (by decide) ?_ ?_
    · refine g_lload 1 dX16_plainFlat_167 rfl ?_
      refine G.sub [] rfl ?_
      exact gX16_plainFlat_p169 _ _ _
    · refine g_lload 0 dX16_plainFlat_162 rfl ?_
      refine g_goto 169 dX16_plainFlat_164 (by decide) ?_
      refine G.sub [] rfl ?_
      exact gX16_plainFlat_p169 _ _ _
  refine g_case hx (t := 175) (by decide +kernel) ?_ (fun hx => ?_)
  · refine g_aload_n 0 0 dX16_plainFlat_175 rfl rfl ?_
    refine g_aload_n 0 0 dX16_plainFlat_176 rfl rfl ?_
    refine g_getR fdX16_9 dX16_plainFlat_177 ?_
    refine g_aload_n 0 0 dX16_plainFlat_180 rfl rfl ?_
    refine g_iload_n 2 2 dX16_plainFlat_181 rfl rfl ?_
    refine g_callV (fc := fun sς => Run_local sς x0 x2) (ci := 16) (as := [iv x2]) rfl rfl rfl q2862 qs205 mdX16_344 (ctX16_local x0 x2) rfl (Nat.le_of_ble_eq_true rfl) (Nat.le_of_ble_eq_true rfl) (Nat.le_of_ble_eq_true rfl) pu_I dX16_plainFlat_182 (fun r11 σ10 => ?_)
    refine g_laload dX16_plainFlat_185 ?_
    refine g_callV (fc := fun sς => Run_push sς x0 (gJ σ10 (gR σ x0 4) (ix r11))) (ci := 16) (as := [jv (gJ σ10 (gR σ x0 4) (ix r11))]) rfl rfl rfl q2858 qs204 mdX16_340 (ctX16_push x0 (gJ σ10 (gR σ x0 4) (ix r11))) rfl (Nat.le_of_ble_eq_true rfl) (Nat.le_of_ble_eq_true rfl) (Nat.le_of_ble_eq_true rfl) pu_V dX16_plainFlat_186 (fun _ σ12 => ?_)
    refine g_goto 399 dX16_plainFlat_189 (by decide) ?_
    exact g_return rfl dX16_plainFlat_399
  refine g_case hx (t := 192) (by decide +kernel) ?_ (fun hx => ?_)
  · refine g_aload_n 0 0 dX16_plainFlat_192 rfl rfl ?_
    refine g_getR fdX16_9 dX16_plainFlat_193 ?_
    refine g_aload_n 0 0 dX16_plainFlat_196 rfl rfl ?_
    refine g_iload_n 2 2 dX16_plainFlat_197 rfl rfl ?_
    refine g_callV (fc := fun sς => Run_local sς x0 x2) (ci := 16) (as := [iv x2]) rfl rfl rfl q2862 qs205 mdX16_344 (ctX16_local x0 x2) rfl (Nat.le_of_ble_eq_true rfl) (Nat.le_of_ble_eq_true rfl) (Nat.le_of_ble_eq_true rfl) pu_I dX16_plainFlat_198 (fun r14 σ13 => ?_)
    refine g_aload_n 0 0 dX16_plainFlat_201 rfl rfl ?_
    refine g_callV (fc := fun sς => Run_pop sς x0 ) (ci := 16) (as := []) rfl rfl rfl q2846 qs201 mdX16_320 (ctX16_pop x0 ) rfl (Nat.le_of_ble_eq_true rfl) (Nat.le_of_ble_eq_true rfl) (Nat.le_of_ble_eq_true rfl) pu_J dX16_plainFlat_202 (fun r16 σ15 => ?_)
    refine g_lastore dX16_plainFlat_205 (fun σ17 => ?_)
    refine g_goto 399 dX16_plainFlat_206 (by decide) ?_
    exact g_return rfl dX16_plainFlat_399
  refine g_case hx (t := 209) (by decide +kernel) ?_ (fun hx => ?_)
  · refine g_aload_n 0 0 dX16_plainFlat_209 rfl rfl ?_
    refine g_getR fdX16_9 dX16_plainFlat_210 ?_
    refine g_aload_n 0 0 dX16_plainFlat_213 rfl rfl ?_
    refine g_iload_n 2 2 dX16_plainFlat_214 rfl rfl ?_
    refine g_callV (fc := fun sς => Run_local sς x0 x2) (ci := 16) (as := [iv x2]) rfl rfl rfl q2862 qs205 mdX16_344 (ctX16_local x0 x2) rfl (Nat.le_of_ble_eq_true rfl) (Nat.le_of_ble_eq_true rfl) (Nat.le_of_ble_eq_true rfl) pu_I dX16_plainFlat_215 (fun r19 σ18 => ?_)
    refine g_aload_n 0 0 dX16_plainFlat_218 rfl rfl ?_
    refine g_getR fdX16_9 dX16_plainFlat_219 ?_
    refine g_aload_n 0 0 dX16_plainFlat_222 rfl rfl ?_
    refine g_getI fdX16_135 dX16_plainFlat_223 ?_
    refine g_iconst (v := 1) dX16_plainFlat_226 (by decide) ?_
    refine g_isub dX16_plainFlat_227 ?_
    refine g_laload dX16_plainFlat_228 ?_
    refine g_lastore dX16_plainFlat_229 (fun σ20 => ?_)
    refine g_goto 399 dX16_plainFlat_230 (by decide) ?_
    exact g_return rfl dX16_plainFlat_399
  refine g_case hx (t := 233) (by decide +kernel) ?_ (fun hx => ?_)
  · refine g_aload_n 0 0 dX16_plainFlat_233 rfl rfl ?_
    refine g_aload_n 0 0 dX16_plainFlat_234 rfl rfl ?_
    refine g_getR fdX16_54 dX16_plainFlat_235 ?_
    refine g_getR fdX16_347 dX16_plainFlat_238 ?_
    refine g_aload_n 0 0 dX16_plainFlat_241 rfl rfl ?_
    refine g_iload_n 2 2 dX16_plainFlat_242 rfl rfl ?_
    refine g_callV (fc := fun sς => Run_global sς x0 x2) (ci := 16) (as := [iv x2]) rfl rfl rfl q2750 qs188 mdX16_350 (ctX16_global x0 x2) rfl (Nat.le_of_ble_eq_true rfl) (Nat.le_of_ble_eq_true rfl) (Nat.le_of_ble_eq_true rfl) pu_I dX16_plainFlat_243 (fun r22 σ21 => ?_)
    refine g_laload dX16_plainFlat_246 ?_
    refine g_callV (fc := fun sς => Run_push sς x0 (gJ σ21 (gR σ (gR σ x0 3) 13) (ix r22))) (ci := 16) (as := [jv (gJ σ21 (gR σ (gR σ x0 3) 13) (ix r22))]) rfl rfl rfl q2858 qs204 mdX16_340 (ctX16_push x0 (gJ σ21 (gR σ (gR σ x0 3) 13) (ix r22))) rfl (Nat.le_of_ble_eq_true rfl) (Nat.le_of_ble_eq_true rfl) (Nat.le_of_ble_eq_true rfl) pu_V dX16_plainFlat_247 (fun _ σ23 => ?_)
    refine g_goto 399 dX16_plainFlat_250 (by decide) ?_
    exact g_return rfl dX16_plainFlat_399
  refine g_case hx (t := 253) (by decide +kernel) ?_ (fun hx => ?_)
  · refine g_aload_n 0 0 dX16_plainFlat_253 rfl rfl ?_
    refine g_getR fdX16_54 dX16_plainFlat_254 ?_
    refine g_getR fdX16_347 dX16_plainFlat_257 ?_
    refine g_aload_n 0 0 dX16_plainFlat_260 rfl rfl ?_
    refine g_iload_n 2 2 dX16_plainFlat_261 rfl rfl ?_
    refine g_callV (fc := fun sς => Run_global sς x0 x2) (ci := 16) (as := [iv x2]) rfl rfl rfl q2750 qs188 mdX16_350 (ctX16_global x0 x2) rfl (Nat.le_of_ble_eq_true rfl) (Nat.le_of_ble_eq_true rfl) (Nat.le_of_ble_eq_true rfl) pu_I dX16_plainFlat_262 (fun r25 σ24 => ?_)
    refine g_aload_n 0 0 dX16_plainFlat_265 rfl rfl ?_
    refine g_callV (fc := fun sς => Run_pop sς x0 ) (ci := 16) (as := []) rfl rfl rfl q2846 qs201 mdX16_320 (ctX16_pop x0 ) rfl (Nat.le_of_ble_eq_true rfl) (Nat.le_of_ble_eq_true rfl) (Nat.le_of_ble_eq_true rfl) pu_J dX16_plainFlat_266 (fun r27 σ26 => ?_)
    refine g_lastore dX16_plainFlat_269 (fun σ28 => ?_)
    refine g_goto 399 dX16_plainFlat_270 (by decide) ?_
    exact g_return rfl dX16_plainFlat_399
  refine g_case hx (t := 273) (by decide +kernel) ?_ (fun hx => ?_)
  · refine g_aload_n 0 0 dX16_plainFlat_273 rfl rfl ?_
    refine g_aload_n 0 0 dX16_plainFlat_274 rfl rfl ?_
    refine g_getR fdX16_54 dX16_plainFlat_275 ?_
    refine g_getR fdX16_246 dX16_plainFlat_278 ?_
    refine g_aload_n 0 0 dX16_plainFlat_281 rfl rfl ?_
    refine g_callV (fc := fun sς => Run_memory sς x0 ) (ci := 16) (as := []) rfl rfl rfl q2754 qs189 mdX16_250 (ctX16_memory x0 ) rfl (Nat.le_of_ble_eq_true rfl) (Nat.le_of_ble_eq_true rfl) (Nat.le_of_ble_eq_true rfl) pu_I dX16_plainFlat_282 (fun r30 σ29 => ?_)
    refine g_callV (fc := fun sς => Pag_size sς (gR σ (gR σ x0 3) 8) r30) (ci := 15) (as := [iv r30]) rfl rfl rfl q2231 q2232 mdX16_353 (ctX15_size (gR σ (gR σ x0 3) 8) r30) rfl (Nat.le_of_ble_eq_true rfl) (Nat.le_of_ble_eq_true rfl) (Nat.le_of_ble_eq_true rfl) pu_I dX16_plainFlat_285 (fun r32 σ31 => ?_)
    refine g_i2l dX16_plainFlat_288 ?_
    refine g_callV (fc := fun sς => Run_push sς x0 r32.toInt64) (ci := 16) (as := [jv r32.toInt64]) rfl rfl rfl q2858 qs204 mdX16_340 (ctX16_push x0 r32.toInt64) rfl (Nat.le_of_ble_eq_true rfl) (Nat.le_of_ble_eq_true rfl) (Nat.le_of_ble_eq_true rfl) pu_V dX16_plainFlat_289 (fun _ σ33 => ?_)
    refine g_goto 399 dX16_plainFlat_292 (by decide) ?_
    exact g_return rfl dX16_plainFlat_399
  refine g_case hx (t := 295) (by decide +kernel) ?_ (fun hx => ?_)
  · refine g_aload_n 0 0 dX16_plainFlat_295 rfl rfl ?_
    refine g_aload_n 0 0 dX16_plainFlat_296 rfl rfl ?_
    refine g_aload_n 0 0 dX16_plainFlat_297 rfl rfl ?_
    refine g_callV (fc := fun sς => Run_pop sς x0 ) (ci := 16) (as := []) rfl rfl rfl q2846 qs201 mdX16_320 (ctX16_pop x0 ) rfl (Nat.le_of_ble_eq_true rfl) (Nat.le_of_ble_eq_true rfl) (Nat.le_of_ble_eq_true rfl) pu_J dX16_plainFlat_298 (fun r35 σ34 => ?_)
    refine g_ldc2 q2717 dX16_plainFlat_301 ?_
    refine g_land dX16_plainFlat_304 ?_
    refine g_callV (fc := fun sς => Run_grow sς x0 (r35 &&& (4294967295 : Int64))) (ci := 16) (as := [jv (r35 &&& (4294967295 : Int64))]) rfl rfl rfl q2759 qs190 mdX16_354 (ctX16_grow x0 (r35 &&& (4294967295 : Int64))) rfl (Nat.le_of_ble_eq_true rfl) (Nat.le_of_ble_eq_true rfl) (Nat.le_of_ble_eq_true rfl) pu_J dX16_plainFlat_305 (fun r37 σ36 => ?_)
    refine g_callV (fc := fun sς => Run_push sς x0 r37) (ci := 16) (as := [jv r37]) rfl rfl rfl q2858 qs204 mdX16_340 (ctX16_push x0 r37) rfl (Nat.le_of_ble_eq_true rfl) (Nat.le_of_ble_eq_true rfl) (Nat.le_of_ble_eq_true rfl) pu_V dX16_plainFlat_308 (fun _ σ38 => ?_)
    refine g_goto 399 dX16_plainFlat_311 (by decide) ?_
    exact g_return rfl dX16_plainFlat_399
  refine g_case hx (t := 314) (by decide +kernel) ?_ (fun hx => ?_)
  · refine g_aload_n 0 0 dX16_plainFlat_314 rfl rfl ?_
    refine g_iload_n 2 2 dX16_plainFlat_315 rfl rfl ?_
    refine g_i2l dX16_plainFlat_316 ?_
    refine g_ldc2 q2717 dX16_plainFlat_317 ?_
    refine g_land dX16_plainFlat_320 ?_
    refine g_callV (fc := fun sς => Run_push sς x0 (x2.toInt64 &&& (4294967295 : Int64))) (ci := 16) (as := [jv (x2.toInt64 &&& (4294967295 : Int64))]) rfl rfl rfl q2858 qs204 mdX16_340 (ctX16_push x0 (x2.toInt64 &&& (4294967295 : Int64))) rfl (Nat.le_of_ble_eq_true rfl) (Nat.le_of_ble_eq_true rfl) (Nat.le_of_ble_eq_true rfl) pu_V dX16_plainFlat_321 (fun _ σ39 => ?_)
    refine g_goto 399 dX16_plainFlat_324 (by decide) ?_
    exact g_return rfl dX16_plainFlat_399
  refine g_case hx (t := 327) (by decide +kernel) ?_ (fun hx => ?_)
  · refine g_aload_n 0 0 dX16_plainFlat_327 rfl rfl ?_
    refine g_iload_n 3 3 dX16_plainFlat_328 rfl rfl ?_
    refine g_i2l dX16_plainFlat_329 ?_
    refine g_bipush (v := 32) dX16_plainFlat_330 (by decide) ?_
    refine g_lshl dX16_plainFlat_332 ?_
    refine g_iload_n 2 2 dX16_plainFlat_333 rfl rfl ?_
    refine g_i2l dX16_plainFlat_334 ?_
    refine g_ldc2 q2717 dX16_plainFlat_335 ?_
    refine g_land dX16_plainFlat_338 ?_
    refine g_lor dX16_plainFlat_339 ?_
    refine g_callV (fc := fun sς => Run_push sς x0 ((lshl x3.toInt64 (32 : Int32)) ||| (x2.toInt64 &&& (4294967295 : Int64)))) (ci := 16) (as := [jv ((lshl x3.toInt64 (32 : Int32)) ||| (x2.toInt64 &&& (4294967295 : Int64)))]) rfl rfl rfl q2858 qs204 mdX16_340 (ctX16_push x0 ((lshl x3.toInt64 (32 : Int32)) ||| (x2.toInt64 &&& (4294967295 : Int64)))) rfl (Nat.le_of_ble_eq_true rfl) (Nat.le_of_ble_eq_true rfl) (Nat.le_of_ble_eq_true rfl) pu_V dX16_plainFlat_340 (fun _ σ40 => ?_)
    refine g_goto 399 dX16_plainFlat_343 (by decide) ?_
    exact g_return rfl dX16_plainFlat_399
  refine g_case hx (t := 346) (by decide +kernel) ?_ (fun hx => ?_)
  · refine g_aload_n 0 0 dX16_plainFlat_346 rfl rfl ?_
    refine g_ldc2 q2681 dX16_plainFlat_347 ?_
    refine g_callV (fc := fun sς => Run_push sς x0 (-1 : Int64)) (ci := 16) (as := [jv (-1 : Int64)]) rfl rfl rfl q2858 qs204 mdX16_340 (ctX16_push x0 (-1 : Int64)) rfl (Nat.le_of_ble_eq_true rfl) (Nat.le_of_ble_eq_true rfl) (Nat.le_of_ble_eq_true rfl) pu_V dX16_plainFlat_350 (fun _ σ41 => ?_)
    refine g_goto 399 dX16_plainFlat_353 (by decide) ?_
    exact g_return rfl dX16_plainFlat_399
  refine g_case hx (t := 356) (by decide +kernel) ?_ (fun hx => ?_)
  · refine g_aload_n 0 0 dX16_plainFlat_356 rfl rfl ?_
    refine g_aload_n 0 0 dX16_plainFlat_357 rfl rfl ?_
    refine g_callV (fc := fun sς => Run_pop sς x0 ) (ci := 16) (as := []) rfl rfl rfl q2846 qs201 mdX16_320 (ctX16_pop x0 ) rfl (Nat.le_of_ble_eq_true rfl) (Nat.le_of_ble_eq_true rfl) (Nat.le_of_ble_eq_true rfl) pu_J dX16_plainFlat_358 (fun r43 σ42 => ?_)
    refine g_ldc2 q2681 dX16_plainFlat_361 ?_
    refine g_lcmp_ne 372 dX16_plainFlat_364 dX16_plainFlat_365 (by decide) ?_ ?_
    · refine g_lconst (v := 0) dX16_plainFlat_372 (by decide) ?_
      refine G.sub [] rfl ?_
      exact gX16_plainFlat_p373 _ _ _
    · refine g_lconst (v := 1) dX16_plainFlat_368 (by decide) ?_
      refine g_goto 373 dX16_plainFlat_369 (by decide) ?_
      refine G.sub [] rfl ?_
      exact gX16_plainFlat_p373 _ _ _
  refine g_case hx (t := 379) (by decide +kernel) ?_ (fun hx => ?_)
  · refine g_aload_n 0 0 dX16_plainFlat_379 rfl rfl ?_
    refine g_aload_n 0 0 dX16_plainFlat_380 rfl rfl ?_
    refine g_iload_n 2 2 dX16_plainFlat_381 rfl rfl ?_
    refine g_callV (fc := fun sς => Run_called sς x0 x2) (ci := 16) (as := [iv x2]) rfl rfl rfl q2728 qs184 mdX16_330 (ctX16_called x0 x2) rfl (Nat.le_of_ble_eq_true rfl) (Nat.le_of_ble_eq_true rfl) (Nat.le_of_ble_eq_true rfl) pu_I dX16_plainFlat_382 (fun r45 σ44 => ?_)
    refine g_i2l dX16_plainFlat_385 ?_
    refine g_callV (fc := fun sς => Run_push sς x0 r45.toInt64) (ci := 16) (as := [jv r45.toInt64]) rfl rfl rfl q2858 qs204 mdX16_340 (ctX16_push x0 r45.toInt64) rfl (Nat.le_of_ble_eq_true rfl) (Nat.le_of_ble_eq_true rfl) (Nat.le_of_ble_eq_true rfl) pu_V dX16_plainFlat_386 (fun _ σ46 => ?_)
    refine g_goto 399 dX16_plainFlat_389 (by decide) ?_
    exact g_return rfl dX16_plainFlat_399
  refine g_dflt (t := 392) (lswT_d (by decide +kernel) hx) ?_
  refine g_aload_n 0 0 dX16_plainFlat_392 rfl rfl ?_
  refine g_iload_n 1 1 dX16_plainFlat_393 rfl rfl ?_
  refine g_iload_n 2 2 dX16_plainFlat_394 rfl rfl ?_
  refine g_iload_n 3 3 dX16_plainFlat_395 rfl rfl ?_
  refine g_callV (fc := fun sς => Run_otherFlat sς x0 x1 x2 x3) (ci := 16) (as := [iv x1, iv x2, iv x3]) rfl rfl rfl q2866 qs206 mdX16_357 (ctX16_otherFlat x0 x1 x2 x3) rfl (Nat.le_of_ble_eq_true rfl) (Nat.le_of_ble_eq_true rfl) (Nat.le_of_ble_eq_true rfl) pu_V dX16_plainFlat_396 (fun _ σ47 => ?_)
  exact g_return rfl dX16_plainFlat_399
theorem V.dX16_stepFlat_0 : decode cX16_stepFlat 0 = .ok (.aload_n 0, 1) := by decide +kernel
theorem V.dX16_stepFlat_1 : decode cX16_stepFlat 1 = .ok (.getfield 144, 3) := by decide +kernel
theorem V.dX16_stepFlat_4 : decode cX16_stepFlat 4 = .ok (.istore_n 1, 1) := by decide +kernel
theorem V.dX16_stepFlat_5 : decode cX16_stepFlat 5 = .ok (.aload_n 0, 1) := by decide +kernel
theorem V.dX16_stepFlat_6 : decode cX16_stepFlat 6 = .ok (.getfield 42, 3) := by decide +kernel
theorem V.dX16_stepFlat_9 : decode cX16_stepFlat 9 = .ok (.iload_n 1, 1) := by decide +kernel
theorem V.dX16_stepFlat_10 : decode cX16_stepFlat 10 = .ok (.invokevirtual 188, 3) := by decide +kernel
theorem V.dX16_stepFlat_13 : decode cX16_stepFlat 13 = .ok (.istore_n 2, 1) := by decide +kernel
theorem V.dX16_stepFlat_14 : decode cX16_stepFlat 14 = .ok (.aload_n 0, 1) := by decide +kernel
theorem V.dX16_stepFlat_15 : decode cX16_stepFlat 15 = .ok (.getfield 42, 3) := by decide +kernel
theorem V.dX16_stepFlat_18 : decode cX16_stepFlat 18 = .ok (.iload_n 1, 1) := by decide +kernel
theorem V.dX16_stepFlat_19 : decode cX16_stepFlat 19 = .ok (.iconst 1, 1) := by decide +kernel
theorem V.dX16_stepFlat_20 : decode cX16_stepFlat 20 = .ok (.invokevirtual 316, 3) := by decide +kernel
theorem V.dX16_stepFlat_23 : decode cX16_stepFlat 23 = .ok (.istore_n 3, 1) := by decide +kernel
theorem V.dX16_stepFlat_24 : decode cX16_stepFlat 24 = .ok (.aload_n 0, 1) := by decide +kernel
theorem V.dX16_stepFlat_25 : decode cX16_stepFlat 25 = .ok (.getfield 42, 3) := by decide +kernel
theorem V.dX16_stepFlat_28 : decode cX16_stepFlat 28 = .ok (.iload_n 1, 1) := by decide +kernel
theorem V.dX16_stepFlat_29 : decode cX16_stepFlat 29 = .ok (.iconst 2, 1) := by decide +kernel
theorem V.dX16_stepFlat_30 : decode cX16_stepFlat 30 = .ok (.invokevirtual 316, 3) := by decide +kernel
theorem V.dX16_stepFlat_33 : decode cX16_stepFlat 33 = .ok (.istore 4, 2) := by decide +kernel
theorem V.dX16_stepFlat_35 : decode cX16_stepFlat 35 = .ok (.aload_n 0, 1) := by decide +kernel
theorem V.dX16_stepFlat_36 : decode cX16_stepFlat 36 = .ok (.getfield 42, 3) := by decide +kernel
theorem V.dX16_stepFlat_39 : decode cX16_stepFlat 39 = .ok (.iload_n 1, 1) := by decide +kernel
theorem V.dX16_stepFlat_40 : decode cX16_stepFlat 40 = .ok (.iconst 3, 1) := by decide +kernel
theorem V.dX16_stepFlat_41 : decode cX16_stepFlat 41 = .ok (.invokevirtual 316, 3) := by decide +kernel
theorem V.dX16_stepFlat_44 : decode cX16_stepFlat 44 = .ok (.istore 5, 2) := by decide +kernel
theorem V.dX16_stepFlat_46 : decode cX16_stepFlat 46 = .ok (.aload_n 0, 1) := by decide +kernel
theorem V.dX16_stepFlat_47 : decode cX16_stepFlat 47 = .ok (.dup, 1) := by decide +kernel
theorem V.dX16_stepFlat_48 : decode cX16_stepFlat 48 = .ok (.getfield 144, 3) := by decide +kernel
theorem V.dX16_stepFlat_51 : decode cX16_stepFlat 51 = .ok (.iconst 1, 1) := by decide +kernel
theorem V.dX16_stepFlat_52 : decode cX16_stepFlat 52 = .ok (.iadd, 1) := by decide +kernel
theorem V.dX16_stepFlat_53 : decode cX16_stepFlat 53 = .ok (.putfield 144, 3) := by decide +kernel
theorem V.dX16_stepFlat_56 : decode cX16_stepFlat 56 = .ok (.iload_n 2, 1) := by decide +kernel
theorem V.dX16_stepFlat_57 : decode cX16_stepFlat 57 = .ok (.tableswitch 264 0 17 #[87, 95, 264, 264, 98, 119, 264, 264, 264, 264, 264, 192, 127, 135, 156, 192, 206, 232], 87) := by decide +kernel
theorem V.dX16_stepFlat_144 : decode cX16_stepFlat 144 = .ok (.aload_n 0, 1) := by decide +kernel
theorem V.dX16_stepFlat_145 : decode cX16_stepFlat 145 = .ok (.iconst 1, 1) := by decide +kernel
theorem V.dX16_stepFlat_146 : decode cX16_stepFlat 146 = .ok (.invokevirtual 226, 3) := by decide +kernel
theorem V.dX16_stepFlat_149 : decode cX16_stepFlat 149 = .ok (.goto 180, 3) := by decide +kernel
theorem V.dX16_stepFlat_152 : decode cX16_stepFlat 152 = .ok (.goto 177, 3) := by decide +kernel
theorem V.dX16_stepFlat_155 : decode cX16_stepFlat 155 = .ok (.aload_n 0, 1) := by decide +kernel
theorem V.dX16_stepFlat_156 : decode cX16_stepFlat 156 = .ok (.invokevirtual 320, 3) := by decide +kernel
theorem V.dX16_stepFlat_159 : decode cX16_stepFlat 159 = .ok (.ldc2_w 262, 3) := by decide +kernel
theorem V.dX16_stepFlat_162 : decode cX16_stepFlat 162 = .ok (.land, 1) := by decide +kernel
theorem V.dX16_stepFlat_163 : decode cX16_stepFlat 163 = .ok (.lconst 0, 1) := by decide +kernel
theorem V.dX16_stepFlat_164 : decode cX16_stepFlat 164 = .ok (.lcmp, 1) := by decide +kernel
theorem V.dX16_stepFlat_165 : decode cX16_stepFlat 165 = .ok (.ifCond .ne 164, 3) := by decide +kernel
theorem V.dX16_stepFlat_168 : decode cX16_stepFlat 168 = .ok (.aload_n 0, 1) := by decide +kernel
theorem V.dX16_stepFlat_169 : decode cX16_stepFlat 169 = .ok (.iload_n 3, 1) := by decide +kernel
theorem V.dX16_stepFlat_170 : decode cX16_stepFlat 170 = .ok (.putfield 144, 3) := by decide +kernel
theorem V.dX16_stepFlat_173 : decode cX16_stepFlat 173 = .ok (.goto 156, 3) := by decide +kernel
theorem V.dX16_stepFlat_176 : decode cX16_stepFlat 176 = .ok (.aload_n 0, 1) := by decide +kernel
theorem V.dX16_stepFlat_177 : decode cX16_stepFlat 177 = .ok (.iload_n 3, 1) := by decide +kernel
theorem V.dX16_stepFlat_178 : decode cX16_stepFlat 178 = .ok (.putfield 144, 3) := by decide +kernel
theorem V.dX16_stepFlat_181 : decode cX16_stepFlat 181 = .ok (.goto 148, 3) := by decide +kernel
theorem V.dX16_stepFlat_184 : decode cX16_stepFlat 184 = .ok (.aload_n 0, 1) := by decide +kernel
theorem V.dX16_stepFlat_185 : decode cX16_stepFlat 185 = .ok (.iload_n 1, 1) := by decide +kernel
theorem V.dX16_stepFlat_186 : decode cX16_stepFlat 186 = .ok (.invokevirtual 324, 3) := by decide +kernel
theorem V.dX16_stepFlat_189 : decode cX16_stepFlat 189 = .ok (.goto 140, 3) := by decide +kernel
theorem V.dX16_stepFlat_192 : decode cX16_stepFlat 192 = .ok (.aload_n 0, 1) := by decide +kernel
theorem V.dX16_stepFlat_193 : decode cX16_stepFlat 193 = .ok (.invokevirtual 320, 3) := by decide +kernel
theorem V.dX16_stepFlat_196 : decode cX16_stepFlat 196 = .ok (.ldc2_w 262, 3) := by decide +kernel
theorem V.dX16_stepFlat_199 : decode cX16_stepFlat 199 = .ok (.land, 1) := by decide +kernel
theorem V.dX16_stepFlat_200 : decode cX16_stepFlat 200 = .ok (.lconst 0, 1) := by decide +kernel
theorem V.dX16_stepFlat_201 : decode cX16_stepFlat 201 = .ok (.lcmp, 1) := by decide +kernel
theorem V.dX16_stepFlat_202 : decode cX16_stepFlat 202 = .ok (.ifCond .eq 127, 3) := by decide +kernel
theorem V.dX16_stepFlat_205 : decode cX16_stepFlat 205 = .ok (.aload_n 0, 1) := by decide +kernel
theorem V.dX16_stepFlat_206 : decode cX16_stepFlat 206 = .ok (.iload_n 1, 1) := by decide +kernel
theorem V.dX16_stepFlat_207 : decode cX16_stepFlat 207 = .ok (.invokevirtual 324, 3) := by decide +kernel
theorem V.dX16_stepFlat_210 : decode cX16_stepFlat 210 = .ok (.goto 119, 3) := by decide +kernel
theorem V.dX16_stepFlat_213 : decode cX16_stepFlat 213 = .ok (.aload_n 0, 1) := by decide +kernel
theorem V.dX16_stepFlat_214 : decode cX16_stepFlat 214 = .ok (.invokevirtual 320, 3) := by decide +kernel
theorem V.dX16_stepFlat_217 : decode cX16_stepFlat 217 = .ok (.ldc2_w 262, 3) := by decide +kernel
theorem V.dX16_stepFlat_220 : decode cX16_stepFlat 220 = .ok (.land, 1) := by decide +kernel
theorem V.dX16_stepFlat_221 : decode cX16_stepFlat 221 = .ok (.lstore 6, 2) := by decide +kernel
theorem V.dX16_stepFlat_223 : decode cX16_stepFlat 223 = .ok (.aload_n 0, 1) := by decide +kernel
theorem V.dX16_stepFlat_224 : decode cX16_stepFlat 224 = .ok (.iload_n 1, 1) := by decide +kernel
theorem V.dX16_stepFlat_225 : decode cX16_stepFlat 225 = .ok (.iconst 1, 1) := by decide +kernel
theorem V.dX16_stepFlat_226 : decode cX16_stepFlat 226 = .ok (.iadd, 1) := by decide +kernel
theorem V.dX16_stepFlat_227 : decode cX16_stepFlat 227 = .ok (.lload 6, 2) := by decide +kernel
theorem V.dX16_stepFlat_229 : decode cX16_stepFlat 229 = .ok (.iload_n 3, 1) := by decide +kernel
theorem V.dX16_stepFlat_230 : decode cX16_stepFlat 230 = .ok (.i2l, 1) := by decide +kernel
theorem V.dX16_stepFlat_231 : decode cX16_stepFlat 231 = .ok (.lcmp, 1) := by decide +kernel
theorem V.dX16_stepFlat_232 : decode cX16_stepFlat 232 = .ok (.ifCond .ge 9, 3) := by decide +kernel
theorem V.dX16_stepFlat_235 : decode cX16_stepFlat 235 = .ok (.lload 6, 2) := by decide +kernel
theorem V.dX16_stepFlat_237 : decode cX16_stepFlat 237 = .ok (.l2i, 1) := by decide +kernel
theorem V.dX16_stepFlat_238 : decode cX16_stepFlat 238 = .ok (.goto 4, 3) := by decide +kernel
theorem V.dX16_stepFlat_241 : decode cX16_stepFlat 241 = .ok (.iload_n 3, 1) := by decide +kernel
theorem V.dX16_stepFlat_242 : decode cX16_stepFlat 242 = .ok (.iadd, 1) := by decide +kernel
theorem V.dX16_stepFlat_243 : decode cX16_stepFlat 243 = .ok (.invokevirtual 324, 3) := by decide +kernel
theorem V.dX16_stepFlat_246 : decode cX16_stepFlat 246 = .ok (.goto 83, 3) := by decide +kernel
theorem V.dX16_stepFlat_249 : decode cX16_stepFlat 249 = .ok (.aload_n 0, 1) := by decide +kernel
theorem V.dX16_stepFlat_250 : decode cX16_stepFlat 250 = .ok (.aload_n 0, 1) := by decide +kernel
theorem V.dX16_stepFlat_251 : decode cX16_stepFlat 251 = .ok (.getfield 135, 3) := by decide +kernel
theorem V.dX16_stepFlat_254 : decode cX16_stepFlat 254 = .ok (.iload_n 3, 1) := by decide +kernel
theorem V.dX16_stepFlat_255 : decode cX16_stepFlat 255 = .ok (.isub, 1) := by decide +kernel
theorem V.dX16_stepFlat_256 : decode cX16_stepFlat 256 = .ok (.iload_n 3, 1) := by decide +kernel
theorem V.dX16_stepFlat_257 : decode cX16_stepFlat 257 = .ok (.invokevirtual 327, 3) := by decide +kernel
theorem V.dX16_stepFlat_260 : decode cX16_stepFlat 260 = .ok (.goto 69, 3) := by decide +kernel
theorem V.dX16_stepFlat_263 : decode cX16_stepFlat 263 = .ok (.aload_n 0, 1) := by decide +kernel
theorem V.dX16_stepFlat_264 : decode cX16_stepFlat 264 = .ok (.aload_n 0, 1) := by decide +kernel
theorem V.dX16_stepFlat_265 : decode cX16_stepFlat 265 = .ok (.iload_n 3, 1) := by decide +kernel
theorem V.dX16_stepFlat_266 : decode cX16_stepFlat 266 = .ok (.invokevirtual 330, 3) := by decide +kernel
theorem V.dX16_stepFlat_269 : decode cX16_stepFlat 269 = .ok (.aload_n 0, 1) := by decide +kernel
theorem V.dX16_stepFlat_270 : decode cX16_stepFlat 270 = .ok (.getfield 135, 3) := by decide +kernel
theorem V.dX16_stepFlat_273 : decode cX16_stepFlat 273 = .ok (.iload 5, 2) := by decide +kernel
theorem V.dX16_stepFlat_275 : decode cX16_stepFlat 275 = .ok (.bipush 8, 2) := by decide +kernel
theorem V.dX16_stepFlat_277 : decode cX16_stepFlat 277 = .ok (.ishr, 1) := by decide +kernel
theorem V.dX16_stepFlat_278 : decode cX16_stepFlat 278 = .ok (.isub, 1) := by decide +kernel
theorem V.dX16_stepFlat_279 : decode cX16_stepFlat 279 = .ok (.aload_n 0, 1) := by decide +kernel
theorem V.dX16_stepFlat_280 : decode cX16_stepFlat 280 = .ok (.getfield 144, 3) := by decide +kernel
theorem V.dX16_stepFlat_283 : decode cX16_stepFlat 283 = .ok (.invokevirtual 86, 3) := by decide +kernel
theorem V.dX16_stepFlat_286 : decode cX16_stepFlat 286 = .ok (.goto 43, 3) := by decide +kernel
theorem V.dX16_stepFlat_289 : decode cX16_stepFlat 289 = .ok (.aload_n 0, 1) := by decide +kernel
theorem V.dX16_stepFlat_290 : decode cX16_stepFlat 290 = .ok (.invokevirtual 320, 3) := by decide +kernel
theorem V.dX16_stepFlat_293 : decode cX16_stepFlat 293 = .ok (.ldc2_w 262, 3) := by decide +kernel
theorem V.dX16_stepFlat_296 : decode cX16_stepFlat 296 = .ok (.land, 1) := by decide +kernel
theorem V.dX16_stepFlat_297 : decode cX16_stepFlat 297 = .ok (.lstore 8, 2) := by decide +kernel
theorem V.dX16_stepFlat_299 : decode cX16_stepFlat 299 = .ok (.aload_n 0, 1) := by decide +kernel
theorem V.dX16_stepFlat_300 : decode cX16_stepFlat 300 = .ok (.lload 8, 2) := by decide +kernel
theorem V.dX16_stepFlat_302 : decode cX16_stepFlat 302 = .ok (.iload_n 3, 1) := by decide +kernel
theorem V.dX16_stepFlat_303 : decode cX16_stepFlat 303 = .ok (.iload 4, 2) := by decide +kernel
theorem V.dX16_stepFlat_305 : decode cX16_stepFlat 305 = .ok (.aload_n 0, 1) := by decide +kernel
theorem V.dX16_stepFlat_306 : decode cX16_stepFlat 306 = .ok (.getfield 135, 3) := by decide +kernel
theorem V.dX16_stepFlat_309 : decode cX16_stepFlat 309 = .ok (.iload 5, 2) := by decide +kernel
theorem V.dX16_stepFlat_311 : decode cX16_stepFlat 311 = .ok (.bipush 8, 2) := by decide +kernel
theorem V.dX16_stepFlat_313 : decode cX16_stepFlat 313 = .ok (.ishr, 1) := by decide +kernel
theorem V.dX16_stepFlat_314 : decode cX16_stepFlat 314 = .ok (.isub, 1) := by decide +kernel
theorem V.dX16_stepFlat_315 : decode cX16_stepFlat 315 = .ok (.invokevirtual 333, 3) := by decide +kernel
theorem V.dX16_stepFlat_318 : decode cX16_stepFlat 318 = .ok (.goto 11, 3) := by decide +kernel
theorem V.dX16_stepFlat_321 : decode cX16_stepFlat 321 = .ok (.aload_n 0, 1) := by decide +kernel
theorem V.dX16_stepFlat_322 : decode cX16_stepFlat 322 = .ok (.iload_n 2, 1) := by decide +kernel
theorem V.dX16_stepFlat_323 : decode cX16_stepFlat 323 = .ok (.iload_n 3, 1) := by decide +kernel
theorem V.dX16_stepFlat_324 : decode cX16_stepFlat 324 = .ok (.iload 4, 2) := by decide +kernel
theorem V.dX16_stepFlat_326 : decode cX16_stepFlat 326 = .ok (.invokevirtual 337, 3) := by decide +kernel
theorem V.dX16_stepFlat_329 : decode cX16_stepFlat 329 = .ok (.return_, 1) := by decide +kernel
theorem V.mdX16_324 : MD RX16 324 yX16_branch cX16_branch 5 none 1 := ⟨Or.inl q2848, q376, q2851, by decide, by decide, by decide +kernel⟩
theorem V.mdX16_337 : MD RX16 337 yX16_plainFlat cX16_plainFlat 10 none 3 := ⟨Or.inl q2852, q376, q2855, by decide, by decide, by decide +kernel⟩
/-! ModuleEngine$Runner.stepFlat()V -/
def V.Run_stepFlat_p249  (σ : HS) (x0 : Nat) (x3 : Int32) : Option (Unit × HS) :=
  ck (tg σ x0 = 17) <|
  ck (tg σ x0 = 17) <| cl (Run_leave σ x0 ((gI σ x0 15) - x3) x3) fun _ σ1 =>
  some ((), σ1)
theorem V.gX16_stepFlat_p249 {X : CX}  (σ : HS) (x0 : Nat) (x3 : Int32) : G X RX16 "stepFlat" cX16_stepFlat 10 none 15 396 enV 249 [(0, av x0), (3, iv x3)] [] σ (Run_stepFlat_p249 σ x0 x3) := by
  unfold Run_stepFlat_p249
  refine g_aload_n 0 0 dX16_stepFlat_249 rfl rfl ?_
  refine g_aload_n 0 0 dX16_stepFlat_250 rfl rfl ?_
  refine g_getI fdX16_135 dX16_stepFlat_251 ?_
  refine g_iload_n 3 1 dX16_stepFlat_254 rfl rfl ?_
  refine g_isub dX16_stepFlat_255 ?_
  refine g_iload_n 3 1 dX16_stepFlat_256 rfl rfl ?_
  refine g_callV (fc := fun sς => Run_leave sς x0 ((gI σ x0 15) - x3) x3) (ci := 16) (as := [iv ((gI σ x0 15) - x3), iv x3]) rfl rfl rfl q2720 qs182 mdX16_327 (ctX16_leave x0 ((gI σ x0 15) - x3) x3) rfl (Nat.le_of_ble_eq_true rfl) (Nat.le_of_ble_eq_true rfl) (Nat.le_of_ble_eq_true rfl) pu_V dX16_stepFlat_257 (fun _ σ1 => ?_)
  refine g_goto 329 dX16_stepFlat_260 (by decide) ?_
  exact g_return rfl dX16_stepFlat_329
def V.Run_stepFlat_p242  (σ : HS) (s0 : Int32) (s1 : Int32) (s2 : Nat) : Option (Unit × HS) :=
  ck (tg σ s2 = 17) <| cl (Run_branch σ s2 (s1 + s0)) fun _ σ1 =>
  some ((), σ1)
theorem V.gX16_stepFlat_p242 {X : CX}  (σ : HS) (s0 : Int32) (s1 : Int32) (s2 : Nat) : G X RX16 "stepFlat" cX16_stepFlat 10 none 15 396 enV 242 [] [iv s0, iv s1, av s2] σ (Run_stepFlat_p242 σ s0 s1 s2) := by
  unfold Run_stepFlat_p242
  refine g_iadd dX16_stepFlat_242 ?_
  refine g_callV (fc := fun sς => Run_branch sς s2 (s1 + s0)) (ci := 16) (as := [iv (s1 + s0)]) rfl rfl rfl q2850 qs202 mdX16_324 (ctX16_branch s2 (s1 + s0)) rfl (Nat.le_of_ble_eq_true rfl) (Nat.le_of_ble_eq_true rfl) (Nat.le_of_ble_eq_true rfl) pu_V dX16_stepFlat_243 (fun _ σ1 => ?_)
  refine g_goto 329 dX16_stepFlat_246 (by decide) ?_
  exact g_return rfl dX16_stepFlat_329
def V.Run_stepFlat_p321  (σ : HS) (x0 : Nat) (x2 : Int32) (x3 : Int32) (x4 : Int32) : Option (Unit × HS) :=
  ck (tg σ x0 = 17) <| cl (Run_plainFlat σ x0 x2 x3 x4) fun _ σ1 =>
  some ((), σ1)
theorem V.gX16_stepFlat_p321 {X : CX}  (σ : HS) (x0 : Nat) (x2 : Int32) (x3 : Int32) (x4 : Int32) : G X RX16 "stepFlat" cX16_stepFlat 10 none 15 396 enV 321 [(0, av x0), (2, iv x2), (3, iv x3), (4, iv x4)] [] σ (Run_stepFlat_p321 σ x0 x2 x3 x4) := by
  unfold Run_stepFlat_p321
  refine g_aload_n 0 0 dX16_stepFlat_321 rfl rfl ?_
  refine g_iload_n 2 1 dX16_stepFlat_322 rfl rfl ?_
  refine g_iload_n 3 2 dX16_stepFlat_323 rfl rfl ?_
  refine g_iload 3 dX16_stepFlat_324 rfl ?_
  refine g_callV (fc := fun sς => Run_plainFlat sς x0 x2 x3 x4) (ci := 16) (as := [iv x2, iv x3, iv x4]) rfl rfl rfl q2854 qs203 mdX16_337 (ctX16_plainFlat x0 x2 x3 x4) rfl (Nat.le_of_ble_eq_true rfl) (Nat.le_of_ble_eq_true rfl) (Nat.le_of_ble_eq_true rfl) pu_V dX16_stepFlat_326 (fun _ σ1 => ?_)
  exact g_return rfl dX16_stepFlat_329
def V.Run_stepFlat (σ : HS) (x0 : Nat) : Option (Unit × HS) :=
  ck (tg σ x0 = 17) <|
  bn (gI σ x0 16) fun y1 =>
  ck (tg σ x0 = 17) <|
  ck (tg σ (gR σ x0 0) = 7) <| cl (Flt_opAt σ (gR σ x0 0) y1) fun r3 σ2 =>
  ck (tg σ2 x0 = 17) <|
  ck (tg σ2 (gR σ2 x0 0) = 7) <| cl (Flt_fieldAt σ2 (gR σ2 x0 0) y1 (1 : Int32)) fun r5 σ4 =>
  ck (tg σ4 x0 = 17) <|
  ck (tg σ4 (gR σ4 x0 0) = 7) <| cl (Flt_fieldAt σ4 (gR σ4 x0 0) y1 (2 : Int32)) fun r7 σ6 =>
  ck (tg σ6 x0 = 17) <|
  ck (tg σ6 (gR σ6 x0 0) = 7) <| cl (Flt_fieldAt σ6 (gR σ6 x0 0) y1 (3 : Int32)) fun r9 σ8 =>
  ck (tg σ8 x0 = 17) <|
  ck (tg σ8 x0 = 17) <| bn (sI σ8 x0 16 ((gI σ8 x0 16) + (1 : Int32))) fun σ10 =>
  swx r3 [
    (0, (
      ck (tg σ10 x0 = 17) <| cl (Run_stop σ10 x0 (1 : Int32)) fun _ σ11 =>
      some ((), σ11))),
    (1, (
      some ((), σ10))),
    (4, (
      ck (tg σ10 x0 = 17) <| cl (Run_pop σ10 x0 ) fun r13 σ12 =>
      if (r13 &&& (4294967295 : Int64)) = (0 : Int64) then (
        ck (tg σ12 x0 = 17) <| bn (sI σ12 x0 16 r5) fun σ14 =>
        some ((), σ14))
      else (
        some ((), σ12)))),
    (5, (
      ck (tg σ10 x0 = 17) <| bn (sI σ10 x0 16 r5) fun σ15 =>
      some ((), σ15))),
    (11, (
      Run_stepFlat_p249 σ10 x0 r5)),
    (12, (
      ck (tg σ10 x0 = 17) <| cl (Run_branch σ10 x0 y1) fun _ σ16 =>
      some ((), σ16))),
    (13, (
      ck (tg σ10 x0 = 17) <| cl (Run_pop σ10 x0 ) fun r18 σ17 =>
      if (r18 &&& (4294967295 : Int64)) = (0 : Int64) then (
        some ((), σ17))
      else (
        ck (tg σ17 x0 = 17) <| cl (Run_branch σ17 x0 y1) fun _ σ19 =>
        some ((), σ19)))),
    (14, (
      ck (tg σ10 x0 = 17) <| cl (Run_pop σ10 x0 ) fun r21 σ20 =>
      bn (r21 &&& (4294967295 : Int64)) fun y22 =>
      if r5.toInt64 ≤ y22 then (
        Run_stepFlat_p242 σ20 r5 (y1 + (1 : Int32)) x0)
      else (
        Run_stepFlat_p242 σ20 y22.toInt32 (y1 + (1 : Int32)) x0))),
    (15, (
      Run_stepFlat_p249 σ10 x0 r5)),
    (16, (
      ck (tg σ10 x0 = 17) <| cl (Run_called σ10 x0 r5) fun r24 σ23 =>
      ck (tg σ23 x0 = 17) <|
      ck (tg σ23 x0 = 17) <|
      ck (tg σ23 x0 = 17) <| cl (Run_enter σ23 x0 r24 ((gI σ23 x0 15) - (r9 >>> ((8 : Int32) &&& 31))) (gI σ23 x0 16)) fun _ σ25 =>
      some ((), σ25))),
    (17, (
      ck (tg σ10 x0 = 17) <| cl (Run_pop σ10 x0 ) fun r27 σ26 =>
      bn (r27 &&& (4294967295 : Int64)) fun y28 =>
      ck (tg σ26 x0 = 17) <|
      ck (tg σ26 x0 = 17) <| cl (Run_callEntry σ26 x0 y28 r5 r7 ((gI σ26 x0 15) - (r9 >>> ((8 : Int32) &&& 31)))) fun _ σ29 =>
      some ((), σ29)))
    ] (
    Run_stepFlat_p321 σ10 x0 r3 r5 r7)
theorem V.ctX16_stepFlat (x0 : Nat) : Ct yX16_stepFlat  cX16_stepFlat 10 none 15 396 eV [av x0] (fun σ => Run_stepFlat σ x0) := by
  refine Ct.of (own := RX16) (nm := "stepFlat") (desc := "()V") rfl (by decide) (Nat.le_of_ble_eq_true rfl) (by decide) (fun X σ => ?_)
  show G X RX16 "stepFlat" cX16_stepFlat 10 none 15 396 enV 0 [(0, av x0)] [] σ (Run_stepFlat σ x0)
  unfold Run_stepFlat
  refine g_aload_n 0 0 dX16_stepFlat_0 rfl rfl ?_
  refine g_getI fdX16_144 dX16_stepFlat_1 ?_
  refine g_nmI (fun y1 => ?_)
  refine g_istore_n 1 dX16_stepFlat_4 rfl (by decide) rfl ?_
  refine g_aload_n 0 1 dX16_stepFlat_5 rfl rfl ?_
  refine g_getR fdX16_42 dX16_stepFlat_6 ?_
  refine g_iload_n 1 0 dX16_stepFlat_9 rfl rfl ?_
  refine g_callV (fc := fun sς => Flt_opAt sς (gR σ x0 0) y1) (ci := 6) (as := [iv y1]) rfl rfl rfl q2409 q2410 mdX16_188 (ctX6_opAt (gR σ x0 0) y1) rfl (Nat.le_of_ble_eq_true rfl) (Nat.le_of_ble_eq_true rfl) (Nat.le_of_ble_eq_true rfl) pu_I dX16_stepFlat_10 (fun r3 σ2 => ?_)
  refine g_istore_n 2 dX16_stepFlat_13 rfl (by decide) rfl ?_
  refine g_aload_n 0 2 dX16_stepFlat_14 rfl rfl ?_
  refine g_getR fdX16_42 dX16_stepFlat_15 ?_
  refine g_iload_n 1 1 dX16_stepFlat_18 rfl rfl ?_
  refine g_iconst (v := 1) dX16_stepFlat_19 (by decide) ?_
  refine g_callV (fc := fun sς => Flt_fieldAt sς (gR σ2 x0 0) y1 (1 : Int32)) (ci := 6) (as := [iv y1, iv (1 : Int32)]) rfl rfl rfl q2420 q2421 mdX16_316 (ctX6_fieldAt (gR σ2 x0 0) y1 (1 : Int32)) rfl (Nat.le_of_ble_eq_true rfl) (Nat.le_of_ble_eq_true rfl) (Nat.le_of_ble_eq_true rfl) pu_I dX16_stepFlat_20 (fun r5 σ4 => ?_)
  refine g_istore_n 3 dX16_stepFlat_23 rfl (by decide) rfl ?_
  refine g_aload_n 0 3 dX16_stepFlat_24 rfl rfl ?_
  refine g_getR fdX16_42 dX16_stepFlat_25 ?_
  refine g_iload_n 1 2 dX16_stepFlat_28 rfl rfl ?_
  refine g_iconst (v := 2) dX16_stepFlat_29 (by decide) ?_
  refine g_callV (fc := fun sς => Flt_fieldAt sς (gR σ4 x0 0) y1 (2 : Int32)) (ci := 6) (as := [iv y1, iv (2 : Int32)]) rfl rfl rfl q2420 q2421 mdX16_316 (ctX6_fieldAt (gR σ4 x0 0) y1 (2 : Int32)) rfl (Nat.le_of_ble_eq_true rfl) (Nat.le_of_ble_eq_true rfl) (Nat.le_of_ble_eq_true rfl) pu_I dX16_stepFlat_30 (fun r7 σ6 => ?_)
  refine g_istore dX16_stepFlat_33 (by decide) rfl ?_
  refine g_aload_n 0 4 dX16_stepFlat_35 rfl rfl ?_
  refine g_getR fdX16_42 dX16_stepFlat_36 ?_
  refine g_iload_n 1 3 dX16_stepFlat_39 rfl rfl ?_
  refine g_iconst (v := 3) dX16_stepFlat_40 (by decide) ?_
  refine g_callV (fc := fun sς => Flt_fieldAt sς (gR σ6 x0 0) y1 (3 : Int32)) (ci := 6) (as := [iv y1, iv (3 : Int32)]) rfl rfl rfl q2420 q2421 mdX16_316 (ctX6_fieldAt (gR σ6 x0 0) y1 (3 : Int32)) rfl (Nat.le_of_ble_eq_true rfl) (Nat.le_of_ble_eq_true rfl) (Nat.le_of_ble_eq_true rfl) pu_I dX16_stepFlat_41 (fun r9 σ8 => ?_)
  refine g_istore dX16_stepFlat_44 (by decide) rfl ?_
  refine g_aload_n 0 5 dX16_stepFlat_46 rfl rfl ?_
  refine g_dup dX16_stepFlat_47 rfl ?_
  refine g_getI fdX16_144 dX16_stepFlat_48 ?_
  refine g_iconst (v := 1) dX16_stepFlat_51 (by decide) ?_
  refine g_iadd dX16_stepFlat_52 ?_
  refine g_putI fpX16_144 dX16_stepFlat_53 (fun σ10 => ?_)
  refine g_iload_n 2 3 dX16_stepFlat_56 rfl rfl ?_
  refine g_tsw dX16_stepFlat_57 (by decide +kernel) ?_
  refine g_case ex0 (t := 144) (by decide +kernel) ?_ (fun hx => ?_)
  · refine g_aload_n 0 5 dX16_stepFlat_144 rfl rfl ?_
    refine g_iconst (v := 1) dX16_stepFlat_145 (by decide) ?_
    refine g_callV (fc := fun sς => Run_stop sς x0 (1 : Int32)) (ci := 16) (as := [iv (1 : Int32)]) rfl rfl rfl q2364 q2365 mdX16_226 (ctX16_stop x0 (1 : Int32)) rfl (Nat.le_of_ble_eq_true rfl) (Nat.le_of_ble_eq_true rfl) (Nat.le_of_ble_eq_true rfl) pu_V dX16_stepFlat_146 (fun _ σ11 => ?_)
    refine g_goto 329 dX16_stepFlat_149 (by decide) ?_
    exact g_return rfl dX16_stepFlat_329
  refine g_case hx (t := 152) (by decide +kernel) ?_ (fun hx => ?_)
  · refine g_goto 329 dX16_stepFlat_152 (by decide) ?_
    exact g_return rfl dX16_stepFlat_329
  refine g_case hx (t := 155) (by decide +kernel) ?_ (fun hx => ?_)
  · refine g_aload_n 0 5 dX16_stepFlat_155 rfl rfl ?_
    refine g_callV (fc := fun sς => Run_pop sς x0 ) (ci := 16) (as := []) rfl rfl rfl q2846 qs201 mdX16_320 (ctX16_pop x0 ) rfl (Nat.le_of_ble_eq_true rfl) (Nat.le_of_ble_eq_true rfl) (Nat.le_of_ble_eq_true rfl) pu_J dX16_stepFlat_156 (fun r13 σ12 => ?_)
    refine g_ldc2 q2717 dX16_stepFlat_159 ?_
    refine g_land dX16_stepFlat_162 ?_
    refine g_lconst (v := 0) dX16_stepFlat_163 (by decide) ?_
    refine g_lcmp_ne 329 dX16_stepFlat_164 dX16_stepFlat_165 (by decide) ?_ ?_
    · exact g_return rfl dX16_stepFlat_329
    · refine g_aload_n 0 5 dX16_stepFlat_168 rfl rfl ?_
      refine g_iload_n 3 2 dX16_stepFlat_169 rfl rfl ?_
      refine g_putI fpX16_144 dX16_stepFlat_170 (fun σ14 => ?_)
      refine g_goto 329 dX16_stepFlat_173 (by decide) ?_
      exact g_return rfl dX16_stepFlat_329
  refine g_case hx (t := 176) (by decide +kernel) ?_ (fun hx => ?_)
  · refine g_aload_n 0 5 dX16_stepFlat_176 rfl rfl ?_
    refine g_iload_n 3 2 dX16_stepFlat_177 rfl rfl ?_
    refine g_putI fpX16_144 dX16_stepFlat_178 (fun σ15 => ?_)
    refine g_goto 329 dX16_stepFlat_181 (by decide) ?_
    exact g_return rfl dX16_stepFlat_329
  refine g_case hx (t := 249) (by decide +kernel) ?_ (fun hx => ?_)
  · refine G.sub [5, 2] rfl ?_
    exact gX16_stepFlat_p249 _ _ _
  refine g_case hx (t := 184) (by decide +kernel) ?_ (fun hx => ?_)
  · refine g_aload_n 0 5 dX16_stepFlat_184 rfl rfl ?_
    refine g_iload_n 1 4 dX16_stepFlat_185 rfl rfl ?_
    refine g_callV (fc := fun sς => Run_branch sς x0 y1) (ci := 16) (as := [iv y1]) rfl rfl rfl q2850 qs202 mdX16_324 (ctX16_branch x0 y1) rfl (Nat.le_of_ble_eq_true rfl) (Nat.le_of_ble_eq_true rfl) (Nat.le_of_ble_eq_true rfl) pu_V dX16_stepFlat_186 (fun _ σ16 => ?_)
    refine g_goto 329 dX16_stepFlat_189 (by decide) ?_
    exact g_return rfl dX16_stepFlat_329
  refine g_case hx (t := 192) (by decide +kernel) ?_ (fun hx => ?_)
  · refine g_aload_n 0 5 dX16_stepFlat_192 rfl rfl ?_
    refine g_callV (fc := fun sς => Run_pop sς x0 ) (ci := 16) (as := []) rfl rfl rfl q2846 qs201 mdX16_320 (ctX16_pop x0 ) rfl (Nat.le_of_ble_eq_true rfl) (Nat.le_of_ble_eq_true rfl) (Nat.le_of_ble_eq_true rfl) pu_J dX16_stepFlat_193 (fun r18 σ17 => ?_)
    refine g_ldc2 q2717 dX16_stepFlat_196 ?_
    refine g_land dX16_stepFlat_199 ?_
    refine g_lconst (v := 0) dX16_stepFlat_200 (by decide) ?_
    refine g_lcmp_eq 329 dX16_stepFlat_201 dX16_stepFlat_202 (by decide) ?_ ?_
    · exact g_return rfl dX16_stepFlat_329
    · refine g_aload_n 0 5 dX16_stepFlat_205 rfl rfl ?_
      refine g_iload_n 1 4 dX16_stepFlat_206 rfl rfl ?_
      refine g_callV (fc := fun sς => Run_branch sς x0 y1) (ci := 16) (as := [iv y1]) rfl rfl rfl q2850 qs202 mdX16_324 (ctX16_branch x0 y1) rfl (Nat.le_of_ble_eq_true rfl) (Nat.le_of_ble_eq_true rfl) (Nat.le_of_ble_eq_true rfl) pu_V dX16_stepFlat_207 (fun _ σ19 => ?_)
      refine g_goto 329 dX16_stepFlat_210 (by decide) ?_
      exact g_return rfl dX16_stepFlat_329
  refine g_case hx (t := 213) (by decide +kernel) ?_ (fun hx => ?_)
  · refine g_aload_n 0 5 dX16_stepFlat_213 rfl rfl ?_
    refine g_callV (fc := fun sς => Run_pop sς x0 ) (ci := 16) (as := []) rfl rfl rfl q2846 qs201 mdX16_320 (ctX16_pop x0 ) rfl (Nat.le_of_ble_eq_true rfl) (Nat.le_of_ble_eq_true rfl) (Nat.le_of_ble_eq_true rfl) pu_J dX16_stepFlat_214 (fun r21 σ20 => ?_)
    refine g_ldc2 q2717 dX16_stepFlat_217 ?_
    refine g_land dX16_stepFlat_220 ?_
    refine g_nmJ (fun y22 => ?_)
    refine g_lstore dX16_stepFlat_221 (by decide) rfl ?_
    refine g_aload_n 0 6 dX16_stepFlat_223 rfl rfl ?_
    refine g_iload_n 1 5 dX16_stepFlat_224 rfl rfl ?_
    refine g_iconst (v := 1) dX16_stepFlat_225 (by decide) ?_
    refine g_iadd dX16_stepFlat_226 ?_
    refine g_lload 0 dX16_stepFlat_227 rfl ?_
    refine g_iload_n 3 3 dX16_stepFlat_229 rfl rfl ?_
    refine g_i2l dX16_stepFlat_230 ?_
    refine g_lcmp_ge 241 dX16_stepFlat_231 dX16_stepFlat_232 (by decide) ?_ ?_
    · refine g_iload_n 3 3 dX16_stepFlat_241 rfl rfl ?_
      refine G.sub [] rfl ?_
      exact gX16_stepFlat_p242 _ _ _ _
    · refine g_lload 0 dX16_stepFlat_235 rfl ?_
      refine g_l2i dX16_stepFlat_237 ?_
      refine g_goto 242 dX16_stepFlat_238 (by decide) ?_
      refine G.sub [] rfl ?_
      exact gX16_stepFlat_p242 _ _ _ _
  refine g_case hx (t := 249) (by decide +kernel) ?_ (fun hx => ?_)
  · refine G.sub [5, 2] rfl ?_
    exact gX16_stepFlat_p249 _ _ _
  refine g_case hx (t := 263) (by decide +kernel) ?_ (fun hx => ?_)
  · refine g_aload_n 0 5 dX16_stepFlat_263 rfl rfl ?_
    refine g_aload_n 0 5 dX16_stepFlat_264 rfl rfl ?_
    refine g_iload_n 3 2 dX16_stepFlat_265 rfl rfl ?_
    refine g_callV (fc := fun sς => Run_called sς x0 r5) (ci := 16) (as := [iv r5]) rfl rfl rfl q2728 qs184 mdX16_330 (ctX16_called x0 r5) rfl (Nat.le_of_ble_eq_true rfl) (Nat.le_of_ble_eq_true rfl) (Nat.le_of_ble_eq_true rfl) pu_I dX16_stepFlat_266 (fun r24 σ23 => ?_)
    refine g_aload_n 0 5 dX16_stepFlat_269 rfl rfl ?_
    refine g_getI fdX16_135 dX16_stepFlat_270 ?_
    refine g_iload 0 dX16_stepFlat_273 rfl ?_
    refine g_bipush (v := 8) dX16_stepFlat_275 (by decide) ?_
    refine g_ishr dX16_stepFlat_277 ?_
    refine g_isub dX16_stepFlat_278 ?_
    refine g_aload_n 0 5 dX16_stepFlat_279 rfl rfl ?_
    refine g_getI fdX16_144 dX16_stepFlat_280 ?_
    refine g_callV (fc := fun sς => Run_enter sς x0 r24 ((gI σ23 x0 15) - (r9 >>> ((8 : Int32) &&& 31))) (gI σ23 x0 16)) (ci := 16) (as := [iv r24, iv ((gI σ23 x0 15) - (r9 >>> ((8 : Int32) &&& 31))), iv (gI σ23 x0 16)]) rfl rfl rfl q2378 qs141 mdX16_86 (ctX16_enter x0 r24 ((gI σ23 x0 15) - (r9 >>> ((8 : Int32) &&& 31))) (gI σ23 x0 16)) rfl (Nat.le_of_ble_eq_true rfl) (Nat.le_of_ble_eq_true rfl) (Nat.le_of_ble_eq_true rfl) pu_V dX16_stepFlat_283 (fun _ σ25 => ?_)
    refine g_goto 329 dX16_stepFlat_286 (by decide) ?_
    exact g_return rfl dX16_stepFlat_329
  refine g_case hx (t := 289) (by decide +kernel) ?_ (fun hx => ?_)
  · refine g_aload_n 0 5 dX16_stepFlat_289 rfl rfl ?_
    refine g_callV (fc := fun sς => Run_pop sς x0 ) (ci := 16) (as := []) rfl rfl rfl q2846 qs201 mdX16_320 (ctX16_pop x0 ) rfl (Nat.le_of_ble_eq_true rfl) (Nat.le_of_ble_eq_true rfl) (Nat.le_of_ble_eq_true rfl) pu_J dX16_stepFlat_290 (fun r27 σ26 => ?_)
    refine g_ldc2 q2717 dX16_stepFlat_293 ?_
    refine g_land dX16_stepFlat_296 ?_
    refine g_nmJ (fun y28 => ?_)
    refine g_lstore dX16_stepFlat_297 (by decide) rfl ?_
    refine g_aload_n 0 6 dX16_stepFlat_299 rfl rfl ?_
    refine g_lload 0 dX16_stepFlat_300 rfl ?_
    refine g_iload_n 3 3 dX16_stepFlat_302 rfl rfl ?_
    refine g_iload 2 dX16_stepFlat_303 rfl ?_
    refine g_aload_n 0 6 dX16_stepFlat_305 rfl rfl ?_
    refine g_getI fdX16_135 dX16_stepFlat_306 ?_
    refine g_iload 1 dX16_stepFlat_309 rfl ?_
    refine g_bipush (v := 8) dX16_stepFlat_311 (by decide) ?_
    refine g_ishr dX16_stepFlat_313 ?_
    refine g_isub dX16_stepFlat_314 ?_
    refine g_callV (fc := fun sς => Run_callEntry sς x0 y28 r5 r7 ((gI σ26 x0 15) - (r9 >>> ((8 : Int32) &&& 31)))) (ci := 16) (as := [jv y28, iv r5, iv r7, iv ((gI σ26 x0 15) - (r9 >>> ((8 : Int32) &&& 31)))]) rfl rfl rfl q2736 qs186 mdX16_333 (ctX16_callEntry x0 y28 r5 r7 ((gI σ26 x0 15) - (r9 >>> ((8 : Int32) &&& 31)))) rfl (Nat.le_of_ble_eq_true rfl) (Nat.le_of_ble_eq_true rfl) (Nat.le_of_ble_eq_true rfl) pu_V dX16_stepFlat_315 (fun _ σ29 => ?_)
    refine g_goto 329 dX16_stepFlat_318 (by decide) ?_
    exact g_return rfl dX16_stepFlat_329
  refine g_dflt (t := 321) (tswT_d (by decide +kernel) (by decide +kernel) hx) ?_
  refine G.sub [5, 3, 2, 1] rfl ?_
  exact gX16_stepFlat_p321 _ _ _ _ _
theorem V.dX16_next_0 : decode cX16_next 0 = .ok (.aload_n 0, 1) := by decide +kernel
theorem V.dX16_next_1 : decode cX16_next 1 = .ok (.getfield 23, 3) := by decide +kernel
theorem V.dX16_next_4 : decode cX16_next 4 = .ok (.aload_n 0, 1) := by decide +kernel
theorem V.dX16_next_5 : decode cX16_next 5 = .ok (.getfield 67, 3) := by decide +kernel
theorem V.dX16_next_8 : decode cX16_next 8 = .ok (.iconst 1, 1) := by decide +kernel
theorem V.dX16_next_9 : decode cX16_next 9 = .ok (.isub, 1) := by decide +kernel
theorem V.dX16_next_10 : decode cX16_next 10 = .ok (.baload, 1) := by decide +kernel
theorem V.dX16_next_11 : decode cX16_next 11 = .ok (.ifCond .eq 10, 3) := by decide +kernel
theorem V.dX16_next_14 : decode cX16_next 14 = .ok (.aload_n 0, 1) := by decide +kernel
theorem V.dX16_next_15 : decode cX16_next 15 = .ok (.invokevirtual 191, 3) := by decide +kernel
theorem V.dX16_next_18 : decode cX16_next 18 = .ok (.goto 7, 3) := by decide +kernel
theorem V.dX16_next_21 : decode cX16_next 21 = .ok (.aload_n 0, 1) := by decide +kernel
theorem V.dX16_next_22 : decode cX16_next 22 = .ok (.invokevirtual 194, 3) := by decide +kernel
theorem V.dX16_next_25 : decode cX16_next 25 = .ok (.return_, 1) := by decide +kernel
theorem V.mdX16_194 : MD RX16 194 yX16_stepFlat cX16_stepFlat 10 none 0 := ⟨Or.inl q2839, q376, q2842, by decide, by decide, by decide +kernel⟩
theorem V.mdX16_191 : MD RX16 191 yX16_stepRegisters cX16_stepRegisters 9 none 0 := ⟨Or.inl q2704, q376, q2707, by decide, by decide, by decide +kernel⟩
/-! ModuleEngine$Runner.next()V -/
def V.Run_next (σ : HS) (x0 : Nat) : Option (Unit × HS) :=
  ck (tg σ x0 = 17) <|
  ck (tg σ x0 = 17) <|
  ck (tg σ (gR σ x0 8) = 103 ∧ inb ((gI σ x0 13) - (1 : Int32)) (ln σ (gR σ x0 8))) <|
  if (gI σ (gR σ x0 8) (ix ((gI σ x0 13) - (1 : Int32)))) = 0 then (
    ck (tg σ x0 = 17) <| cl (Run_stepFlat σ x0 ) fun _ σ1 =>
    some ((), σ1))
  else (
    ck (tg σ x0 = 17) <| cl (Run_stepRegisters σ x0 ) fun _ σ2 =>
    some ((), σ2))
theorem V.ctX16_next (x0 : Nat) : Ct yX16_next  cX16_next 1 none 16 425 eV [av x0] (fun σ => Run_next σ x0) := by
  refine Ct.of (own := RX16) (nm := "next") (desc := "()V") rfl (by decide) (Nat.le_of_ble_eq_true rfl) (by decide) (fun X σ => ?_)
  show G X RX16 "next" cX16_next 1 none 16 425 enV 0 [(0, av x0)] [] σ (Run_next σ x0)
  unfold Run_next
  refine g_aload_n 0 0 dX16_next_0 rfl rfl ?_
  refine g_getR fdX16_23 dX16_next_1 ?_
  refine g_aload_n 0 0 dX16_next_4 rfl rfl ?_
  refine g_getI fdX16_67 dX16_next_5 ?_
  refine g_iconst (v := 1) dX16_next_8 (by decide) ?_
  refine g_isub dX16_next_9 ?_
  refine g_zaload dX16_next_10 ?_
  refine g_if_eq 21 dX16_next_11 (by decide) ?_ ?_
  · refine g_aload_n 0 0 dX16_next_21 rfl rfl ?_
    refine g_callV (fc := fun sς => Run_stepFlat sς x0 ) (ci := 16) (as := []) rfl rfl rfl q2841 qs200 mdX16_194 (ctX16_stepFlat x0 ) rfl (Nat.le_of_ble_eq_true rfl) (Nat.le_of_ble_eq_true rfl) (Nat.le_of_ble_eq_true rfl) pu_V dX16_next_22 (fun _ σ1 => ?_)
    exact g_return rfl dX16_next_25
  · refine g_aload_n 0 0 dX16_next_14 rfl rfl ?_
    refine g_callV (fc := fun sς => Run_stepRegisters sς x0 ) (ci := 16) (as := []) rfl rfl rfl q2706 qs179 mdX16_191 (ctX16_stepRegisters x0 ) rfl (Nat.le_of_ble_eq_true rfl) (Nat.le_of_ble_eq_true rfl) (Nat.le_of_ble_eq_true rfl) pu_V dX16_next_15 (fun _ σ2 => ?_)
    refine g_goto 25 dX16_next_18 (by decide) ?_
    exact g_return rfl dX16_next_25
theorem V.dX16_idle_0 : decode cX16_idle 0 = .ok (.aload_n 0, 1) := by decide +kernel
theorem V.dX16_idle_1 : decode cX16_idle 1 = .ok (.getfield 58, 3) := by decide +kernel
theorem V.dX16_idle_4 : decode cX16_idle 4 = .ok (.iconst 1, 1) := by decide +kernel
theorem V.dX16_idle_5 : decode cX16_idle 5 = .ok (.if_icmp .ne 17, 3) := by decide +kernel
theorem V.dX16_idle_8 : decode cX16_idle 8 = .ok (.aload_n 0, 1) := by decide +kernel
theorem V.dX16_idle_9 : decode cX16_idle 9 = .ok (.invokevirtual 197, 3) := by decide +kernel
theorem V.dX16_idle_12 : decode cX16_idle 12 = .ok (.ifCond .ne 10, 3) := by decide +kernel
theorem V.dX16_idle_15 : decode cX16_idle 15 = .ok (.aload_n 0, 1) := by decide +kernel
theorem V.dX16_idle_16 : decode cX16_idle 16 = .ok (.invokevirtual 201, 3) := by decide +kernel
theorem V.dX16_idle_19 : decode cX16_idle 19 = .ok (.goto (-19), 3) := by decide +kernel
theorem V.dX16_idle_22 : decode cX16_idle 22 = .ok (.return_, 1) := by decide +kernel
theorem V.mdX16_197 : MD RX16 197 yX16_price cX16_price 2 (some .int) 0 := ⟨Or.inl q2695, q376, q2698, by decide, by decide, by decide +kernel⟩
theorem V.mdX16_201 : MD RX16 201 yX16_next cX16_next 1 none 0 := ⟨Or.inl q2700, q376, q2703, by decide, by decide, by decide +kernel⟩
/-! ModuleEngine$Runner.idle()V -/
def V.Run_idle_p0  : Nat → HS → Nat → Option (Unit × HS)
  | 0, _, _ => none
  | n + 1, σ, x0 =>
    ck (tg σ x0 = 17) <|
    if (gI σ x0 18) = (1 : Int32) then (
      ck (tg σ x0 = 17) <| cl (Run_price σ x0 ) fun r2 σ1 =>
      if r2 = 0 then (
        ck (tg σ1 x0 = 17) <| cl (Run_next σ1 x0 ) fun _ σ3 =>
        Run_idle_p0 n σ3 x0)
      else (
        some ((), σ1)))
    else (
      some ((), σ))
theorem V.gX16_idle_p0 {X : CX}  : ∀ (n : Nat) (σ : HS) (x0 : Nat), G X RX16 "idle" cX16_idle 1 none 17 445 enV 0 [(0, av x0)] [] σ (Run_idle_p0 n σ x0)
  | 0, σ, x0 => by rw [Run_idle_p0]; exact G.nul
  | n + 1, σ, x0 => by
    rw [Run_idle_p0]
    refine g_aload_n 0 0 dX16_idle_0 rfl rfl ?_
    refine g_getI fdX16_58 dX16_idle_1 ?_
    refine g_iconst (v := 1) dX16_idle_4 (by decide) ?_
    refine g_icmp_ne 22 dX16_idle_5 (by decide) ?_ ?_
    · exact g_return rfl dX16_idle_22
    · refine g_aload_n 0 0 dX16_idle_8 rfl rfl ?_
      refine g_callV (fc := fun sς => Run_price sς x0 ) (ci := 16) (as := []) rfl rfl rfl q2697 qs177 mdX16_197 (ctX16_price x0 ) rfl (Nat.le_of_ble_eq_true rfl) (Nat.le_of_ble_eq_true rfl) (Nat.le_of_ble_eq_true rfl) pu_I dX16_idle_9 (fun r2 σ1 => ?_)
      refine g_if_ne 22 dX16_idle_12 (by decide) ?_ ?_
      · exact g_return rfl dX16_idle_22
      · refine g_aload_n 0 0 dX16_idle_15 rfl rfl ?_
        refine g_callV (fc := fun sς => Run_next sς x0 ) (ci := 16) (as := []) rfl rfl rfl q2702 qs178 mdX16_201 (ctX16_next x0 ) rfl (Nat.le_of_ble_eq_true rfl) (Nat.le_of_ble_eq_true rfl) (Nat.le_of_ble_eq_true rfl) pu_V dX16_idle_16 (fun _ σ3 => ?_)
        refine g_goto 0 dX16_idle_19 (by decide) ?_
        exact gX16_idle_p0 n _ _
def V.Run_idle (σ : HS) (x0 : Nat) : Option (Unit × HS) :=
  Run_idle_p0 FU σ x0
theorem V.ctX16_idle (x0 : Nat) : Ct yX16_idle  cX16_idle 1 none 17 445 eV [av x0] (fun σ => Run_idle σ x0) := by
  refine Ct.of (own := RX16) (nm := "idle") (desc := "()V") rfl (by decide) (Nat.le_of_ble_eq_true rfl) (by decide) (fun X σ => ?_)
  show G X RX16 "idle" cX16_idle 1 none 17 445 enV 0 [(0, av x0)] [] σ (Run_idle σ x0)
  unfold Run_idle
  exact gX16_idle_p0 FU _ _
theorem V.dX16_begin_0 : decode cX16_begin 0 = .ok (.aload_n 0, 1) := by decide +kernel
theorem V.dX16_begin_1 : decode cX16_begin 1 = .ok (.invokevirtual 79, 3) := by decide +kernel
theorem V.dX16_begin_4 : decode cX16_begin 4 = .ok (.aload_n 0, 1) := by decide +kernel
theorem V.dX16_begin_5 : decode cX16_begin 5 = .ok (.iconst 1, 1) := by decide +kernel
theorem V.dX16_begin_6 : decode cX16_begin 6 = .ok (.putfield 58, 3) := by decide +kernel
theorem V.dX16_begin_9 : decode cX16_begin 9 = .ok (.iconst 0, 1) := by decide +kernel
theorem V.dX16_begin_10 : decode cX16_begin 10 = .ok (.istore_n 3, 1) := by decide +kernel
theorem V.dX16_begin_11 : decode cX16_begin 11 = .ok (.iload_n 3, 1) := by decide +kernel
theorem V.dX16_begin_12 : decode cX16_begin 12 = .ok (.aload_n 0, 1) := by decide +kernel
theorem V.dX16_begin_13 : decode cX16_begin 13 = .ok (.getfield 54, 3) := by decide +kernel
theorem V.dX16_begin_16 : decode cX16_begin 16 = .ok (.iload_n 1, 1) := by decide +kernel
theorem V.dX16_begin_17 : decode cX16_begin 17 = .ok (.invokevirtual 82, 3) := by decide +kernel
theorem V.dX16_begin_20 : decode cX16_begin 20 = .ok (.if_icmp .ge 18, 3) := by decide +kernel
theorem V.dX16_begin_23 : decode cX16_begin 23 = .ok (.aload_n 0, 1) := by decide +kernel
theorem V.dX16_begin_24 : decode cX16_begin 24 = .ok (.getfield 9, 3) := by decide +kernel
theorem V.dX16_begin_27 : decode cX16_begin 27 = .ok (.iload_n 3, 1) := by decide +kernel
theorem V.dX16_begin_28 : decode cX16_begin 28 = .ok (.aload_n 2, 1) := by decide +kernel
theorem V.dX16_begin_29 : decode cX16_begin 29 = .ok (.iload_n 3, 1) := by decide +kernel
theorem V.dX16_begin_30 : decode cX16_begin 30 = .ok (.laload, 1) := by decide +kernel
theorem V.dX16_begin_31 : decode cX16_begin 31 = .ok (.lastore, 1) := by decide +kernel
theorem V.dX16_begin_32 : decode cX16_begin 32 = .ok (.iinc 3 1, 3) := by decide +kernel
theorem V.dX16_begin_35 : decode cX16_begin 35 = .ok (.goto (-24), 3) := by decide +kernel
theorem V.dX16_begin_38 : decode cX16_begin 38 = .ok (.aload_n 0, 1) := by decide +kernel
theorem V.dX16_begin_39 : decode cX16_begin 39 = .ok (.iload_n 1, 1) := by decide +kernel
theorem V.dX16_begin_40 : decode cX16_begin 40 = .ok (.iconst 0, 1) := by decide +kernel
theorem V.dX16_begin_41 : decode cX16_begin 41 = .ok (.iconst (-1), 1) := by decide +kernel
theorem V.dX16_begin_42 : decode cX16_begin 42 = .ok (.invokevirtual 86, 3) := by decide +kernel
theorem V.dX16_begin_45 : decode cX16_begin 45 = .ok (.aload_n 0, 1) := by decide +kernel
theorem V.dX16_begin_46 : decode cX16_begin 46 = .ok (.invokevirtual 90, 3) := by decide +kernel
theorem V.dX16_begin_49 : decode cX16_begin 49 = .ok (.return_, 1) := by decide +kernel
theorem V.mdX16_79 : MD RX16 79 yX16_clear cX16_clear 1 none 0 := ⟨Or.inl q2371, q376, q2362, by decide, by decide, by decide +kernel⟩
theorem V.mdX16_82 : MD RX16 82 yX13_parametersOf cX13_parametersOf 2 (some .int) 1 := ⟨Or.inl q2372, q373, q2375, by decide, by decide, by decide +kernel⟩
theorem V.mdX16_90 : MD RX16 90 yX16_idle cX16_idle 1 none 0 := ⟨Or.inl q2691, q376, q2694, by decide, by decide, by decide +kernel⟩
/-! ModuleEngine$Runner.begin(I[J)V -/
def V.Run_begin_p11  : Nat → HS → Nat → Int32 → Nat → Int32 → Option (Unit × HS)
  | 0, _, _, _, _, _ => none
  | n + 1, σ, x0, x1, x2, x3 =>
    ck (tg σ x0 = 17) <|
    ck (tg σ (gR σ x0 3) = 14) <| cl (Sto_parametersOf σ (gR σ x0 3) x1) fun r2 σ1 =>
    if r2 ≤ x3 then (
      ck (tg σ1 x0 = 17) <| cl (Run_enter σ1 x0 x1 (0 : Int32) (-1 : Int32)) fun _ σ3 =>
      ck (tg σ3 x0 = 17) <| cl (Run_idle σ3 x0 ) fun _ σ4 =>
      some ((), σ4))
    else (
      ck (tg σ1 x0 = 17) <|
      ck (tg σ1 x2 = 101 ∧ inb x3 (ln σ1 x2)) <|
      ck (tg σ1 (gR σ1 x0 4) = 101 ∧ inb x3 (ln σ1 (gR σ1 x0 4))) <| bn (sJ σ1 (gR σ1 x0 4) (ix x3) (gJ σ1 x2 (ix x3))) fun σ5 =>
      bn (x3 + (1 : Int32)) fun y6 =>
      Run_begin_p11 n σ5 x0 x1 x2 y6)
theorem V.gX16_begin_p11 {X : CX}  : ∀ (n : Nat) (σ : HS) (x0 : Nat) (x1 : Int32) (x2 : Nat) (x3 : Int32), G X RX16 "begin" cX16_begin 4 none 18 465 enV 11 [(0, av x0), (1, iv x1), (2, av x2), (3, iv x3)] [] σ (Run_begin_p11 n σ x0 x1 x2 x3)
  | 0, σ, x0, x1, x2, x3 => by rw [Run_begin_p11]; exact G.nul
  | n + 1, σ, x0, x1, x2, x3 => by
    rw [Run_begin_p11]
    refine g_iload_n 3 3 dX16_begin_11 rfl rfl ?_
    refine g_aload_n 0 0 dX16_begin_12 rfl rfl ?_
    refine g_getR fdX16_54 dX16_begin_13 ?_
    refine g_iload_n 1 1 dX16_begin_16 rfl rfl ?_
    refine g_callV (fc := fun sς => Sto_parametersOf sς (gR σ x0 3) x1) (ci := 13) (as := [iv x1]) rfl rfl rfl q2373 q2374 mdX16_82 (ctX13_parametersOf (gR σ x0 3) x1) rfl (Nat.le_of_ble_eq_true rfl) (Nat.le_of_ble_eq_true rfl) (Nat.le_of_ble_eq_true rfl) pu_I dX16_begin_17 (fun r2 σ1 => ?_)
    refine g_icmp_ge 38 dX16_begin_20 (by decide) ?_ ?_
    · refine g_aload_n 0 0 dX16_begin_38 rfl rfl ?_
      refine g_iload_n 1 1 dX16_begin_39 rfl rfl ?_
      refine g_iconst (v := 0) dX16_begin_40 (by decide) ?_
      refine g_iconst (v := (-1)) dX16_begin_41 (by decide) ?_
      refine g_callV (fc := fun sς => Run_enter sς x0 x1 (0 : Int32) (-1 : Int32)) (ci := 16) (as := [iv x1, iv (0 : Int32), iv (-1 : Int32)]) rfl rfl rfl q2378 qs141 mdX16_86 (ctX16_enter x0 x1 (0 : Int32) (-1 : Int32)) rfl (Nat.le_of_ble_eq_true rfl) (Nat.le_of_ble_eq_true rfl) (Nat.le_of_ble_eq_true rfl) pu_V dX16_begin_42 (fun _ σ3 => ?_)
      refine g_aload_n 0 0 dX16_begin_45 rfl rfl ?_
      refine g_callV (fc := fun sς => Run_idle sς x0 ) (ci := 16) (as := []) rfl rfl rfl q2693 qs176 mdX16_90 (ctX16_idle x0 ) rfl (Nat.le_of_ble_eq_true rfl) (Nat.le_of_ble_eq_true rfl) (Nat.le_of_ble_eq_true rfl) pu_V dX16_begin_46 (fun _ σ4 => ?_)
      exact g_return rfl dX16_begin_49
    · refine g_aload_n 0 0 dX16_begin_23 rfl rfl ?_
      refine g_getR fdX16_9 dX16_begin_24 ?_
      refine g_iload_n 3 3 dX16_begin_27 rfl rfl ?_
      refine g_aload_n 2 2 dX16_begin_28 rfl rfl ?_
      refine g_iload_n 3 3 dX16_begin_29 rfl rfl ?_
      refine g_laload dX16_begin_30 ?_
      refine g_lastore dX16_begin_31 (fun σ5 => ?_)
      refine g_iincB (w := 1) 3 dX16_begin_32 rfl (by decide) (by decide) (fun _ => rfl) (fun y6 => ?_)
      refine g_goto 11 dX16_begin_35 (by decide) ?_
      refine G.sub [1, 2, 3, 0] rfl ?_
      exact gX16_begin_p11 n _ _ _ _ _
def V.Run_begin (σ : HS) (x0 : Nat) (x1 : Int32) (x2 : Nat) : Option (Unit × HS) :=
  ck (tg σ x0 = 17) <| cl (Run_clear σ x0 ) fun _ σ1 =>
  ck (tg σ1 x0 = 17) <| bn (sI σ1 x0 18 (1 : Int32)) fun σ2 =>
  Run_begin_p11 FU σ2 x0 x1 x2 (0 : Int32)
theorem V.ctX16_begin (x0 : Nat) (x1 : Int32) (x2 : Nat) : Ct yX16_begin  cX16_begin 4 none 18 465 eV [av x0, iv x1, av x2] (fun σ => Run_begin σ x0 x1 x2) := by
  refine Ct.of (own := RX16) (nm := "begin") (desc := "(I[J)V") rfl (by decide) (Nat.le_of_ble_eq_true rfl) (by decide) (fun X σ => ?_)
  show G X RX16 "begin" cX16_begin 4 none 18 465 enV 0 [(0, av x0), (1, iv x1), (2, av x2)] [] σ (Run_begin σ x0 x1 x2)
  unfold Run_begin
  refine g_aload_n 0 0 dX16_begin_0 rfl rfl ?_
  refine g_callV (fc := fun sς => Run_clear sς x0 ) (ci := 16) (as := []) rfl rfl rfl q2360 q2361 mdX16_79 (ctX16_clear x0 ) rfl (Nat.le_of_ble_eq_true rfl) (Nat.le_of_ble_eq_true rfl) (Nat.le_of_ble_eq_true rfl) pu_V dX16_begin_1 (fun _ σ1 => ?_)
  refine g_aload_n 0 0 dX16_begin_4 rfl rfl ?_
  refine g_iconst (v := 1) dX16_begin_5 (by decide) ?_
  refine g_putI fpX16_58 dX16_begin_6 (fun σ2 => ?_)
  refine g_iconst (v := 0) dX16_begin_9 (by decide) ?_
  refine g_istore_n 3 dX16_begin_10 rfl (by decide) rfl ?_
  refine G.sub [1, 2, 3, 0] rfl ?_
  exact gX16_begin_p11 FU _ _ _ _ _
theorem V.dX16_run_0 : decode cX16_run 0 = .ok (.iconst 0, 1) := by decide +kernel
theorem V.dX16_run_1 : decode cX16_run 1 = .ok (.istore_n 2, 1) := by decide +kernel
theorem V.dX16_run_2 : decode cX16_run 2 = .ok (.iload_n 2, 1) := by decide +kernel
theorem V.dX16_run_3 : decode cX16_run 3 = .ok (.iload_n 1, 1) := by decide +kernel
theorem V.dX16_run_4 : decode cX16_run 4 = .ok (.if_icmp .ge 65, 3) := by decide +kernel
theorem V.dX16_run_7 : decode cX16_run 7 = .ok (.aload_n 0, 1) := by decide +kernel
theorem V.dX16_run_8 : decode cX16_run 8 = .ok (.getfield 58, 3) := by decide +kernel
theorem V.dX16_run_11 : decode cX16_run 11 = .ok (.iconst 1, 1) := by decide +kernel
theorem V.dX16_run_12 : decode cX16_run 12 = .ok (.if_icmp .ne 57, 3) := by decide +kernel
theorem V.dX16_run_15 : decode cX16_run 15 = .ok (.aload_n 0, 1) := by decide +kernel
theorem V.dX16_run_16 : decode cX16_run 16 = .ok (.invokevirtual 197, 3) := by decide +kernel
theorem V.dX16_run_19 : decode cX16_run 19 = .ok (.aload_n 0, 1) := by decide +kernel
theorem V.dX16_run_20 : decode cX16_run 20 = .ok (.getfield 76, 3) := by decide +kernel
theorem V.dX16_run_23 : decode cX16_run 23 = .ok (.isub, 1) := by decide +kernel
theorem V.dX16_run_24 : decode cX16_run 24 = .ok (.istore_n 3, 1) := by decide +kernel
theorem V.dX16_run_25 : decode cX16_run 25 = .ok (.iload_n 3, 1) := by decide +kernel
theorem V.dX16_run_26 : decode cX16_run 26 = .ok (.iload_n 1, 1) := by decide +kernel
theorem V.dX16_run_27 : decode cX16_run 27 = .ok (.iload_n 2, 1) := by decide +kernel
theorem V.dX16_run_28 : decode cX16_run 28 = .ok (.isub, 1) := by decide +kernel
theorem V.dX16_run_29 : decode cX16_run 29 = .ok (.if_icmp .le 20, 3) := by decide +kernel
theorem V.dX16_run_32 : decode cX16_run 32 = .ok (.aload_n 0, 1) := by decide +kernel
theorem V.dX16_run_33 : decode cX16_run 33 = .ok (.dup, 1) := by decide +kernel
theorem V.dX16_run_34 : decode cX16_run 34 = .ok (.getfield 76, 3) := by decide +kernel
theorem V.dX16_run_37 : decode cX16_run 37 = .ok (.iload_n 1, 1) := by decide +kernel
theorem V.dX16_run_38 : decode cX16_run 38 = .ok (.iload_n 2, 1) := by decide +kernel
theorem V.dX16_run_39 : decode cX16_run 39 = .ok (.isub, 1) := by decide +kernel
theorem V.dX16_run_40 : decode cX16_run 40 = .ok (.iadd, 1) := by decide +kernel
theorem V.dX16_run_41 : decode cX16_run 41 = .ok (.putfield 76, 3) := by decide +kernel
theorem V.dX16_run_44 : decode cX16_run 44 = .ok (.iload_n 1, 1) := by decide +kernel
theorem V.dX16_run_45 : decode cX16_run 45 = .ok (.istore_n 2, 1) := by decide +kernel
theorem V.dX16_run_46 : decode cX16_run 46 = .ok (.goto 20, 3) := by decide +kernel
theorem V.dX16_run_49 : decode cX16_run 49 = .ok (.iload_n 2, 1) := by decide +kernel
theorem V.dX16_run_50 : decode cX16_run 50 = .ok (.iload_n 3, 1) := by decide +kernel
theorem V.dX16_run_51 : decode cX16_run 51 = .ok (.iadd, 1) := by decide +kernel
theorem V.dX16_run_52 : decode cX16_run 52 = .ok (.istore_n 2, 1) := by decide +kernel
theorem V.dX16_run_53 : decode cX16_run 53 = .ok (.aload_n 0, 1) := by decide +kernel
theorem V.dX16_run_54 : decode cX16_run 54 = .ok (.iconst 0, 1) := by decide +kernel
theorem V.dX16_run_55 : decode cX16_run 55 = .ok (.putfield 76, 3) := by decide +kernel
theorem V.dX16_run_58 : decode cX16_run 58 = .ok (.aload_n 0, 1) := by decide +kernel
theorem V.dX16_run_59 : decode cX16_run 59 = .ok (.invokevirtual 201, 3) := by decide +kernel
theorem V.dX16_run_62 : decode cX16_run 62 = .ok (.aload_n 0, 1) := by decide +kernel
theorem V.dX16_run_63 : decode cX16_run 63 = .ok (.invokevirtual 90, 3) := by decide +kernel
theorem V.dX16_run_66 : decode cX16_run 66 = .ok (.goto (-64), 3) := by decide +kernel
theorem V.dX16_run_69 : decode cX16_run 69 = .ok (.aload_n 0, 1) := by decide +kernel
theorem V.dX16_run_70 : decode cX16_run 70 = .ok (.dup, 1) := by decide +kernel
theorem V.dX16_run_71 : decode cX16_run 71 = .ok (.getfield 64, 3) := by decide +kernel
theorem V.dX16_run_74 : decode cX16_run 74 = .ok (.iload_n 2, 1) := by decide +kernel
theorem V.dX16_run_75 : decode cX16_run 75 = .ok (.iadd, 1) := by decide +kernel
theorem V.dX16_run_76 : decode cX16_run 76 = .ok (.putfield 64, 3) := by decide +kernel
theorem V.dX16_run_79 : decode cX16_run 79 = .ok (.iload_n 2, 1) := by decide +kernel
theorem V.dX16_run_80 : decode cX16_run 80 = .ok (.ireturn, 1) := by decide +kernel
theorem V.fdX16_76 : FD RX16 76 16 17 0 := ⟨(RX16, TX16, 26), tyX16, rfl, rfl, in_X16, by decide, Or.inl q1141, rfl⟩
theorem V.fdX16_64 : FD RX16 64 16 20 0 := ⟨(RX16, TX16, 26), tyX16, rfl, rfl, in_X16, by decide, Or.inl q1146, rfl⟩
/-! ModuleEngine$Runner.run(I)I -/
def V.Run_run_p69  (σ : HS) (x0 : Nat) (x2 : Int32) : Option (Int32 × HS) :=
  ck (tg σ x0 = 17) <|
  ck (tg σ x0 = 17) <| bn (sI σ x0 20 ((gI σ x0 20) + x2)) fun σ1 =>
  some (x2, σ1)
theorem V.gX16_run_p69 {X : CX}  (σ : HS) (x0 : Nat) (x2 : Int32) : G X RX16 "run" cX16_run 4 (some .int) 18 465 enI 69 [(0, av x0), (2, iv x2)] [] σ (Run_run_p69 σ x0 x2) := by
  unfold Run_run_p69
  refine g_aload_n 0 0 dX16_run_69 rfl rfl ?_
  refine g_dup dX16_run_70 rfl ?_
  refine g_getI fdX16_64 dX16_run_71 ?_
  refine g_iload_n 2 1 dX16_run_74 rfl rfl ?_
  refine g_iadd dX16_run_75 ?_
  refine g_putI fpX16_64 dX16_run_76 (fun σ1 => ?_)
  refine g_iload_n 2 1 dX16_run_79 rfl rfl ?_
  exact g_ireturn rfl dX16_run_80
def V.Run_run_p2  : Nat → HS → Nat → Int32 → Int32 → Option (Int32 × HS)
  | 0, _, _, _, _ => none
  | n + 1, σ, x0, x1, x2 =>
    if x1 ≤ x2 then (
      Run_run_p69 σ x0 x2)
    else (
      ck (tg σ x0 = 17) <|
      if (gI σ x0 18) = (1 : Int32) then (
        ck (tg σ x0 = 17) <| cl (Run_price σ x0 ) fun r2 σ1 =>
        ck (tg σ1 x0 = 17) <|
        bn (r2 - (gI σ1 x0 17)) fun y3 =>
        if y3 ≤ (x1 - x2) then (
          bn (x2 + y3) fun y4 =>
          ck (tg σ1 x0 = 17) <| bn (sI σ1 x0 17 (0 : Int32)) fun σ5 =>
          ck (tg σ5 x0 = 17) <| cl (Run_next σ5 x0 ) fun _ σ6 =>
          ck (tg σ6 x0 = 17) <| cl (Run_idle σ6 x0 ) fun _ σ7 =>
          Run_run_p2 n σ7 x0 x1 y4)
        else (
          ck (tg σ1 x0 = 17) <|
          ck (tg σ1 x0 = 17) <| bn (sI σ1 x0 17 ((gI σ1 x0 17) + (x1 - x2))) fun σ8 =>
          Run_run_p2 n σ8 x0 x1 x1))
      else (
        Run_run_p69 σ x0 x2))
theorem V.gX16_run_p2 {X : CX}  : ∀ (n : Nat) (σ : HS) (x0 : Nat) (x1 : Int32) (x2 : Int32), G X RX16 "run" cX16_run 4 (some .int) 18 465 enI 2 [(0, av x0), (1, iv x1), (2, iv x2)] [] σ (Run_run_p2 n σ x0 x1 x2)
  | 0, σ, x0, x1, x2 => by rw [Run_run_p2]; exact G.nul
  | n + 1, σ, x0, x1, x2 => by
    rw [Run_run_p2]
    refine g_iload_n 2 2 dX16_run_2 rfl rfl ?_
    refine g_iload_n 1 1 dX16_run_3 rfl rfl ?_
    refine g_icmp_ge 69 dX16_run_4 (by decide) ?_ ?_
    · refine G.sub [0, 2] rfl ?_
      exact gX16_run_p69 _ _ _
    · refine g_aload_n 0 0 dX16_run_7 rfl rfl ?_
      refine g_getI fdX16_58 dX16_run_8 ?_
      refine g_iconst (v := 1) dX16_run_11 (by decide) ?_
      refine g_icmp_ne 69 dX16_run_12 (by decide) ?_ ?_
      · refine G.sub [0, 2] rfl ?_
        exact gX16_run_p69 _ _ _
      · refine g_aload_n 0 0 dX16_run_15 rfl rfl ?_
        refine g_callV (fc := fun sς => Run_price sς x0 ) (ci := 16) (as := []) rfl rfl rfl q2697 qs177 mdX16_197 (ctX16_price x0 ) rfl (Nat.le_of_ble_eq_true rfl) (Nat.le_of_ble_eq_true rfl) (Nat.le_of_ble_eq_true rfl) pu_I dX16_run_16 (fun r2 σ1 => ?_)
        refine g_aload_n 0 0 dX16_run_19 rfl rfl ?_
        refine g_getI fdX16_76 dX16_run_20 ?_
        refine g_isub dX16_run_23 ?_
        refine g_nmI (fun y3 => ?_)
        refine g_istore_n 3 dX16_run_24 rfl (by decide) rfl ?_
        refine g_iload_n 3 0 dX16_run_25 rfl rfl ?_
        refine g_iload_n 1 2 dX16_run_26 rfl rfl ?_
        refine g_iload_n 2 3 dX16_run_27 rfl rfl ?_
        refine g_isub dX16_run_28 ?_
        refine g_icmp_le 49 dX16_run_29 (by decide) ?_ ?_
        · refine g_iload_n 2 3 dX16_run_49 rfl rfl ?_
          refine g_iload_n 3 0 dX16_run_50 rfl rfl ?_
          refine g_iadd dX16_run_51 ?_
          refine g_nmI (fun y4 => ?_)
          refine g_istore_n 2 dX16_run_52 rfl (by decide) rfl ?_
          refine g_aload_n 0 2 dX16_run_53 rfl rfl ?_
          refine g_iconst (v := 0) dX16_run_54 (by decide) ?_
          refine g_putI fpX16_76 dX16_run_55 (fun σ5 => ?_)
          refine g_aload_n 0 2 dX16_run_58 rfl rfl ?_
          refine g_callV (fc := fun sς => Run_next sς x0 ) (ci := 16) (as := []) rfl rfl rfl q2702 qs178 mdX16_201 (ctX16_next x0 ) rfl (Nat.le_of_ble_eq_true rfl) (Nat.le_of_ble_eq_true rfl) (Nat.le_of_ble_eq_true rfl) pu_V dX16_run_59 (fun _ σ6 => ?_)
          refine g_aload_n 0 2 dX16_run_62 rfl rfl ?_
          refine g_callV (fc := fun sς => Run_idle sς x0 ) (ci := 16) (as := []) rfl rfl rfl q2693 qs176 mdX16_90 (ctX16_idle x0 ) rfl (Nat.le_of_ble_eq_true rfl) (Nat.le_of_ble_eq_true rfl) (Nat.le_of_ble_eq_true rfl) pu_V dX16_run_63 (fun _ σ7 => ?_)
          refine g_goto 2 dX16_run_66 (by decide) ?_
          refine G.sub [2, 3, 0] rfl ?_
          exact gX16_run_p2 n _ _ _ _
        · refine g_aload_n 0 1 dX16_run_32 rfl rfl ?_
          refine g_dup dX16_run_33 rfl ?_
          refine g_getI fdX16_76 dX16_run_34 ?_
          refine g_iload_n 1 2 dX16_run_37 rfl rfl ?_
          refine g_iload_n 2 3 dX16_run_38 rfl rfl ?_
          refine g_isub dX16_run_39 ?_
          refine g_iadd dX16_run_40 ?_
          refine g_putI fpX16_76 dX16_run_41 (fun σ8 => ?_)
          refine g_iload_n 1 2 dX16_run_44 rfl rfl ?_
          refine g_istore_n 2 dX16_run_45 rfl (by decide) rfl ?_
          refine g_goto 66 dX16_run_46 (by decide) ?_
          refine g_goto 2 dX16_run_66 (by decide) ?_
          refine G.sub [2, 3, 0] rfl ?_
          exact gX16_run_p2 n _ _ _ _
def V.Run_run (σ : HS) (x0 : Nat) (x1 : Int32) : Option (Int32 × HS) :=
  Run_run_p2 FU σ x0 x1 (0 : Int32)
theorem V.ctX16_run (x0 : Nat) (x1 : Int32) : Ct yX16_run  cX16_run 4 (some .int) 18 465 eI [av x0, iv x1] (fun σ => Run_run σ x0 x1) := by
  refine Ct.of (own := RX16) (nm := "run") (desc := "(I)I") rfl (by decide) (Nat.le_of_ble_eq_true rfl) (by decide) (fun X σ => ?_)
  show G X RX16 "run" cX16_run 4 (some .int) 18 465 enI 0 [(0, av x0), (1, iv x1)] [] σ (Run_run σ x0 x1)
  unfold Run_run
  refine g_iconst (v := 0) dX16_run_0 (by decide) ?_
  refine g_istore_n 2 dX16_run_1 rfl (by decide) rfl ?_
  refine G.sub [1, 2, 0] rfl ?_
  exact gX16_run_p2 FU _ _ _ _
theorem V.dX16_answer_0 : decode cX16_answer 0 = .ok (.aload_n 0, 1) := by decide +kernel
theorem V.dX16_answer_1 : decode cX16_answer 1 = .ok (.getfield 54, 3) := by decide +kernel
theorem V.dX16_answer_4 : decode cX16_answer 4 = .ok (.aload_n 0, 1) := by decide +kernel
theorem V.dX16_answer_5 : decode cX16_answer 5 = .ok (.getfield 106, 3) := by decide +kernel
theorem V.dX16_answer_8 : decode cX16_answer 8 = .ok (.invokevirtual 182, 3) := by decide +kernel
theorem V.dX16_answer_11 : decode cX16_answer 11 = .ok (.istore_n 2, 1) := by decide +kernel
theorem V.dX16_answer_12 : decode cX16_answer 12 = .ok (.iconst 0, 1) := by decide +kernel
theorem V.dX16_answer_13 : decode cX16_answer 13 = .ok (.istore_n 3, 1) := by decide +kernel
theorem V.dX16_answer_14 : decode cX16_answer 14 = .ok (.iload_n 3, 1) := by decide +kernel
theorem V.dX16_answer_15 : decode cX16_answer 15 = .ok (.iload_n 2, 1) := by decide +kernel
theorem V.dX16_answer_16 : decode cX16_answer 16 = .ok (.if_icmp .ge 23, 3) := by decide +kernel
theorem V.dX16_answer_19 : decode cX16_answer 19 = .ok (.aload_n 0, 1) := by decide +kernel
theorem V.dX16_answer_20 : decode cX16_answer 20 = .ok (.getfield 9, 3) := by decide +kernel
theorem V.dX16_answer_23 : decode cX16_answer 23 = .ok (.aload_n 0, 1) := by decide +kernel
theorem V.dX16_answer_24 : decode cX16_answer 24 = .ok (.getfield 109, 3) := by decide +kernel
theorem V.dX16_answer_27 : decode cX16_answer 27 = .ok (.iload_n 3, 1) := by decide +kernel
theorem V.dX16_answer_28 : decode cX16_answer 28 = .ok (.iadd, 1) := by decide +kernel
theorem V.dX16_answer_29 : decode cX16_answer 29 = .ok (.aload_n 1, 1) := by decide +kernel
theorem V.dX16_answer_30 : decode cX16_answer 30 = .ok (.iload_n 3, 1) := by decide +kernel
theorem V.dX16_answer_31 : decode cX16_answer 31 = .ok (.laload, 1) := by decide +kernel
theorem V.dX16_answer_32 : decode cX16_answer 32 = .ok (.lastore, 1) := by decide +kernel
theorem V.dX16_answer_33 : decode cX16_answer 33 = .ok (.iinc 3 1, 3) := by decide +kernel
theorem V.dX16_answer_36 : decode cX16_answer 36 = .ok (.goto (-22), 3) := by decide +kernel
theorem V.dX16_answer_39 : decode cX16_answer 39 = .ok (.aload_n 0, 1) := by decide +kernel
theorem V.dX16_answer_40 : decode cX16_answer 40 = .ok (.aload_n 0, 1) := by decide +kernel
theorem V.dX16_answer_41 : decode cX16_answer 41 = .ok (.getfield 109, 3) := by decide +kernel
theorem V.dX16_answer_44 : decode cX16_answer 44 = .ok (.iload_n 2, 1) := by decide +kernel
theorem V.dX16_answer_45 : decode cX16_answer 45 = .ok (.iadd, 1) := by decide +kernel
theorem V.dX16_answer_46 : decode cX16_answer 46 = .ok (.putfield 135, 3) := by decide +kernel
theorem V.dX16_answer_49 : decode cX16_answer 49 = .ok (.aload_n 0, 1) := by decide +kernel
theorem V.dX16_answer_50 : decode cX16_answer 50 = .ok (.iconst (-1), 1) := by decide +kernel
theorem V.dX16_answer_51 : decode cX16_answer 51 = .ok (.putfield 35, 3) := by decide +kernel
theorem V.dX16_answer_54 : decode cX16_answer 54 = .ok (.aload_n 0, 1) := by decide +kernel
theorem V.dX16_answer_55 : decode cX16_answer 55 = .ok (.iconst 1, 1) := by decide +kernel
theorem V.dX16_answer_56 : decode cX16_answer 56 = .ok (.putfield 58, 3) := by decide +kernel
theorem V.dX16_answer_59 : decode cX16_answer 59 = .ok (.aload_n 0, 1) := by decide +kernel
theorem V.dX16_answer_60 : decode cX16_answer 60 = .ok (.getfield 67, 3) := by decide +kernel
theorem V.dX16_answer_63 : decode cX16_answer 63 = .ok (.ifCond .ne 11, 3) := by decide +kernel
theorem V.dX16_answer_66 : decode cX16_answer 66 = .ok (.aload_n 0, 1) := by decide +kernel
theorem V.dX16_answer_67 : decode cX16_answer 67 = .ok (.iload_n 2, 1) := by decide +kernel
theorem V.dX16_answer_68 : decode cX16_answer 68 = .ok (.invokevirtual 179, 3) := by decide +kernel
theorem V.dX16_answer_71 : decode cX16_answer 71 = .ok (.goto 7, 3) := by decide +kernel
theorem V.dX16_answer_74 : decode cX16_answer 74 = .ok (.aload_n 0, 1) := by decide +kernel
theorem V.dX16_answer_75 : decode cX16_answer 75 = .ok (.invokevirtual 90, 3) := by decide +kernel
theorem V.dX16_answer_78 : decode cX16_answer 78 = .ok (.return_, 1) := by decide +kernel
theorem V.fdX16_106 : FD RX16 106 16 22 0 := ⟨(RX16, TX16, 26), tyX16, rfl, rfl, in_X16, by decide, Or.inl q1150, rfl⟩
theorem V.mdX16_182 : MD RX16 182 yX13_resultsOf cX13_resultsOf 2 (some .int) 1 := ⟨Or.inl q2934, q373, q2894, by decide, by decide, by decide +kernel⟩
theorem V.fdX16_109 : FD RX16 109 16 23 0 := ⟨(RX16, TX16, 26), tyX16, rfl, rfl, in_X16, by decide, Or.inl q1152, rfl⟩
/-! ModuleEngine$Runner.answer([J)V -/
def V.Run_answer_p14  : Nat → HS → Nat → Nat → Int32 → Int32 → Option (Unit × HS)
  | 0, _, _, _, _, _ => none
  | n + 1, σ, x0, x1, x2, x3 =>
    if x2 ≤ x3 then (
      ck (tg σ x0 = 17) <|
      ck (tg σ x0 = 17) <| bn (sI σ x0 15 ((gI σ x0 23) + x2)) fun σ1 =>
      ck (tg σ1 x0 = 17) <| bn (sI σ1 x0 21 (-1 : Int32)) fun σ2 =>
      ck (tg σ2 x0 = 17) <| bn (sI σ2 x0 18 (1 : Int32)) fun σ3 =>
      ck (tg σ3 x0 = 17) <|
      if (gI σ3 x0 13) = 0 then (
        ck (tg σ3 x0 = 17) <| cl (Run_end σ3 x0 x2) fun _ σ5 =>
        some ((), σ5))
      else (
        ck (tg σ3 x0 = 17) <| cl (Run_idle σ3 x0 ) fun _ σ4 =>
        some ((), σ4)))
    else (
      ck (tg σ x0 = 17) <|
      ck (tg σ x0 = 17) <|
      ck (tg σ x1 = 101 ∧ inb x3 (ln σ x1)) <|
      ck (tg σ (gR σ x0 4) = 101 ∧ inb ((gI σ x0 23) + x3) (ln σ (gR σ x0 4))) <| bn (sJ σ (gR σ x0 4) (ix ((gI σ x0 23) + x3)) (gJ σ x1 (ix x3))) fun σ6 =>
      bn (x3 + (1 : Int32)) fun y7 =>
      Run_answer_p14 n σ6 x0 x1 x2 y7)
theorem V.gX16_answer_p14 {X : CX}  : ∀ (n : Nat) (σ : HS) (x0 : Nat) (x1 : Nat) (x2 : Int32) (x3 : Int32), G X RX16 "answer" cX16_answer 4 none 18 465 enV 14 [(0, av x0), (1, av x1), (2, iv x2), (3, iv x3)] [] σ (Run_answer_p14 n σ x0 x1 x2 x3)
  | 0, σ, x0, x1, x2, x3 => by rw [Run_answer_p14]; exact G.nul
  | n + 1, σ, x0, x1, x2, x3 => by
    rw [Run_answer_p14]
    refine g_iload_n 3 3 dX16_answer_14 rfl rfl ?_
    refine g_iload_n 2 2 dX16_answer_15 rfl rfl ?_
    refine g_icmp_ge 39 dX16_answer_16 (by decide) ?_ ?_
    · refine g_aload_n 0 0 dX16_answer_39 rfl rfl ?_
      refine g_aload_n 0 0 dX16_answer_40 rfl rfl ?_
      refine g_getI fdX16_109 dX16_answer_41 ?_
      refine g_iload_n 2 2 dX16_answer_44 rfl rfl ?_
      refine g_iadd dX16_answer_45 ?_
      refine g_putI fpX16_135 dX16_answer_46 (fun σ1 => ?_)
      refine g_aload_n 0 0 dX16_answer_49 rfl rfl ?_
      refine g_iconst (v := (-1)) dX16_answer_50 (by decide) ?_
      refine g_putI fpX16_35 dX16_answer_51 (fun σ2 => ?_)
      refine g_aload_n 0 0 dX16_answer_54 rfl rfl ?_
      refine g_iconst (v := 1) dX16_answer_55 (by decide) ?_
      refine g_putI fpX16_58 dX16_answer_56 (fun σ3 => ?_)
      refine g_aload_n 0 0 dX16_answer_59 rfl rfl ?_
      refine g_getI fdX16_67 dX16_answer_60 ?_
      refine g_if_ne 74 dX16_answer_63 (by decide) ?_ ?_
      · refine g_aload_n 0 0 dX16_answer_74 rfl rfl ?_
        refine g_callV (fc := fun sς => Run_idle sς x0 ) (ci := 16) (as := []) rfl rfl rfl q2693 qs176 mdX16_90 (ctX16_idle x0 ) rfl (Nat.le_of_ble_eq_true rfl) (Nat.le_of_ble_eq_true rfl) (Nat.le_of_ble_eq_true rfl) pu_V dX16_answer_75 (fun _ σ4 => ?_)
        exact g_return rfl dX16_answer_78
      · refine g_aload_n 0 0 dX16_answer_66 rfl rfl ?_
        refine g_iload_n 2 2 dX16_answer_67 rfl rfl ?_
        refine g_callV (fc := fun sς => Run_end sς x0 x2) (ci := 16) (as := [iv x2]) rfl rfl rfl q2724 qs183 mdX16_179 (ctX16_end x0 x2) rfl (Nat.le_of_ble_eq_true rfl) (Nat.le_of_ble_eq_true rfl) (Nat.le_of_ble_eq_true rfl) pu_V dX16_answer_68 (fun _ σ5 => ?_)
        refine g_goto 78 dX16_answer_71 (by decide) ?_
        exact g_return rfl dX16_answer_78
    · refine g_aload_n 0 0 dX16_answer_19 rfl rfl ?_
      refine g_getR fdX16_9 dX16_answer_20 ?_
      refine g_aload_n 0 0 dX16_answer_23 rfl rfl ?_
      refine g_getI fdX16_109 dX16_answer_24 ?_
      refine g_iload_n 3 3 dX16_answer_27 rfl rfl ?_
      refine g_iadd dX16_answer_28 ?_
      refine g_aload_n 1 1 dX16_answer_29 rfl rfl ?_
      refine g_iload_n 3 3 dX16_answer_30 rfl rfl ?_
      refine g_laload dX16_answer_31 ?_
      refine g_lastore dX16_answer_32 (fun σ6 => ?_)
      refine g_iincB (w := 1) 3 dX16_answer_33 rfl (by decide) (by decide) (fun _ => rfl) (fun y7 => ?_)
      refine g_goto 14 dX16_answer_36 (by decide) ?_
      refine G.sub [1, 2, 3, 0] rfl ?_
      exact gX16_answer_p14 n _ _ _ _ _
def V.Run_answer (σ : HS) (x0 : Nat) (x1 : Nat) : Option (Unit × HS) :=
  ck (tg σ x0 = 17) <|
  ck (tg σ x0 = 17) <|
  ck (tg σ (gR σ x0 3) = 14) <| cl (Sto_resultsOf σ (gR σ x0 3) (gI σ x0 22)) fun r2 σ1 =>
  Run_answer_p14 FU σ1 x0 x1 r2 (0 : Int32)
theorem V.ctX16_answer (x0 : Nat) (x1 : Nat) : Ct yX16_answer  cX16_answer 4 none 18 465 eV [av x0, av x1] (fun σ => Run_answer σ x0 x1) := by
  refine Ct.of (own := RX16) (nm := "answer") (desc := "([J)V") rfl (by decide) (Nat.le_of_ble_eq_true rfl) (by decide) (fun X σ => ?_)
  show G X RX16 "answer" cX16_answer 4 none 18 465 enV 0 [(0, av x0), (1, av x1)] [] σ (Run_answer σ x0 x1)
  unfold Run_answer
  refine g_aload_n 0 0 dX16_answer_0 rfl rfl ?_
  refine g_getR fdX16_54 dX16_answer_1 ?_
  refine g_aload_n 0 0 dX16_answer_4 rfl rfl ?_
  refine g_getI fdX16_106 dX16_answer_5 ?_
  refine g_callV (fc := fun sς => Sto_resultsOf sς (gR σ x0 3) (gI σ x0 22)) (ci := 13) (as := [iv (gI σ x0 22)]) rfl rfl rfl q2892 q2893 mdX16_182 (ctX13_resultsOf (gR σ x0 3) (gI σ x0 22)) rfl (Nat.le_of_ble_eq_true rfl) (Nat.le_of_ble_eq_true rfl) (Nat.le_of_ble_eq_true rfl) pu_I dX16_answer_8 (fun r2 σ1 => ?_)
  refine g_istore_n 2 dX16_answer_11 rfl (by decide) rfl ?_
  refine g_iconst (v := 0) dX16_answer_12 (by decide) ?_
  refine g_istore_n 3 dX16_answer_13 rfl (by decide) rfl ?_
  refine G.sub [2, 3, 1, 0] rfl ?_
  exact gX16_answer_p14 FU _ _ _ _ _
theorem V.dX1_init_0 : decode cX1_init 0 = .ok (.aload_n 0, 1) := by decide +kernel
theorem V.dX1_init_1 : decode cX1_init 1 = .ok (.invokespecial 1, 3) := by decide +kernel
theorem V.dX1_init_4 : decode cX1_init 4 = .ok (.aload_n 0, 1) := by decide +kernel
theorem V.dX1_init_5 : decode cX1_init 5 = .ok (.bipush 64, 2) := by decide +kernel
theorem V.dX1_init_7 : decode cX1_init 7 = .ok (.newarray .byte, 2) := by decide +kernel
theorem V.dX1_init_9 : decode cX1_init 9 = .ok (.putfield 7, 3) := by decide +kernel
theorem V.dX1_init_12 : decode cX1_init 12 = .ok (.aload_n 0, 1) := by decide +kernel
theorem V.dX1_init_13 : decode cX1_init 13 = .ok (.new 13, 3) := by decide +kernel
theorem V.dX1_init_16 : decode cX1_init 16 = .ok (.dup, 1) := by decide +kernel
theorem V.dX1_init_17 : decode cX1_init 17 = .ok (.invokespecial 15, 3) := by decide +kernel
theorem V.dX1_init_20 : decode cX1_init 20 = .ok (.putfield 16, 3) := by decide +kernel
theorem V.dX1_init_23 : decode cX1_init 23 = .ok (.aload_n 0, 1) := by decide +kernel
theorem V.dX1_init_24 : decode cX1_init 24 = .ok (.iconst (-1), 1) := by decide +kernel
theorem V.dX1_init_25 : decode cX1_init 25 = .ok (.putfield 20, 3) := by decide +kernel
theorem V.dX1_init_28 : decode cX1_init 28 = .ok (.aload_n 0, 1) := by decide +kernel
theorem V.dX1_init_29 : decode cX1_init 29 = .ok (.new 24, 3) := by decide +kernel
theorem V.dX1_init_32 : decode cX1_init 32 = .ok (.dup, 1) := by decide +kernel
theorem V.dX1_init_33 : decode cX1_init 33 = .ok (.invokespecial 26, 3) := by decide +kernel
theorem V.dX1_init_36 : decode cX1_init 36 = .ok (.putfield 27, 3) := by decide +kernel
theorem V.dX1_init_39 : decode cX1_init 39 = .ok (.aload_n 0, 1) := by decide +kernel
theorem V.dX1_init_40 : decode cX1_init 40 = .ok (.new 24, 3) := by decide +kernel
theorem V.dX1_init_43 : decode cX1_init 43 = .ok (.dup, 1) := by decide +kernel
theorem V.dX1_init_44 : decode cX1_init 44 = .ok (.invokespecial 26, 3) := by decide +kernel
theorem V.dX1_init_47 : decode cX1_init 47 = .ok (.putfield 31, 3) := by decide +kernel
theorem V.dX1_init_50 : decode cX1_init 50 = .ok (.aload_n 0, 1) := by decide +kernel
theorem V.dX1_init_51 : decode cX1_init 51 = .ok (.iload_n 1, 1) := by decide +kernel
theorem V.dX1_init_52 : decode cX1_init 52 = .ok (.putfield 34, 3) := by decide +kernel
theorem V.dX1_init_55 : decode cX1_init 55 = .ok (.return_, 1) := by decide +kernel
theorem V.fpX1_7 {nm : String} : FP RX1 nm 7 1 0 (.array .byte) := ⟨(RX1, TX1, 10), tyX1, rfl, rfl, in_X1, by decide, tyX1_ok, nmX1, rfl, Or.inl ⟨rfl, Or.inl q537⟩⟩
theorem V.ndX1_13 : ND RX1 13 2 21 := ⟨(RX2, TX2, 21), tyX2, rfl, rfl, in_X2, tyX2_ok, by decide, q402, q403, q362⟩
theorem V.mdX1_15 : MD RX1 15 yX2_init cX2_init 1 none 0 := ⟨Or.inr ⟨_, q404⟩, q362, q406, by decide, by decide, by decide +kernel⟩
theorem V.fpX1_16 {nm : String} : FP RX1 nm 16 1 3 (.object "ModuleEngine$Module") := ⟨(RX1, TX1, 10), tyX1, rfl, rfl, in_X1, by decide, tyX1_ok, nmX1, rfl, Or.inl ⟨rfl, Or.inl q541⟩⟩
theorem V.fpX1_20 {nm : String} : FP RX1 nm 20 1 5 (.int) := ⟨(RX1, TX1, 10), tyX1, rfl, rfl, in_X1, by decide, tyX1_ok, nmX1, rfl, Or.inl ⟨rfl, Or.inl q544⟩⟩
theorem V.ndX1_24 : ND RX1 24 3 2 := ⟨(RX3, TX3, 2), tyX3, rfl, rfl, in_X3, tyX3_ok, by decide, q535, q409, q363⟩
theorem V.mdX1_26 : MD RX1 26 yX3_init cX3_init 1 none 0 := ⟨Or.inr ⟨_, q536⟩, q363, q412, by decide, by decide, by decide +kernel⟩
theorem V.fpX1_27 : FP RX1 "<init>" 27 1 8 (.object "ModuleEngine$Row") := ⟨(RX1, TX1, 10), tyX1, rfl, rfl, in_X1, by decide, tyX1_ok, nmX1, rfl, Or.inr ⟨rfl, rfl, rfl, q548⟩⟩
theorem V.fpX1_31 : FP RX1 "<init>" 31 1 9 (.object "ModuleEngine$Row") := ⟨(RX1, TX1, 10), tyX1, rfl, rfl, in_X1, by decide, tyX1_ok, nmX1, rfl, Or.inr ⟨rfl, rfl, rfl, q549⟩⟩
theorem V.fpX1_34 : FP RX1 "<init>" 34 1 1 (.int) := ⟨(RX1, TX1, 10), tyX1, rfl, rfl, in_X1, by decide, tyX1_ok, nmX1, rfl, Or.inr ⟨rfl, rfl, rfl, q538⟩⟩
/-! ModuleEngine$Bytes.<init>(I)V -/
def V.Byt_init (σ : HS) (x0 : Nat) (x1 : Int32) : Option (Unit × HS) :=
  ck (¬ x0 = 0) <|
  ck (lenok (64 : Int32)) <| newa σ 102 (64 : Int32) fun a1 σ2 =>
  ck (tg σ2 x0 = 2) <| bn (sR σ2 x0 0 a1) fun σ3 =>
  newo σ3 3 21 fun a4 σ5 =>
  ck (¬ a4 = 0) <| cl (Mod_init σ5 a4 ) fun _ σ6 =>
  ck (tg σ6 x0 = 2) <| bn (sR σ6 x0 3 a4) fun σ7 =>
  ck (tg σ7 x0 = 2) <| bn (sI σ7 x0 5 (-1 : Int32)) fun σ8 =>
  newr σ8 fun a9 σ10 =>
  ck (tg σ10 x0 = 2) <| bn (sR σ10 x0 8 a9) fun σ11 =>
  newr σ11 fun a12 σ13 =>
  ck (tg σ13 x0 = 2) <| bn (sR σ13 x0 9 a12) fun σ14 =>
  ck (tg σ14 x0 = 2) <| bn (sI σ14 x0 1 x1) fun σ15 =>
  some ((), σ15)
theorem V.ctX1_init (x0 : Nat) (x1 : Int32) : Ct yX1_init  cX1_init 2 none 3 64 eV [av x0, iv x1] (fun σ => Byt_init σ x0 x1) := by
  refine Ct.of (own := RX1) (nm := "<init>") (desc := "(I)V") rfl (by decide) (Nat.le_of_ble_eq_true rfl) (by decide) (fun X σ => ?_)
  show G X RX1 "<init>" cX1_init 2 none 3 64 enV 0 [(0, av x0), (1, iv x1)] [] σ (Byt_init σ x0 x1)
  unfold Byt_init
  refine g_aload_n 0 0 dX1_init_0 rfl rfl ?_
  refine g_objInit q401 (Nat.le_of_ble_eq_true rfl) (Nat.le_of_ble_eq_true rfl) dX1_init_1 ?_
  refine g_aload_n 0 0 dX1_init_4 rfl rfl ?_
  refine g_bipush (v := 64) dX1_init_5 (by decide) ?_
  refine g_na_byte dX1_init_7 (fun a1 σ2 => ?_)
  refine g_putR fpX1_7 rfl dX1_init_9 (fun σ3 => ?_)
  refine g_aload_n 0 0 dX1_init_12 rfl rfl ?_
  refine g_newo ndX1_13 dX1_init_13 (fun a4 σ5 => ?_)
  refine g_dup dX1_init_16 rfl ?_
  refine g_callI (fc := fun sς => Mod_init sς a4 ) (as := []) rfl q405 mdX1_15 (ctX2_init a4 ) rfl (Nat.le_of_ble_eq_true rfl) (Nat.le_of_ble_eq_true rfl) (Nat.le_of_ble_eq_true rfl) pu_V dX1_init_17 (fun _ σ6 => ?_)
  refine g_putR fpX1_16 rfl dX1_init_20 (fun σ7 => ?_)
  refine g_aload_n 0 0 dX1_init_23 rfl rfl ?_
  refine g_iconst (v := (-1)) dX1_init_24 (by decide) ?_
  refine g_putI fpX1_20 dX1_init_25 (fun σ8 => ?_)
  refine g_aload_n 0 0 dX1_init_28 rfl rfl ?_
  refine g_newr ndX1_24 q411 mdX1_26 (Nat.le_of_ble_eq_true rfl) (Nat.le_of_ble_eq_true rfl) (Nat.le_of_ble_eq_true rfl) dX1_init_29 dX1_init_32 dX1_init_33 (fun a9 σ10 => ?_)
  refine g_putR fpX1_27 rfl dX1_init_36 (fun σ11 => ?_)
  refine g_aload_n 0 0 dX1_init_39 rfl rfl ?_
  refine g_newr ndX1_24 q411 mdX1_26 (Nat.le_of_ble_eq_true rfl) (Nat.le_of_ble_eq_true rfl) (Nat.le_of_ble_eq_true rfl) dX1_init_40 dX1_init_43 dX1_init_44 (fun a12 σ13 => ?_)
  refine g_putR fpX1_31 rfl dX1_init_47 (fun σ14 => ?_)
  refine g_aload_n 0 0 dX1_init_50 rfl rfl ?_
  refine g_iload_n 1 1 dX1_init_51 rfl rfl ?_
  refine g_putI fpX1_34 dX1_init_52 (fun σ15 => ?_)
  exact g_return rfl dX1_init_55
theorem V.dX1_grow_0 : decode cX1_grow 0 = .ok (.iconst 2, 1) := by decide +kernel
theorem V.dX1_grow_1 : decode cX1_grow 1 = .ok (.aload_n 0, 1) := by decide +kernel
theorem V.dX1_grow_2 : decode cX1_grow 2 = .ok (.getfield 37, 3) := by decide +kernel
theorem V.dX1_grow_5 : decode cX1_grow 5 = .ok (.imul, 1) := by decide +kernel
theorem V.dX1_grow_6 : decode cX1_grow 6 = .ok (.aload_n 0, 1) := by decide +kernel
theorem V.dX1_grow_7 : decode cX1_grow 7 = .ok (.getfield 34, 3) := by decide +kernel
theorem V.dX1_grow_10 : decode cX1_grow 10 = .ok (.invokestatic 43, 3) := by decide +kernel
theorem V.dX1_grow_13 : decode cX1_grow 13 = .ok (.newarray .byte, 2) := by decide +kernel
theorem V.dX1_grow_15 : decode cX1_grow 15 = .ok (.astore_n 1, 1) := by decide +kernel
theorem V.dX1_grow_16 : decode cX1_grow 16 = .ok (.iconst 0, 1) := by decide +kernel
theorem V.dX1_grow_17 : decode cX1_grow 17 = .ok (.istore_n 2, 1) := by decide +kernel
theorem V.dX1_grow_18 : decode cX1_grow 18 = .ok (.iload_n 2, 1) := by decide +kernel
theorem V.dX1_grow_19 : decode cX1_grow 19 = .ok (.aload_n 0, 1) := by decide +kernel
theorem V.dX1_grow_20 : decode cX1_grow 20 = .ok (.getfield 37, 3) := by decide +kernel
theorem V.dX1_grow_23 : decode cX1_grow 23 = .ok (.if_icmp .ge 18, 3) := by decide +kernel
theorem V.dX1_grow_26 : decode cX1_grow 26 = .ok (.aload_n 1, 1) := by decide +kernel
theorem V.dX1_grow_27 : decode cX1_grow 27 = .ok (.iload_n 2, 1) := by decide +kernel
theorem V.dX1_grow_28 : decode cX1_grow 28 = .ok (.aload_n 0, 1) := by decide +kernel
theorem V.dX1_grow_29 : decode cX1_grow 29 = .ok (.getfield 7, 3) := by decide +kernel
theorem V.dX1_grow_32 : decode cX1_grow 32 = .ok (.iload_n 2, 1) := by decide +kernel
theorem V.dX1_grow_33 : decode cX1_grow 33 = .ok (.baload, 1) := by decide +kernel
theorem V.dX1_grow_34 : decode cX1_grow 34 = .ok (.bastore, 1) := by decide +kernel
theorem V.dX1_grow_35 : decode cX1_grow 35 = .ok (.iinc 2 1, 3) := by decide +kernel
theorem V.dX1_grow_38 : decode cX1_grow 38 = .ok (.goto (-20), 3) := by decide +kernel
theorem V.dX1_grow_41 : decode cX1_grow 41 = .ok (.aload_n 0, 1) := by decide +kernel
theorem V.dX1_grow_42 : decode cX1_grow 42 = .ok (.aload_n 1, 1) := by decide +kernel
theorem V.dX1_grow_43 : decode cX1_grow 43 = .ok (.putfield 7, 3) := by decide +kernel
theorem V.dX1_grow_46 : decode cX1_grow 46 = .ok (.return_, 1) := by decide +kernel
theorem V.fdX1_37 : FD RX1 37 1 2 0 := ⟨(RX1, TX1, 10), tyX1, rfl, rfl, in_X1, by decide, Or.inl q539, rfl⟩
theorem V.fdX1_34 : FD RX1 34 1 1 0 := ⟨(RX1, TX1, 10), tyX1, rfl, rfl, in_X1, by decide, Or.inl q538, rfl⟩
theorem V.fdX1_7 : FD RX1 7 1 0 2 := ⟨(RX1, TX1, 10), tyX1, rfl, rfl, in_X1, by decide, Or.inl q537, rfl⟩
/-! ModuleEngine$Bytes.grow()V -/
def V.Byt_grow_p18  : Nat → HS → Nat → Nat → Int32 → Option (Unit × HS)
  | 0, _, _, _, _ => none
  | n + 1, σ, x0, x1, x2 =>
    ck (tg σ x0 = 2) <|
    if (gI σ x0 2) ≤ x2 then (
      ck (tg σ x0 = 2) <| bn (sR σ x0 0 x1) fun σ1 =>
      some ((), σ1))
    else (
      ck (tg σ x0 = 2) <|
      ck (tg σ (gR σ x0 0) = 102 ∧ inb x2 (ln σ (gR σ x0 0))) <|
      ck (tg σ x1 = 102 ∧ inb x2 (ln σ x1)) <| bn (sI σ x1 (ix x2) (i2b (gI σ (gR σ x0 0) (ix x2)))) fun σ2 =>
      bn (x2 + (1 : Int32)) fun y3 =>
      Byt_grow_p18 n σ2 x0 x1 y3)
theorem V.gX1_grow_p18 {X : CX}  : ∀ (n : Nat) (σ : HS) (x0 : Nat) (x1 : Nat) (x2 : Int32), G X RX1 "grow" cX1_grow 3 none 1 24 enV 18 [(0, av x0), (1, av x1), (2, iv x2)] [] σ (Byt_grow_p18 n σ x0 x1 x2)
  | 0, σ, x0, x1, x2 => by rw [Byt_grow_p18]; exact G.nul
  | n + 1, σ, x0, x1, x2 => by
    rw [Byt_grow_p18]
    refine g_iload_n 2 2 dX1_grow_18 rfl rfl ?_
    refine g_aload_n 0 0 dX1_grow_19 rfl rfl ?_
    refine g_getI fdX1_37 dX1_grow_20 ?_
    refine g_icmp_ge 41 dX1_grow_23 (by decide) ?_ ?_
    · refine g_aload_n 0 0 dX1_grow_41 rfl rfl ?_
      refine g_aload_n 1 1 dX1_grow_42 rfl rfl ?_
      refine g_putR fpX1_7 rfl dX1_grow_43 (fun σ1 => ?_)
      exact g_return rfl dX1_grow_46
    · refine g_aload_n 1 1 dX1_grow_26 rfl rfl ?_
      refine g_iload_n 2 2 dX1_grow_27 rfl rfl ?_
      refine g_aload_n 0 0 dX1_grow_28 rfl rfl ?_
      refine g_getR fdX1_7 dX1_grow_29 ?_
      refine g_iload_n 2 2 dX1_grow_32 rfl rfl ?_
      refine g_baload dX1_grow_33 ?_
      refine g_bastore dX1_grow_34 (fun σ2 => ?_)
      refine g_iincB (w := 1) 2 dX1_grow_35 rfl (by decide) (by decide) (fun _ => rfl) (fun y3 => ?_)
      refine g_goto 18 dX1_grow_38 (by decide) ?_
      refine G.sub [1, 2, 0] rfl ?_
      exact gX1_grow_p18 n _ _ _ _
def V.Byt_grow (σ : HS) (x0 : Nat) : Option (Unit × HS) :=
  ck (tg σ x0 = 2) <|
  ck (tg σ x0 = 2) <|
  ck (lenok (minI ((2 : Int32) * (gI σ x0 2)) (gI σ x0 1))) <| newa σ 102 (minI ((2 : Int32) * (gI σ x0 2)) (gI σ x0 1)) fun a1 σ2 =>
  Byt_grow_p18 FU σ2 x0 a1 (0 : Int32)
theorem V.ctX1_grow (x0 : Nat) : Ct yX1_grow  cX1_grow 3 none 1 24 eV [av x0] (fun σ => Byt_grow σ x0) := by
  refine Ct.of (own := RX1) (nm := "grow") (desc := "()V") rfl (by decide) (Nat.le_of_ble_eq_true rfl) (by decide) (fun X σ => ?_)
  show G X RX1 "grow" cX1_grow 3 none 1 24 enV 0 [(0, av x0)] [] σ (Byt_grow σ x0)
  unfold Byt_grow
  refine g_iconst (v := 2) dX1_grow_0 (by decide) ?_
  refine g_aload_n 0 0 dX1_grow_1 rfl rfl ?_
  refine g_getI fdX1_37 dX1_grow_2 ?_
  refine g_imul dX1_grow_5 ?_
  refine g_aload_n 0 0 dX1_grow_6 rfl rfl ?_
  refine g_getI fdX1_34 dX1_grow_7 ?_
  refine g_minI q1264 (Nat.le_of_ble_eq_true rfl) (Nat.le_of_ble_eq_true rfl) dX1_grow_10 ?_
  refine g_na_byte dX1_grow_13 (fun a1 σ2 => ?_)
  refine g_astore_n 1 dX1_grow_15 rfl (by decide) rfl ?_
  refine g_iconst (v := 0) dX1_grow_16 (by decide) ?_
  refine g_istore_n 2 dX1_grow_17 rfl (by decide) rfl ?_
  refine G.sub [2, 1, 0] rfl ?_
  exact gX1_grow_p18 FU _ _ _ _
theorem V.dX1_feed_0 : decode cX1_feed 0 = .ok (.iconst 3, 1) := by decide +kernel
theorem V.dX1_feed_1 : decode cX1_feed 1 = .ok (.istore_n 2, 1) := by decide +kernel
theorem V.dX1_feed_2 : decode cX1_feed 2 = .ok (.iload_n 2, 1) := by decide +kernel
theorem V.dX1_feed_3 : decode cX1_feed 3 = .ok (.ifCond .lt 51, 3) := by decide +kernel
theorem V.dX1_feed_6 : decode cX1_feed 6 = .ok (.aload_n 0, 1) := by decide +kernel
theorem V.dX1_feed_7 : decode cX1_feed 7 = .ok (.getfield 37, 3) := by decide +kernel
theorem V.dX1_feed_10 : decode cX1_feed 10 = .ok (.aload_n 0, 1) := by decide +kernel
theorem V.dX1_feed_11 : decode cX1_feed 11 = .ok (.getfield 7, 3) := by decide +kernel
theorem V.dX1_feed_14 : decode cX1_feed 14 = .ok (.arraylength, 1) := by decide +kernel
theorem V.dX1_feed_15 : decode cX1_feed 15 = .ok (.if_icmp .ne 7, 3) := by decide +kernel
theorem V.dX1_feed_18 : decode cX1_feed 18 = .ok (.aload_n 0, 1) := by decide +kernel
theorem V.dX1_feed_19 : decode cX1_feed 19 = .ok (.invokevirtual 40, 3) := by decide +kernel
theorem V.dX1_feed_22 : decode cX1_feed 22 = .ok (.aload_n 0, 1) := by decide +kernel
theorem V.dX1_feed_23 : decode cX1_feed 23 = .ok (.getfield 7, 3) := by decide +kernel
theorem V.dX1_feed_26 : decode cX1_feed 26 = .ok (.aload_n 0, 1) := by decide +kernel
theorem V.dX1_feed_27 : decode cX1_feed 27 = .ok (.getfield 37, 3) := by decide +kernel
theorem V.dX1_feed_30 : decode cX1_feed 30 = .ok (.iload_n 1, 1) := by decide +kernel
theorem V.dX1_feed_31 : decode cX1_feed 31 = .ok (.bipush 8, 2) := by decide +kernel
theorem V.dX1_feed_33 : decode cX1_feed 33 = .ok (.iload_n 2, 1) := by decide +kernel
theorem V.dX1_feed_34 : decode cX1_feed 34 = .ok (.imul, 1) := by decide +kernel
theorem V.dX1_feed_35 : decode cX1_feed 35 = .ok (.ishr, 1) := by decide +kernel
theorem V.dX1_feed_36 : decode cX1_feed 36 = .ok (.i2b, 1) := by decide +kernel
theorem V.dX1_feed_37 : decode cX1_feed 37 = .ok (.bastore, 1) := by decide +kernel
theorem V.dX1_feed_38 : decode cX1_feed 38 = .ok (.aload_n 0, 1) := by decide +kernel
theorem V.dX1_feed_39 : decode cX1_feed 39 = .ok (.dup, 1) := by decide +kernel
theorem V.dX1_feed_40 : decode cX1_feed 40 = .ok (.getfield 37, 3) := by decide +kernel
theorem V.dX1_feed_43 : decode cX1_feed 43 = .ok (.iconst 1, 1) := by decide +kernel
theorem V.dX1_feed_44 : decode cX1_feed 44 = .ok (.iadd, 1) := by decide +kernel
theorem V.dX1_feed_45 : decode cX1_feed 45 = .ok (.putfield 37, 3) := by decide +kernel
theorem V.dX1_feed_48 : decode cX1_feed 48 = .ok (.iinc 2 (-1), 3) := by decide +kernel
theorem V.dX1_feed_51 : decode cX1_feed 51 = .ok (.goto (-49), 3) := by decide +kernel
theorem V.dX1_feed_54 : decode cX1_feed 54 = .ok (.aload_n 0, 1) := by decide +kernel
theorem V.dX1_feed_55 : decode cX1_feed 55 = .ok (.getfield 37, 3) := by decide +kernel
theorem V.dX1_feed_58 : decode cX1_feed 58 = .ok (.ireturn, 1) := by decide +kernel
theorem V.mdX1_40 : MD RX1 40 yX1_grow cX1_grow 3 none 0 := ⟨Or.inl q1260, q361, q1263, by decide, by decide, by decide +kernel⟩
theorem V.fpX1_37 {nm : String} : FP RX1 nm 37 1 2 (.int) := ⟨(RX1, TX1, 10), tyX1, rfl, rfl, in_X1, by decide, tyX1_ok, nmX1, rfl, Or.inl ⟨rfl, Or.inl q539⟩⟩
/-! ModuleEngine$Bytes.feed(I)I -/
def V.Byt_feed_p22 (rec2 : HS → Nat → Int32 → Int32 → Option (Int32 × HS)) (σ : HS) (x0 : Nat) (x1 : Int32) (x2 : Int32) : Option (Int32 × HS) :=
  ck (tg σ x0 = 2) <|
  ck (tg σ x0 = 2) <|
  ck (tg σ (gR σ x0 0) = 102 ∧ inb (gI σ x0 2) (ln σ (gR σ x0 0))) <| bn (sI σ (gR σ x0 0) (ix (gI σ x0 2)) (i2b (i2b (x1 >>> (((8 : Int32) * x2) &&& 31))))) fun σ1 =>
  ck (tg σ1 x0 = 2) <|
  ck (tg σ1 x0 = 2) <| bn (sI σ1 x0 2 ((gI σ1 x0 2) + (1 : Int32))) fun σ2 =>
  bn (x2 + (-1 : Int32)) fun y3 =>
  rec2 σ2 x0 x1 y3
theorem V.gX1_feed_p22 {X : CX} (rec2 : HS → Nat → Int32 → Int32 → Option (Int32 × HS)) (hrec2 : ∀ (σ : HS) (x0 : Nat) (x1 : Int32) (x2 : Int32), G X RX1 "feed" cX1_feed 3 (some .int) 2 46 enI 2 [(0, av x0), (1, iv x1), (2, iv x2)] [] σ (rec2 σ x0 x1 x2)) (σ : HS) (x0 : Nat) (x1 : Int32) (x2 : Int32) : G X RX1 "feed" cX1_feed 3 (some .int) 2 46 enI 22 [(0, av x0), (1, iv x1), (2, iv x2)] [] σ (Byt_feed_p22 rec2 σ x0 x1 x2) := by
  unfold Byt_feed_p22
  refine g_aload_n 0 0 dX1_feed_22 rfl rfl ?_
  refine g_getR fdX1_7 dX1_feed_23 ?_
  refine g_aload_n 0 0 dX1_feed_26 rfl rfl ?_
  refine g_getI fdX1_37 dX1_feed_27 ?_
  refine g_iload_n 1 1 dX1_feed_30 rfl rfl ?_
  refine g_bipush (v := 8) dX1_feed_31 (by decide) ?_
  refine g_iload_n 2 2 dX1_feed_33 rfl rfl ?_
  refine g_imul dX1_feed_34 ?_
  refine g_ishr dX1_feed_35 ?_
  refine g_i2b dX1_feed_36 ?_
  refine g_bastore dX1_feed_37 (fun σ1 => ?_)
  refine g_aload_n 0 0 dX1_feed_38 rfl rfl ?_
  refine g_dup dX1_feed_39 rfl ?_
  refine g_getI fdX1_37 dX1_feed_40 ?_
  refine g_iconst (v := 1) dX1_feed_43 (by decide) ?_
  refine g_iadd dX1_feed_44 ?_
  refine g_putI fpX1_37 dX1_feed_45 (fun σ2 => ?_)
  refine g_iincB (w := (-1)) 2 dX1_feed_48 rfl (by decide) (by decide) (fun _ => rfl) (fun y3 => ?_)
  refine g_goto 2 dX1_feed_51 (by decide) ?_
  refine G.sub [1, 2, 0] rfl ?_
  exact hrec2 _ _ _ _
def V.Byt_feed_p2  : Nat → HS → Nat → Int32 → Int32 → Option (Int32 × HS)
  | 0, _, _, _, _ => none
  | n + 1, σ, x0, x1, x2 =>
    if x2 < 0 then (
      ck (tg σ x0 = 2) <|
      some (gI σ x0 2, σ))
    else (
      ck (tg σ x0 = 2) <|
      ck (tg σ x0 = 2) <|
      ck (tg σ (gR σ x0 0) = 102) <|
      if (gI σ x0 2) = (nI (ln σ (gR σ x0 0))) then (
        ck (tg σ x0 = 2) <| cl (Byt_grow σ x0 ) fun _ σ1 =>
        Byt_feed_p22 (Byt_feed_p2 n) σ1 x0 x1 x2)
      else (
        Byt_feed_p22 (Byt_feed_p2 n) σ x0 x1 x2))
theorem V.gX1_feed_p2 {X : CX}  : ∀ (n : Nat) (σ : HS) (x0 : Nat) (x1 : Int32) (x2 : Int32), G X RX1 "feed" cX1_feed 3 (some .int) 2 46 enI 2 [(0, av x0), (1, iv x1), (2, iv x2)] [] σ (Byt_feed_p2 n σ x0 x1 x2)
  | 0, σ, x0, x1, x2 => by rw [Byt_feed_p2]; exact G.nul
  | n + 1, σ, x0, x1, x2 => by
    rw [Byt_feed_p2]
    refine g_iload_n 2 2 dX1_feed_2 rfl rfl ?_
    refine g_if_lt 54 dX1_feed_3 (by decide) ?_ ?_
    · refine g_aload_n 0 0 dX1_feed_54 rfl rfl ?_
      refine g_getI fdX1_37 dX1_feed_55 ?_
      exact g_ireturn rfl dX1_feed_58
    · refine g_aload_n 0 0 dX1_feed_6 rfl rfl ?_
      refine g_getI fdX1_37 dX1_feed_7 ?_
      refine g_aload_n 0 0 dX1_feed_10 rfl rfl ?_
      refine g_getR fdX1_7 dX1_feed_11 ?_
      refine g_alen 2 rfl dX1_feed_14 ?_
      refine g_icmp_ne 22 dX1_feed_15 (by decide) ?_ ?_
      · exact gX1_feed_p22 (Byt_feed_p2 n) (gX1_feed_p2 n) _ _ _ _
      · refine g_aload_n 0 0 dX1_feed_18 rfl rfl ?_
        refine g_callV (fc := fun sς => Byt_grow sς x0 ) (ci := 1) (as := []) rfl rfl rfl q1262 qs0 mdX1_40 (ctX1_grow x0 ) rfl (Nat.le_of_ble_eq_true rfl) (Nat.le_of_ble_eq_true rfl) (Nat.le_of_ble_eq_true rfl) pu_V dX1_feed_19 (fun _ σ1 => ?_)
        exact gX1_feed_p22 (Byt_feed_p2 n) (gX1_feed_p2 n) _ _ _ _
def V.Byt_feed (σ : HS) (x0 : Nat) (x1 : Int32) : Option (Int32 × HS) :=
  Byt_feed_p2 FU σ x0 x1 (3 : Int32)
theorem V.ctX1_feed (x0 : Nat) (x1 : Int32) : Ct yX1_feed  cX1_feed 3 (some .int) 2 46 eI [av x0, iv x1] (fun σ => Byt_feed σ x0 x1) := by
  refine Ct.of (own := RX1) (nm := "feed") (desc := "(I)I") rfl (by decide) (Nat.le_of_ble_eq_true rfl) (by decide) (fun X σ => ?_)
  show G X RX1 "feed" cX1_feed 3 (some .int) 2 46 enI 0 [(0, av x0), (1, iv x1)] [] σ (Byt_feed σ x0 x1)
  unfold Byt_feed
  refine g_iconst (v := 3) dX1_feed_0 (by decide) ?_
  refine g_istore_n 2 dX1_feed_1 rfl (by decide) rfl ?_
  refine G.sub [1, 2, 0] rfl ?_
  exact gX1_feed_p2 FU _ _ _ _
theorem V.dX1_stop_0 : decode cX1_stop 0 = .ok (.aload_n 0, 1) := by decide +kernel
theorem V.dX1_stop_1 : decode cX1_stop 1 = .ok (.iload_n 1, 1) := by decide +kernel
theorem V.dX1_stop_2 : decode cX1_stop 2 = .ok (.putfield 53, 3) := by decide +kernel
theorem V.dX1_stop_5 : decode cX1_stop 5 = .ok (.aload_n 0, 1) := by decide +kernel
theorem V.dX1_stop_6 : decode cX1_stop 6 = .ok (.iload_n 2, 1) := by decide +kernel
theorem V.dX1_stop_7 : decode cX1_stop 7 = .ok (.putfield 20, 3) := by decide +kernel
theorem V.dX1_stop_10 : decode cX1_stop 10 = .ok (.new 65, 3) := by decide +kernel
theorem V.dX1_stop_13 : decode cX1_stop 13 = .ok (.dup, 1) := by decide +kernel
theorem V.dX1_stop_14 : decode cX1_stop 14 = .ok (.invokespecial 67, 3) := by decide +kernel
theorem V.dX1_stop_17 : decode cX1_stop 17 = .ok (.athrow, 1) := by decide +kernel
theorem V.fpX1_53 {nm : String} : FP RX1 nm 53 1 4 (.int) := ⟨(RX1, TX1, 10), tyX1, rfl, rfl, in_X1, by decide, tyX1_ok, nmX1, rfl, Or.inl ⟨rfl, Or.inl q543⟩⟩
/-! ModuleEngine$Bytes.stop(II)V -/
def V.Byt_stop (σ : HS) (x0 : Nat) (x1 : Int32) (x2 : Int32) : Option ((Nat ⊕ Unit) × HS) :=
  ck (tg σ x0 = 2) <| bn (sI σ x0 4 x1) fun σ1 =>
  ck (tg σ1 x0 = 2) <| bn (sI σ1 x0 5 x2) fun σ2 =>
  newo σ2 22 6 fun a3 σ4 =>
  ck (¬ a3 = 0) (some (.inl a3, σ4))
theorem V.ctX1_stop (x0 : Nat) (x1 : Int32) (x2 : Int32) : Ct yX1_stop  cX1_stop 3 none 6 85 eXV [av x0, iv x1, iv x2] (fun σ => Byt_stop σ x0 x1 x2) := by
  refine Ct.of (own := RX1) (nm := "stop") (desc := "(II)V") rfl (by decide) (Nat.le_of_ble_eq_true rfl) (by decide) (fun X σ => ?_)
  show G X RX1 "stop" cX1_stop 3 none 6 85 (enX enV (cxz X)) 0 [(0, av x0), (1, iv x1), (2, iv x2)] [] σ (Byt_stop σ x0 x1 x2)
  unfold Byt_stop
  refine g_aload_n 0 0 dX1_stop_0 rfl rfl ?_
  refine g_iload_n 1 1 dX1_stop_1 rfl rfl ?_
  refine g_putI fpX1_53 dX1_stop_2 (fun σ1 => ?_)
  refine g_aload_n 0 0 dX1_stop_5 rfl rfl ?_
  refine g_iload_n 2 2 dX1_stop_6 rfl rfl ?_
  refine g_putI fpX1_20 dX1_stop_7 (fun σ2 => ?_)
  refine g_newexc (ci := 21) rfl rfl (fun C => exA_IAE C) (by decide) q1275 q1297 q384 (Or.inl q1336) (Nat.le_of_ble_eq_true rfl) (Nat.le_of_ble_eq_true rfl) dX1_stop_10 dX1_stop_13 dX1_stop_14 (fun a3 σ4 => ?_)
  exact g_athrow (by decide) dX1_stop_17
theorem V.dX1_take_0 : decode cX1_take 0 = .ok (.aload_n 0, 1) := by decide +kernel
theorem V.dX1_take_1 : decode cX1_take 1 = .ok (.getfield 56, 3) := by decide +kernel
theorem V.dX1_take_4 : decode cX1_take 4 = .ok (.aload_n 0, 1) := by decide +kernel
theorem V.dX1_take_5 : decode cX1_take 5 = .ok (.getfield 59, 3) := by decide +kernel
theorem V.dX1_take_8 : decode cX1_take 8 = .ok (.if_icmp .ne 12, 3) := by decide +kernel
theorem V.dX1_take_11 : decode cX1_take 11 = .ok (.aload_n 0, 1) := by decide +kernel
theorem V.dX1_take_12 : decode cX1_take 12 = .ok (.iconst 1, 1) := by decide +kernel
theorem V.dX1_take_13 : decode cX1_take 13 = .ok (.aload_n 0, 1) := by decide +kernel
theorem V.dX1_take_14 : decode cX1_take 14 = .ok (.getfield 56, 3) := by decide +kernel
theorem V.dX1_take_17 : decode cX1_take 17 = .ok (.invokevirtual 68, 3) := by decide +kernel
theorem V.dX1_take_20 : decode cX1_take 20 = .ok (.aload_n 0, 1) := by decide +kernel
theorem V.dX1_take_21 : decode cX1_take 21 = .ok (.getfield 16, 3) := by decide +kernel
theorem V.dX1_take_24 : decode cX1_take 24 = .ok (.getfield 72, 3) := by decide +kernel
theorem V.dX1_take_27 : decode cX1_take 27 = .ok (.aload_n 0, 1) := by decide +kernel
theorem V.dX1_take_28 : decode cX1_take 28 = .ok (.getfield 56, 3) := by decide +kernel
theorem V.dX1_take_31 : decode cX1_take 31 = .ok (.baload, 1) := by decide +kernel
theorem V.dX1_take_32 : decode cX1_take 32 = .ok (.sipush 255, 3) := by decide +kernel
theorem V.dX1_take_35 : decode cX1_take 35 = .ok (.iand, 1) := by decide +kernel
theorem V.dX1_take_36 : decode cX1_take 36 = .ok (.istore_n 1, 1) := by decide +kernel
theorem V.dX1_take_37 : decode cX1_take 37 = .ok (.aload_n 0, 1) := by decide +kernel
theorem V.dX1_take_38 : decode cX1_take 38 = .ok (.dup, 1) := by decide +kernel
theorem V.dX1_take_39 : decode cX1_take 39 = .ok (.getfield 56, 3) := by decide +kernel
theorem V.dX1_take_42 : decode cX1_take 42 = .ok (.iconst 1, 1) := by decide +kernel
theorem V.dX1_take_43 : decode cX1_take 43 = .ok (.iadd, 1) := by decide +kernel
theorem V.dX1_take_44 : decode cX1_take 44 = .ok (.putfield 56, 3) := by decide +kernel
theorem V.dX1_take_47 : decode cX1_take 47 = .ok (.iload_n 1, 1) := by decide +kernel
theorem V.dX1_take_48 : decode cX1_take 48 = .ok (.ireturn, 1) := by decide +kernel
theorem V.fdX1_56 : FD RX1 56 1 6 0 := ⟨(RX1, TX1, 10), tyX1, rfl, rfl, in_X1, by decide, Or.inl q546, rfl⟩
theorem V.fdX1_59 : FD RX1 59 1 7 0 := ⟨(RX1, TX1, 10), tyX1, rfl, rfl, in_X1, by decide, Or.inl q547, rfl⟩
theorem V.mdX1_68 : MD RX1 68 yX1_stop cX1_stop 3 none 2 := ⟨Or.inl q1293, q361, q1296, by decide, by decide, by decide +kernel⟩
theorem V.fdX1_16 : FD RX1 16 1 3 2 := ⟨(RX1, TX1, 10), tyX1, rfl, rfl, in_X1, by decide, Or.inl q541, rfl⟩
theorem V.fdX1_72 : FD RX1 72 2 0 2 := ⟨(RX2, TX2, 21), tyX2, rfl, rfl, in_X2, by decide, Or.inr ⟨_, q425⟩, rfl⟩
theorem V.fpX1_56 {nm : String} : FP RX1 nm 56 1 6 (.int) := ⟨(RX1, TX1, 10), tyX1, rfl, rfl, in_X1, by decide, tyX1_ok, nmX1, rfl, Or.inl ⟨rfl, Or.inl q546⟩⟩
/-! ModuleEngine$Bytes.take()I -/
def V.Byt_take_p20  (σ : HS) (x0 : Nat) : Option ((Nat ⊕ Int32) × HS) :=
  ck (tg σ x0 = 2) <|
  ck (tg σ (gR σ x0 3) = 3) <|
  ck (tg σ x0 = 2) <|
  ck (tg σ (gR σ (gR σ x0 3) 0) = 102 ∧ inb (gI σ x0 6) (ln σ (gR σ (gR σ x0 3) 0))) <|
  bn ((gI σ (gR σ (gR σ x0 3) 0) (ix (gI σ x0 6))) &&& (255 : Int32)) fun y1 =>
  ck (tg σ x0 = 2) <|
  ck (tg σ x0 = 2) <| bn (sI σ x0 6 ((gI σ x0 6) + (1 : Int32))) fun σ2 =>
  some (.inr y1, σ2)
theorem V.gX1_take_p20 {X : CX}  (σ : HS) (x0 : Nat) : G X RX1 "take" cX1_take 2 (some .int) 7 107 (enX enI (cxz X)) 20 [(0, av x0)] [] σ (Byt_take_p20 σ x0) := by
  unfold Byt_take_p20
  refine g_aload_n 0 0 dX1_take_20 rfl rfl ?_
  refine g_getR fdX1_16 dX1_take_21 ?_
  refine g_getR fdX1_72 dX1_take_24 ?_
  refine g_aload_n 0 0 dX1_take_27 rfl rfl ?_
  refine g_getI fdX1_56 dX1_take_28 ?_
  refine g_baload dX1_take_31 ?_
  refine g_sipush (v := 255) dX1_take_32 (by decide) ?_
  refine g_iand dX1_take_35 ?_
  refine g_nmI (fun y1 => ?_)
  refine g_istore_n 1 dX1_take_36 rfl (by decide) rfl ?_
  refine g_aload_n 0 1 dX1_take_37 rfl rfl ?_
  refine g_dup dX1_take_38 rfl ?_
  refine g_getI fdX1_56 dX1_take_39 ?_
  refine g_iconst (v := 1) dX1_take_42 (by decide) ?_
  refine g_iadd dX1_take_43 ?_
  refine g_putI fpX1_56 dX1_take_44 (fun σ2 => ?_)
  refine g_iload_n 1 0 dX1_take_47 rfl rfl ?_
  exact g_ireturn rfl dX1_take_48
def V.Byt_take (σ : HS) (x0 : Nat) : Option ((Nat ⊕ Int32) × HS) :=
  ck (tg σ x0 = 2) <|
  ck (tg σ x0 = 2) <|
  if (gI σ x0 6) = (gI σ x0 7) then (
    ck (tg σ x0 = 2) <|
    ck (tg σ x0 = 2) <| clT (Byt_stop σ x0 (1 : Int32) (gI σ x0 6)) fun _ σ1 =>
    Byt_take_p20 σ1 x0)
  else (
    Byt_take_p20 σ x0)
theorem V.ctX1_take (x0 : Nat) : Ct yX1_take  cX1_take 2 (some .int) 7 107 eXI [av x0] (fun σ => Byt_take σ x0) := by
  refine Ct.of (own := RX1) (nm := "take") (desc := "()I") rfl (by decide) (Nat.le_of_ble_eq_true rfl) (by decide) (fun X σ => ?_)
  show G X RX1 "take" cX1_take 2 (some .int) 7 107 (enX enI (cxz X)) 0 [(0, av x0)] [] σ (Byt_take σ x0)
  unfold Byt_take
  refine g_aload_n 0 0 dX1_take_0 rfl rfl ?_
  refine g_getI fdX1_56 dX1_take_1 ?_
  refine g_aload_n 0 0 dX1_take_4 rfl rfl ?_
  refine g_getI fdX1_59 dX1_take_5 ?_
  refine g_icmp_ne 20 dX1_take_8 (by decide) ?_ ?_
  · exact gX1_take_p20 _ _
  · refine g_aload_n 0 0 dX1_take_11 rfl rfl ?_
    refine g_iconst (v := 1) dX1_take_12 (by decide) ?_
    refine g_aload_n 0 0 dX1_take_13 rfl rfl ?_
    refine g_getI fdX1_56 dX1_take_14 ?_
    refine g_callVT (fc := fun sς => Byt_stop sς x0 (1 : Int32) (gI σ x0 6)) (ci := 1) (as := [iv (1 : Int32), iv (gI σ x0 6)]) rfl rfl rfl q1295 qs3 q1293 mdX1_68 (ctX1_stop x0 (1 : Int32) (gI σ x0 6)) rfl (Nat.le_of_ble_eq_true rfl) (Nat.le_of_ble_eq_true rfl) (Nat.le_of_ble_eq_true rfl) pu_V (by decide) dX1_take_17 (fun _ σ1 => ?_)
    exact gX1_take_p20 _ _
theorem V.dX1_order_0 : decode cX1_order 0 = .ok (.iload_n 0, 1) := by decide +kernel
theorem V.dX1_order_1 : decode cX1_order 1 = .ok (.bipush 10, 2) := by decide +kernel
theorem V.dX1_order_3 : decode cX1_order 3 = .ok (.if_icmp .ge 7, 3) := by decide +kernel
theorem V.dX1_order_6 : decode cX1_order 6 = .ok (.iload_n 0, 1) := by decide +kernel
theorem V.dX1_order_7 : decode cX1_order 7 = .ok (.goto 17, 3) := by decide +kernel
theorem V.dX1_order_10 : decode cX1_order 10 = .ok (.iload_n 0, 1) := by decide +kernel
theorem V.dX1_order_11 : decode cX1_order 11 = .ok (.bipush 12, 2) := by decide +kernel
theorem V.dX1_order_13 : decode cX1_order 13 = .ok (.if_icmp .ne 8, 3) := by decide +kernel
theorem V.dX1_order_16 : decode cX1_order 16 = .ok (.bipush 10, 2) := by decide +kernel
theorem V.dX1_order_18 : decode cX1_order 18 = .ok (.goto 6, 3) := by decide +kernel
theorem V.dX1_order_21 : decode cX1_order 21 = .ok (.iload_n 0, 1) := by decide +kernel
theorem V.dX1_order_22 : decode cX1_order 22 = .ok (.iconst 1, 1) := by decide +kernel
theorem V.dX1_order_23 : decode cX1_order 23 = .ok (.iadd, 1) := by decide +kernel
theorem V.dX1_order_24 : decode cX1_order 24 = .ok (.ireturn, 1) := by decide +kernel
/-! ModuleEngine$Bytes.order(I)I -/
def V.Byt_order (σ : HS) (x0 : Int32) : Option (Int32 × HS) :=
  if (10 : Int32) ≤ x0 then (
    if x0 = (12 : Int32) then (
      some ((10 : Int32), σ))
    else (
      some (x0 + (1 : Int32), σ)))
  else (
    some (x0, σ))
theorem V.ctX1_order (x0 : Int32) : Ct yX1_order  cX1_order 1 (some .int) 0 0 eI [iv x0] (fun σ => Byt_order σ x0) := by
  refine Ct.of (own := RX1) (nm := "order") (desc := "(I)I") rfl (by decide) (Nat.le_of_ble_eq_true rfl) (by decide) (fun X σ => ?_)
  show G X RX1 "order" cX1_order 1 (some .int) 0 0 enI 0 [(0, iv x0)] [] σ (Byt_order σ x0)
  unfold Byt_order
  refine g_iload_n 0 0 dX1_order_0 rfl rfl ?_
  refine g_bipush (v := 10) dX1_order_1 (by decide) ?_
  refine g_icmp_ge 10 dX1_order_3 (by decide) ?_ ?_
  · refine g_iload_n 0 0 dX1_order_10 rfl rfl ?_
    refine g_bipush (v := 12) dX1_order_11 (by decide) ?_
    refine g_icmp_ne 21 dX1_order_13 (by decide) ?_ ?_
    · refine g_iload_n 0 0 dX1_order_21 rfl rfl ?_
      refine g_iconst (v := 1) dX1_order_22 (by decide) ?_
      refine g_iadd dX1_order_23 ?_
      exact g_ireturn rfl dX1_order_24
    · refine g_bipush (v := 10) dX1_order_16 (by decide) ?_
      refine g_goto 24 dX1_order_18 (by decide) ?_
      exact g_ireturn rfl dX1_order_24
  · refine g_iload_n 0 0 dX1_order_6 rfl rfl ?_
    refine g_goto 24 dX1_order_7 (by decide) ?_
    exact g_ireturn rfl dX1_order_24
theorem V.dX1_isLast_0 : decode cX1_isLast 0 = .ok (.iload_n 2, 1) := by decide +kernel
theorem V.dX1_isLast_1 : decode cX1_isLast 1 = .ok (.ifCond .eq 16, 3) := by decide +kernel
theorem V.dX1_isLast_4 : decode cX1_isLast 4 = .ok (.bipush 127, 2) := by decide +kernel
theorem V.dX1_isLast_6 : decode cX1_isLast 6 = .ok (.iload_n 1, 1) := by decide +kernel
theorem V.dX1_isLast_7 : decode cX1_isLast 7 = .ok (.iconst 1, 1) := by decide +kernel
theorem V.dX1_isLast_8 : decode cX1_isLast 8 = .ok (.isub, 1) := by decide +kernel
theorem V.dX1_isLast_9 : decode cX1_isLast 9 = .ok (.ishr, 1) := by decide +kernel
theorem V.dX1_isLast_10 : decode cX1_isLast 10 = .ok (.iload_n 1, 1) := by decide +kernel
theorem V.dX1_isLast_11 : decode cX1_isLast 11 = .ok (.iconst 1, 1) := by decide +kernel
theorem V.dX1_isLast_12 : decode cX1_isLast 12 = .ok (.isub, 1) := by decide +kernel
theorem V.dX1_isLast_13 : decode cX1_isLast 13 = .ok (.ishl, 1) := by decide +kernel
theorem V.dX1_isLast_14 : decode cX1_isLast 14 = .ok (.goto 9, 3) := by decide +kernel
theorem V.dX1_isLast_17 : decode cX1_isLast 17 = .ok (.bipush 127, 2) := by decide +kernel
theorem V.dX1_isLast_19 : decode cX1_isLast 19 = .ok (.iload_n 1, 1) := by decide +kernel
theorem V.dX1_isLast_20 : decode cX1_isLast 20 = .ok (.ishr, 1) := by decide +kernel
theorem V.dX1_isLast_21 : decode cX1_isLast 21 = .ok (.iload_n 1, 1) := by decide +kernel
theorem V.dX1_isLast_22 : decode cX1_isLast 22 = .ok (.ishl, 1) := by decide +kernel
theorem V.dX1_isLast_23 : decode cX1_isLast 23 = .ok (.istore_n 3, 1) := by decide +kernel
theorem V.dX1_isLast_24 : decode cX1_isLast 24 = .ok (.iload_n 0, 1) := by decide +kernel
theorem V.dX1_isLast_25 : decode cX1_isLast 25 = .ok (.sipush 128, 3) := by decide +kernel
theorem V.dX1_isLast_28 : decode cX1_isLast 28 = .ok (.if_icmp .ge 24, 3) := by decide +kernel
theorem V.dX1_isLast_31 : decode cX1_isLast 31 = .ok (.iload_n 0, 1) := by decide +kernel
theorem V.dX1_isLast_32 : decode cX1_isLast 32 = .ok (.iload_n 3, 1) := by decide +kernel
theorem V.dX1_isLast_33 : decode cX1_isLast 33 = .ok (.iand, 1) := by decide +kernel
theorem V.dX1_isLast_34 : decode cX1_isLast 34 = .ok (.ifCond .eq 14, 3) := by decide +kernel
theorem V.dX1_isLast_37 : decode cX1_isLast 37 = .ok (.iload_n 2, 1) := by decide +kernel
theorem V.dX1_isLast_38 : decode cX1_isLast 38 = .ok (.ifCond .eq 14, 3) := by decide +kernel
theorem V.dX1_isLast_41 : decode cX1_isLast 41 = .ok (.iload_n 0, 1) := by decide +kernel
theorem V.dX1_isLast_42 : decode cX1_isLast 42 = .ok (.iload_n 3, 1) := by decide +kernel
theorem V.dX1_isLast_43 : decode cX1_isLast 43 = .ok (.iand, 1) := by decide +kernel
theorem V.dX1_isLast_44 : decode cX1_isLast 44 = .ok (.iload_n 3, 1) := by decide +kernel
theorem V.dX1_isLast_45 : decode cX1_isLast 45 = .ok (.if_icmp .ne 7, 3) := by decide +kernel
theorem V.dX1_isLast_48 : decode cX1_isLast 48 = .ok (.iconst 1, 1) := by decide +kernel
theorem V.dX1_isLast_49 : decode cX1_isLast 49 = .ok (.goto 4, 3) := by decide +kernel
theorem V.dX1_isLast_52 : decode cX1_isLast 52 = .ok (.iconst 0, 1) := by decide +kernel
theorem V.dX1_isLast_53 : decode cX1_isLast 53 = .ok (.ireturn, 1) := by decide +kernel
/-! ModuleEngine$Bytes.isLast(IIZ)Z -/
def V.Byt_isLast_p48  (σ : HS)  : Option (Int32 × HS) :=
  some ((1 : Int32), σ)
theorem V.gX1_isLast_p48 {X : CX}  (σ : HS)  : G X RX1 "isLast" cX1_isLast 4 (some .boolean) 0 0 enI 48 [] [] σ (Byt_isLast_p48 σ ) := by
  unfold Byt_isLast_p48
  refine g_iconst (v := 1) dX1_isLast_48 (by decide) ?_
  refine g_goto 53 dX1_isLast_49 (by decide) ?_
  exact g_zreturn rfl (by decide +kernel) dX1_isLast_53
def V.Byt_isLast_p23  (σ : HS) (x0 : Int32) (x2 : Int32) (s0 : Int32) : Option (Int32 × HS) :=
  if (128 : Int32) ≤ x0 then (
    some ((0 : Int32), σ))
  else (
    if (x0 &&& s0) = 0 then (
      Byt_isLast_p48 σ)
    else (
      if x2 = 0 then (
        some ((0 : Int32), σ))
      else (
        if (x0 &&& s0) = s0 then (
          Byt_isLast_p48 σ)
        else (
          some ((0 : Int32), σ)))))
theorem V.gX1_isLast_p23 {X : CX}  (σ : HS) (x0 : Int32) (x2 : Int32) (s0 : Int32) : G X RX1 "isLast" cX1_isLast 4 (some .boolean) 0 0 enI 23 [(0, iv x0), (2, iv x2)] [iv s0] σ (Byt_isLast_p23 σ x0 x2 s0) := by
  unfold Byt_isLast_p23
  refine g_istore_n 3 dX1_isLast_23 rfl (by decide) rfl ?_
  refine g_iload_n 0 1 dX1_isLast_24 rfl rfl ?_
  refine g_sipush (v := 128) dX1_isLast_25 (by decide) ?_
  refine g_icmp_ge 52 dX1_isLast_28 (by decide) ?_ ?_
  · refine g_iconst (v := 0) dX1_isLast_52 (by decide) ?_
    exact g_zreturn rfl (by decide +kernel) dX1_isLast_53
  · refine g_iload_n 0 1 dX1_isLast_31 rfl rfl ?_
    refine g_iload_n 3 0 dX1_isLast_32 rfl rfl ?_
    refine g_iand dX1_isLast_33 ?_
    refine g_if_eq 48 dX1_isLast_34 (by decide) ?_ ?_
    · refine G.sub [] rfl ?_
      exact gX1_isLast_p48 _
    · refine g_iload_n 2 2 dX1_isLast_37 rfl rfl ?_
      refine g_if_eq 52 dX1_isLast_38 (by decide) ?_ ?_
      · refine g_iconst (v := 0) dX1_isLast_52 (by decide) ?_
        exact g_zreturn rfl (by decide +kernel) dX1_isLast_53
      · refine g_iload_n 0 1 dX1_isLast_41 rfl rfl ?_
        refine g_iload_n 3 0 dX1_isLast_42 rfl rfl ?_
        refine g_iand dX1_isLast_43 ?_
        refine g_iload_n 3 0 dX1_isLast_44 rfl rfl ?_
        refine g_icmp_ne 52 dX1_isLast_45 (by decide) ?_ ?_
        · refine g_iconst (v := 0) dX1_isLast_52 (by decide) ?_
          exact g_zreturn rfl (by decide +kernel) dX1_isLast_53
        · refine G.sub [] rfl ?_
          exact gX1_isLast_p48 _
def V.Byt_isLast (σ : HS) (x0 : Int32) (x1 : Int32) (x2 : Int32) : Option (Int32 × HS) :=
  if x2 = 0 then (
    Byt_isLast_p23 σ x0 x2 (((127 : Int32) >>> (x1 &&& 31)) <<< (x1 &&& 31)))
  else (
    Byt_isLast_p23 σ x0 x2 (((127 : Int32) >>> ((x1 - (1 : Int32)) &&& 31)) <<< ((x1 - (1 : Int32)) &&& 31)))
theorem V.ctX1_isLast (x0 : Int32) (x1 : Int32) (x2 : Int32) : Ct yX1_isLast  cX1_isLast 4 (some .boolean) 0 0 eI [iv x0, iv x1, iv x2] (fun σ => Byt_isLast σ x0 x1 x2) := by
  refine Ct.of (own := RX1) (nm := "isLast") (desc := "(IIZ)Z") rfl (by decide) (Nat.le_of_ble_eq_true rfl) (by decide) (fun X σ => ?_)
  show G X RX1 "isLast" cX1_isLast 4 (some .boolean) 0 0 enI 0 [(0, iv x0), (1, iv x1), (2, iv x2)] [] σ (Byt_isLast σ x0 x1 x2)
  unfold Byt_isLast
  refine g_iload_n 2 2 dX1_isLast_0 rfl rfl ?_
  refine g_if_eq 17 dX1_isLast_1 (by decide) ?_ ?_
  · refine g_bipush (v := 127) dX1_isLast_17 (by decide) ?_
    refine g_iload_n 1 1 dX1_isLast_19 rfl rfl ?_
    refine g_ishr dX1_isLast_20 ?_
    refine g_iload_n 1 1 dX1_isLast_21 rfl rfl ?_
    refine g_ishl dX1_isLast_22 ?_
    refine G.sub [0, 2] rfl ?_
    exact gX1_isLast_p23 _ _ _ _
  · refine g_bipush (v := 127) dX1_isLast_4 (by decide) ?_
    refine g_iload_n 1 1 dX1_isLast_6 rfl rfl ?_
    refine g_iconst (v := 1) dX1_isLast_7 (by decide) ?_
    refine g_isub dX1_isLast_8 ?_
    refine g_ishr dX1_isLast_9 ?_
    refine g_iload_n 1 1 dX1_isLast_10 rfl rfl ?_
    refine g_iconst (v := 1) dX1_isLast_11 (by decide) ?_
    refine g_isub dX1_isLast_12 ?_
    refine g_ishl dX1_isLast_13 ?_
    refine g_goto 23 dX1_isLast_14 (by decide) ?_
    refine G.sub [0, 2] rfl ?_
    exact gX1_isLast_p23 _ _ _ _
theorem V.dX1_number_0 : decode cX1_number 0 = .ok (.lconst 0, 1) := by decide +kernel
theorem V.dX1_number_1 : decode cX1_number 1 = .ok (.lstore_n 3, 1) := by decide +kernel
theorem V.dX1_number_2 : decode cX1_number 2 = .ok (.iconst 0, 1) := by decide +kernel
theorem V.dX1_number_3 : decode cX1_number 3 = .ok (.istore 5, 2) := by decide +kernel
theorem V.dX1_number_5 : decode cX1_number 5 = .ok (.sipush 128, 3) := by decide +kernel
theorem V.dX1_number_8 : decode cX1_number 8 = .ok (.istore 6, 2) := by decide +kernel
theorem V.dX1_number_10 : decode cX1_number 10 = .ok (.iload 6, 2) := by decide +kernel
theorem V.dX1_number_12 : decode cX1_number 12 = .ok (.bipush 127, 2) := by decide +kernel
theorem V.dX1_number_14 : decode cX1_number 14 = .ok (.if_icmp .le 64, 3) := by decide +kernel
theorem V.dX1_number_17 : decode cX1_number 17 = .ok (.aload_n 0, 1) := by decide +kernel
theorem V.dX1_number_18 : decode cX1_number 18 = .ok (.getfield 56, 3) := by decide +kernel
theorem V.dX1_number_21 : decode cX1_number 21 = .ok (.istore 7, 2) := by decide +kernel
theorem V.dX1_number_23 : decode cX1_number 23 = .ok (.iload_n 1, 1) := by decide +kernel
theorem V.dX1_number_24 : decode cX1_number 24 = .ok (.iload 5, 2) := by decide +kernel
theorem V.dX1_number_26 : decode cX1_number 26 = .ok (.isub, 1) := by decide +kernel
theorem V.dX1_number_27 : decode cX1_number 27 = .ok (.istore 8, 2) := by decide +kernel
theorem V.dX1_number_29 : decode cX1_number 29 = .ok (.aload_n 0, 1) := by decide +kernel
theorem V.dX1_number_30 : decode cX1_number 30 = .ok (.invokevirtual 73, 3) := by decide +kernel
theorem V.dX1_number_33 : decode cX1_number 33 = .ok (.istore 6, 2) := by decide +kernel
theorem V.dX1_number_35 : decode cX1_number 35 = .ok (.iload 8, 2) := by decide +kernel
theorem V.dX1_number_37 : decode cX1_number 37 = .ok (.bipush 7, 2) := by decide +kernel
theorem V.dX1_number_39 : decode cX1_number 39 = .ok (.if_icmp .ge 21, 3) := by decide +kernel
theorem V.dX1_number_42 : decode cX1_number 42 = .ok (.iload 6, 2) := by decide +kernel
theorem V.dX1_number_44 : decode cX1_number 44 = .ok (.iload 8, 2) := by decide +kernel
theorem V.dX1_number_46 : decode cX1_number 46 = .ok (.iload_n 2, 1) := by decide +kernel
theorem V.dX1_number_47 : decode cX1_number 47 = .ok (.invokestatic 77, 3) := by decide +kernel
theorem V.dX1_number_50 : decode cX1_number 50 = .ok (.ifCond .ne 10, 3) := by decide +kernel
theorem V.dX1_number_53 : decode cX1_number 53 = .ok (.aload_n 0, 1) := by decide +kernel
theorem V.dX1_number_54 : decode cX1_number 54 = .ok (.iconst 4, 1) := by decide +kernel
theorem V.dX1_number_55 : decode cX1_number 55 = .ok (.iload 7, 2) := by decide +kernel
theorem V.dX1_number_57 : decode cX1_number 57 = .ok (.invokevirtual 68, 3) := by decide +kernel
theorem V.dX1_number_60 : decode cX1_number 60 = .ok (.lload_n 3, 1) := by decide +kernel
theorem V.dX1_number_61 : decode cX1_number 61 = .ok (.iload 6, 2) := by decide +kernel
theorem V.dX1_number_63 : decode cX1_number 63 = .ok (.bipush 127, 2) := by decide +kernel
theorem V.dX1_number_65 : decode cX1_number 65 = .ok (.iand, 1) := by decide +kernel
theorem V.dX1_number_66 : decode cX1_number 66 = .ok (.i2l, 1) := by decide +kernel
theorem V.dX1_number_67 : decode cX1_number 67 = .ok (.iload 5, 2) := by decide +kernel
theorem V.dX1_number_69 : decode cX1_number 69 = .ok (.lshl, 1) := by decide +kernel
theorem V.dX1_number_70 : decode cX1_number 70 = .ok (.lor, 1) := by decide +kernel
theorem V.dX1_number_71 : decode cX1_number 71 = .ok (.lstore_n 3, 1) := by decide +kernel
theorem V.dX1_number_72 : decode cX1_number 72 = .ok (.iinc 5 7, 3) := by decide +kernel
theorem V.dX1_number_75 : decode cX1_number 75 = .ok (.goto (-65), 3) := by decide +kernel
theorem V.dX1_number_78 : decode cX1_number 78 = .ok (.iload_n 2, 1) := by decide +kernel
theorem V.dX1_number_79 : decode cX1_number 79 = .ok (.ifCond .eq 29, 3) := by decide +kernel
theorem V.dX1_number_82 : decode cX1_number 82 = .ok (.iload 5, 2) := by decide +kernel
theorem V.dX1_number_84 : decode cX1_number 84 = .ok (.bipush 64, 2) := by decide +kernel
theorem V.dX1_number_86 : decode cX1_number 86 = .ok (.if_icmp .ge 22, 3) := by decide +kernel
theorem V.dX1_number_89 : decode cX1_number 89 = .ok (.iload 6, 2) := by decide +kernel
theorem V.dX1_number_91 : decode cX1_number 91 = .ok (.bipush 64, 2) := by decide +kernel
theorem V.dX1_number_93 : decode cX1_number 93 = .ok (.iand, 1) := by decide +kernel
theorem V.dX1_number_94 : decode cX1_number 94 = .ok (.ifCond .eq 14, 3) := by decide +kernel
theorem V.dX1_number_97 : decode cX1_number 97 = .ok (.lload_n 3, 1) := by decide +kernel
theorem V.dX1_number_98 : decode cX1_number 98 = .ok (.ldc2_w 81, 3) := by decide +kernel
theorem V.dX1_number_101 : decode cX1_number 101 = .ok (.iload 5, 2) := by decide +kernel
theorem V.dX1_number_103 : decode cX1_number 103 = .ok (.lshl, 1) := by decide +kernel
theorem V.dX1_number_104 : decode cX1_number 104 = .ok (.lor, 1) := by decide +kernel
theorem V.dX1_number_105 : decode cX1_number 105 = .ok (.goto 4, 3) := by decide +kernel
theorem V.dX1_number_108 : decode cX1_number 108 = .ok (.lload_n 3, 1) := by decide +kernel
theorem V.dX1_number_109 : decode cX1_number 109 = .ok (.lreturn, 1) := by decide +kernel
theorem V.mdX1_73 : MD RX1 73 yX1_take cX1_take 2 (some .int) 0 := ⟨Or.inl q1289, q361, q1292, by decide, by decide, by decide +kernel⟩
theorem V.mdX1_77 : MD RX1 77 yX1_isLast cX1_isLast 4 (some .boolean) 3 := ⟨Or.inl q1371, q361, q1373, by decide, by decide, by decide +kernel⟩
/-! ModuleEngine$Bytes.number(IZ)J -/
def V.Byt_number_p60 (rec10 : HS → Nat → Int32 → Int32 → Int64 → Int32 → Int32 → Option ((Nat ⊕ Int64) × HS)) (σ : HS) (x0 : Nat) (x1 : Int32) (x2 : Int32) (x3 : Int64) (x5 : Int32) (x6 : Int32) : Option ((Nat ⊕ Int64) × HS) :=
  bn (x3 ||| (lshl ((x6 &&& (127 : Int32)).toInt64) x5)) fun y1 =>
  bn (x5 + (7 : Int32)) fun y2 =>
  rec10 σ x0 x1 x2 y1 y2 x6
theorem V.gX1_number_p60 {X : CX} (rec10 : HS → Nat → Int32 → Int32 → Int64 → Int32 → Int32 → Option ((Nat ⊕ Int64) × HS)) (hrec10 : ∀ (σ : HS) (x0 : Nat) (x1 : Int32) (x2 : Int32) (x3 : Int64) (x5 : Int32) (x6 : Int32), G X RX1 "number" cX1_number 9 (some .long) 8 128 (enX enJ (cxz X)) 10 [(0, av x0), (1, iv x1), (2, iv x2), (3, jv x3), (5, iv x5), (6, iv x6)] [] σ (rec10 σ x0 x1 x2 x3 x5 x6)) (σ : HS) (x0 : Nat) (x1 : Int32) (x2 : Int32) (x3 : Int64) (x5 : Int32) (x6 : Int32) : G X RX1 "number" cX1_number 9 (some .long) 8 128 (enX enJ (cxz X)) 60 [(0, av x0), (1, iv x1), (2, iv x2), (3, jv x3), (5, iv x5), (6, iv x6)] [] σ (Byt_number_p60 rec10 σ x0 x1 x2 x3 x5 x6) := by
  unfold Byt_number_p60
  refine g_lload_n 3 3 dX1_number_60 rfl rfl ?_
  refine g_iload 5 dX1_number_61 rfl ?_
  refine g_bipush (v := 127) dX1_number_63 (by decide) ?_
  refine g_iand dX1_number_65 ?_
  refine g_i2l dX1_number_66 ?_
  refine g_iload 4 dX1_number_67 rfl ?_
  refine g_lshl dX1_number_69 ?_
  refine g_lor dX1_number_70 ?_
  refine g_nmJ (fun y1 => ?_)
  refine g_lstore_n 3 dX1_number_71 rfl (by decide) rfl ?_
  refine g_iincB (w := 7) 4 dX1_number_72 rfl (by decide) (by decide) (fun _ => rfl) (fun y2 => ?_)
  refine g_goto 10 dX1_number_75 (by decide) ?_
  refine G.sub [2, 3, 4, 1, 0, 5] rfl ?_
  exact hrec10 _ _ _ _ _ _ _
def V.Byt_number_p10  : Nat → HS → Nat → Int32 → Int32 → Int64 → Int32 → Int32 → Option ((Nat ⊕ Int64) × HS)
  | 0, _, _, _, _, _, _, _ => none
  | n + 1, σ, x0, x1, x2, x3, x5, x6 =>
    if x6 ≤ (127 : Int32) then (
      if x2 = 0 then (
        some (.inr x3, σ))
      else (
        if (64 : Int32) ≤ x5 then (
          some (.inr x3, σ))
        else (
          if (x6 &&& (64 : Int32)) = 0 then (
            some (.inr x3, σ))
          else (
            some (.inr (x3 ||| (lshl (-1 : Int64) x5)), σ)))))
    else (
      ck (tg σ x0 = 2) <|
      bn (gI σ x0 6) fun y1 =>
      bn (x1 - x5) fun y2 =>
      ck (tg σ x0 = 2) <| clT (Byt_take σ x0 ) fun r4 σ3 =>
      if (7 : Int32) ≤ y2 then (
        Byt_number_p60 (Byt_number_p10 n) σ3 x0 x1 x2 x3 x5 r4)
      else (
        cl (Byt_isLast σ3 r4 y2 x2) fun r6 σ5 =>
        if r6 = 0 then (
          ck (tg σ5 x0 = 2) <| clT (Byt_stop σ5 x0 (4 : Int32) y1) fun _ σ7 =>
          Byt_number_p60 (Byt_number_p10 n) σ7 x0 x1 x2 x3 x5 r4)
        else (
          Byt_number_p60 (Byt_number_p10 n) σ5 x0 x1 x2 x3 x5 r4)))
theorem V.gX1_number_p10 {X : CX}  : ∀ (n : Nat) (σ : HS) (x0 : Nat) (x1 : Int32) (x2 : Int32) (x3 : Int64) (x5 : Int32) (x6 : Int32), G X RX1 "number" cX1_number 9 (some .long) 8 128 (enX enJ (cxz X)) 10 [(0, av x0), (1, iv x1), (2, iv x2), (3, jv x3), (5, iv x5), (6, iv x6)] [] σ (Byt_number_p10 n σ x0 x1 x2 x3 x5 x6)
  | 0, σ, x0, x1, x2, x3, x5, x6 => by rw [Byt_number_p10]; exact G.nul
  | n + 1, σ, x0, x1, x2, x3, x5, x6 => by
    rw [Byt_number_p10]
    refine g_iload 5 dX1_number_10 rfl ?_
    refine g_bipush (v := 127) dX1_number_12 (by decide) ?_
    refine g_icmp_le 78 dX1_number_14 (by decide) ?_ ?_
    · refine g_iload_n 2 2 dX1_number_78 rfl rfl ?_
      refine g_if_eq 108 dX1_number_79 (by decide) ?_ ?_
      · refine g_lload_n 3 3 dX1_number_108 rfl rfl ?_
        exact g_lreturn rfl dX1_number_109
      · refine g_iload 4 dX1_number_82 rfl ?_
        refine g_bipush (v := 64) dX1_number_84 (by decide) ?_
        refine g_icmp_ge 108 dX1_number_86 (by decide) ?_ ?_
        · refine g_lload_n 3 3 dX1_number_108 rfl rfl ?_
          exact g_lreturn rfl dX1_number_109
        · refine g_iload 5 dX1_number_89 rfl ?_
          refine g_bipush (v := 64) dX1_number_91 (by decide) ?_
          refine g_iand dX1_number_93 ?_
          refine g_if_eq 108 dX1_number_94 (by decide) ?_ ?_
          · refine g_lload_n 3 3 dX1_number_108 rfl rfl ?_
            exact g_lreturn rfl dX1_number_109
          · refine g_lload_n 3 3 dX1_number_97 rfl rfl ?_
            refine g_ldc2 q1374 dX1_number_98 ?_
            refine g_iload 4 dX1_number_101 rfl ?_
            refine g_lshl dX1_number_103 ?_
            refine g_lor dX1_number_104 ?_
            refine g_goto 109 dX1_number_105 (by decide) ?_
            exact g_lreturn rfl dX1_number_109
    · refine g_aload_n 0 0 dX1_number_17 rfl rfl ?_
      refine g_getI fdX1_56 dX1_number_18 ?_
      refine g_nmI (fun y1 => ?_)
      refine g_istore dX1_number_21 (by decide) rfl ?_
      refine g_iload_n 1 2 dX1_number_23 rfl rfl ?_
      refine g_iload 5 dX1_number_24 rfl ?_
      refine g_isub dX1_number_26 ?_
      refine g_nmI (fun y2 => ?_)
      refine g_istore dX1_number_27 (by decide) rfl ?_
      refine g_aload_n 0 2 dX1_number_29 rfl rfl ?_
      refine g_callVT (fc := fun sς => Byt_take sς x0 ) (ci := 1) (as := []) rfl rfl rfl q1291 qs2 q1289 mdX1_73 (ctX1_take x0 ) rfl (Nat.le_of_ble_eq_true rfl) (Nat.le_of_ble_eq_true rfl) (Nat.le_of_ble_eq_true rfl) pu_I (by decide) dX1_number_30 (fun r4 σ3 => ?_)
      refine g_istore dX1_number_33 (by decide) rfl ?_
      refine g_iload 1 dX1_number_35 rfl ?_
      refine g_bipush (v := 7) dX1_number_37 (by decide) ?_
      refine g_icmp_ge 60 dX1_number_39 (by decide) ?_ ?_
      · refine G.sub [3, 4, 5, 6, 7, 0] rfl ?_
        exact gX1_number_p60 (Byt_number_p10 n) (gX1_number_p10 n) _ _ _ _ _ _ _
      · refine g_iload 0 dX1_number_42 rfl ?_
        refine g_iload 1 dX1_number_44 rfl ?_
        refine g_iload_n 2 5 dX1_number_46 rfl rfl ?_
        refine g_callS (fc := fun sς => Byt_isLast sς r4 y2 x2) (as := [iv r4, iv y2, iv x2]) q1372 mdX1_77 (ctX1_isLast r4 y2 x2) rfl (Nat.le_of_ble_eq_true rfl) (Nat.le_of_ble_eq_true rfl) (Nat.le_of_ble_eq_true rfl) pu_I dX1_number_47 (fun r6 σ5 => ?_)
        refine g_if_ne 60 dX1_number_50 (by decide) ?_ ?_
        · refine G.sub [3, 4, 5, 6, 7, 0] rfl ?_
          exact gX1_number_p60 (Byt_number_p10 n) (gX1_number_p10 n) _ _ _ _ _ _ _
        · refine g_aload_n 0 3 dX1_number_53 rfl rfl ?_
          refine g_iconst (v := 4) dX1_number_54 (by decide) ?_
          refine g_iload 2 dX1_number_55 rfl ?_
          refine g_callVT (fc := fun sς => Byt_stop sς x0 (4 : Int32) y1) (ci := 1) (as := [iv (4 : Int32), iv y1]) rfl rfl rfl q1295 qs3 q1293 mdX1_68 (ctX1_stop x0 (4 : Int32) y1) rfl (Nat.le_of_ble_eq_true rfl) (Nat.le_of_ble_eq_true rfl) (Nat.le_of_ble_eq_true rfl) pu_V (by decide) dX1_number_57 (fun _ σ7 => ?_)
          refine G.sub [3, 4, 5, 6, 7, 0] rfl ?_
          exact gX1_number_p60 (Byt_number_p10 n) (gX1_number_p10 n) _ _ _ _ _ _ _
def V.Byt_number (σ : HS) (x0 : Nat) (x1 : Int32) (x2 : Int32) : Option ((Nat ⊕ Int64) × HS) :=
  Byt_number_p10 FU σ x0 x1 x2 (0 : Int64) (0 : Int32) (128 : Int32)
theorem V.ctX1_number (x0 : Nat) (x1 : Int32) (x2 : Int32) : Ct yX1_number  cX1_number 9 (some .long) 8 128 eXJ [av x0, iv x1, iv x2] (fun σ => Byt_number σ x0 x1 x2) := by
  refine Ct.of (own := RX1) (nm := "number") (desc := "(IZ)J") rfl (by decide) (Nat.le_of_ble_eq_true rfl) (by decide) (fun X σ => ?_)
  show G X RX1 "number" cX1_number 9 (some .long) 8 128 (enX enJ (cxz X)) 0 [(0, av x0), (1, iv x1), (2, iv x2)] [] σ (Byt_number σ x0 x1 x2)
  unfold Byt_number
  refine g_lconst (v := 0) dX1_number_0 (by decide) ?_
  refine g_lstore_n 3 dX1_number_1 rfl (by decide) rfl ?_
  refine g_iconst (v := 0) dX1_number_2 (by decide) ?_
  refine g_istore dX1_number_3 (by decide) rfl ?_
  refine g_sipush (v := 128) dX1_number_5 (by decide) ?_
  refine g_istore dX1_number_8 (by decide) rfl ?_
  refine G.sub [3, 4, 5, 2, 1, 0] rfl ?_
  exact gX1_number_p10 FU _ _ _ _ _ _ _
theorem V.dX1_whole_0 : decode cX1_whole 0 = .ok (.aload_n 0, 1) := by decide +kernel
theorem V.dX1_whole_1 : decode cX1_whole 1 = .ok (.bipush 32, 2) := by decide +kernel
theorem V.dX1_whole_3 : decode cX1_whole 3 = .ok (.iconst 0, 1) := by decide +kernel
theorem V.dX1_whole_4 : decode cX1_whole 4 = .ok (.invokevirtual 83, 3) := by decide +kernel
theorem V.dX1_whole_7 : decode cX1_whole 7 = .ok (.l2i, 1) := by decide +kernel
theorem V.dX1_whole_8 : decode cX1_whole 8 = .ok (.ireturn, 1) := by decide +kernel
theorem V.mdX1_83 : MD RX1 83 yX1_number cX1_number 9 (some .long) 2 := ⟨Or.inl q1367, q361, q1370, by decide, by decide, by decide +kernel⟩
/-! ModuleEngine$Bytes.whole()I -/
def V.Byt_whole (σ : HS) (x0 : Nat) : Option ((Nat ⊕ Int32) × HS) :=
  ck (tg σ x0 = 2) <| clT (Byt_number σ x0 (32 : Int32) (0 : Int32)) fun r2 σ1 =>
  some (.inr r2.toInt32, σ1)
theorem V.ctX1_whole (x0 : Nat) : Ct yX1_whole  cX1_whole 1 (some .int) 9 156 eXI [av x0] (fun σ => Byt_whole σ x0) := by
  refine Ct.of (own := RX1) (nm := "whole") (desc := "()I") rfl (by decide) (Nat.le_of_ble_eq_true rfl) (by decide) (fun X σ => ?_)
  show G X RX1 "whole" cX1_whole 1 (some .int) 9 156 (enX enI (cxz X)) 0 [(0, av x0)] [] σ (Byt_whole σ x0)
  unfold Byt_whole
  refine g_aload_n 0 0 dX1_whole_0 rfl rfl ?_
  refine g_bipush (v := 32) dX1_whole_1 (by decide) ?_
  refine g_iconst (v := 0) dX1_whole_3 (by decide) ?_
  refine g_callVT (fc := fun sς => Byt_number sς x0 (32 : Int32) (0 : Int32)) (ci := 1) (as := [iv (32 : Int32), iv (0 : Int32)]) rfl rfl rfl q1369 qs6 q1367 mdX1_83 (ctX1_number x0 (32 : Int32) (0 : Int32)) rfl (Nat.le_of_ble_eq_true rfl) (Nat.le_of_ble_eq_true rfl) (Nat.le_of_ble_eq_true rfl) pu_J (by decide) dX1_whole_4 (fun r2 σ1 => ?_)
  refine g_l2i dX1_whole_7 ?_
  exact g_ireturn rfl dX1_whole_8
theorem V.dX1_pass_0 : decode cX1_pass 0 = .ok (.aload_n 0, 1) := by decide +kernel
theorem V.dX1_pass_1 : decode cX1_pass 1 = .ok (.getfield 56, 3) := by decide +kernel
theorem V.dX1_pass_4 : decode cX1_pass 4 = .ok (.istore_n 2, 1) := by decide +kernel
theorem V.dX1_pass_5 : decode cX1_pass 5 = .ok (.iload_n 1, 1) := by decide +kernel
theorem V.dX1_pass_6 : decode cX1_pass 6 = .ok (.invokestatic 87, 3) := by decide +kernel
theorem V.dX1_pass_9 : decode cX1_pass 9 = .ok (.aload_n 0, 1) := by decide +kernel
theorem V.dX1_pass_10 : decode cX1_pass 10 = .ok (.getfield 59, 3) := by decide +kernel
theorem V.dX1_pass_13 : decode cX1_pass 13 = .ok (.aload_n 0, 1) := by decide +kernel
theorem V.dX1_pass_14 : decode cX1_pass 14 = .ok (.getfield 56, 3) := by decide +kernel
theorem V.dX1_pass_17 : decode cX1_pass 17 = .ok (.isub, 1) := by decide +kernel
theorem V.dX1_pass_18 : decode cX1_pass 18 = .ok (.i2l, 1) := by decide +kernel
theorem V.dX1_pass_19 : decode cX1_pass 19 = .ok (.lcmp, 1) := by decide +kernel
theorem V.dX1_pass_20 : decode cX1_pass 20 = .ok (.ifCond .le 12, 3) := by decide +kernel
theorem V.dX1_pass_23 : decode cX1_pass 23 = .ok (.aload_n 0, 1) := by decide +kernel
theorem V.dX1_pass_24 : decode cX1_pass 24 = .ok (.iconst 1, 1) := by decide +kernel
theorem V.dX1_pass_25 : decode cX1_pass 25 = .ok (.aload_n 0, 1) := by decide +kernel
theorem V.dX1_pass_26 : decode cX1_pass 26 = .ok (.getfield 59, 3) := by decide +kernel
theorem V.dX1_pass_29 : decode cX1_pass 29 = .ok (.invokevirtual 68, 3) := by decide +kernel
theorem V.dX1_pass_32 : decode cX1_pass 32 = .ok (.aload_n 0, 1) := by decide +kernel
theorem V.dX1_pass_33 : decode cX1_pass 33 = .ok (.dup, 1) := by decide +kernel
theorem V.dX1_pass_34 : decode cX1_pass 34 = .ok (.getfield 56, 3) := by decide +kernel
theorem V.dX1_pass_37 : decode cX1_pass 37 = .ok (.iload_n 1, 1) := by decide +kernel
theorem V.dX1_pass_38 : decode cX1_pass 38 = .ok (.iadd, 1) := by decide +kernel
theorem V.dX1_pass_39 : decode cX1_pass 39 = .ok (.putfield 56, 3) := by decide +kernel
theorem V.dX1_pass_42 : decode cX1_pass 42 = .ok (.iload_n 2, 1) := by decide +kernel
theorem V.dX1_pass_43 : decode cX1_pass 43 = .ok (.ireturn, 1) := by decide +kernel
theorem V.mdX1_87 : MD RX1 87 yX2_wide cX2_wide 1 (some .long) 1 := ⟨Or.inl q1375, q362, q1377, by decide, by decide, by decide +kernel⟩
/-! ModuleEngine$Bytes.pass(I)I -/
def V.Byt_pass_p32  (σ : HS) (x0 : Nat) (x1 : Int32) (x2 : Int32) : Option ((Nat ⊕ Int32) × HS) :=
  ck (tg σ x0 = 2) <|
  ck (tg σ x0 = 2) <| bn (sI σ x0 6 ((gI σ x0 6) + x1)) fun σ1 =>
  some (.inr x2, σ1)
theorem V.gX1_pass_p32 {X : CX}  (σ : HS) (x0 : Nat) (x1 : Int32) (x2 : Int32) : G X RX1 "pass" cX1_pass 3 (some .int) 7 107 (enX enI (cxz X)) 32 [(0, av x0), (1, iv x1), (2, iv x2)] [] σ (Byt_pass_p32 σ x0 x1 x2) := by
  unfold Byt_pass_p32
  refine g_aload_n 0 0 dX1_pass_32 rfl rfl ?_
  refine g_dup dX1_pass_33 rfl ?_
  refine g_getI fdX1_56 dX1_pass_34 ?_
  refine g_iload_n 1 1 dX1_pass_37 rfl rfl ?_
  refine g_iadd dX1_pass_38 ?_
  refine g_putI fpX1_56 dX1_pass_39 (fun σ1 => ?_)
  refine g_iload_n 2 2 dX1_pass_42 rfl rfl ?_
  exact g_ireturn rfl dX1_pass_43
def V.Byt_pass (σ : HS) (x0 : Nat) (x1 : Int32) : Option ((Nat ⊕ Int32) × HS) :=
  ck (tg σ x0 = 2) <|
  bn (gI σ x0 6) fun y1 =>
  cl (Mod_wide σ x1) fun r3 σ2 =>
  ck (tg σ2 x0 = 2) <|
  ck (tg σ2 x0 = 2) <|
  if r3 ≤ (((gI σ2 x0 7) - (gI σ2 x0 6)).toInt64) then (
    Byt_pass_p32 σ2 x0 x1 y1)
  else (
    ck (tg σ2 x0 = 2) <|
    ck (tg σ2 x0 = 2) <| clT (Byt_stop σ2 x0 (1 : Int32) (gI σ2 x0 7)) fun _ σ4 =>
    Byt_pass_p32 σ4 x0 x1 y1)
theorem V.ctX1_pass (x0 : Nat) (x1 : Int32) : Ct yX1_pass  cX1_pass 3 (some .int) 7 107 eXI [av x0, iv x1] (fun σ => Byt_pass σ x0 x1) := by
  refine Ct.of (own := RX1) (nm := "pass") (desc := "(I)I") rfl (by decide) (Nat.le_of_ble_eq_true rfl) (by decide) (fun X σ => ?_)
  show G X RX1 "pass" cX1_pass 3 (some .int) 7 107 (enX enI (cxz X)) 0 [(0, av x0), (1, iv x1)] [] σ (Byt_pass σ x0 x1)
  unfold Byt_pass
  refine g_aload_n 0 0 dX1_pass_0 rfl rfl ?_
  refine g_getI fdX1_56 dX1_pass_1 ?_
  refine g_nmI (fun y1 => ?_)
  refine g_istore_n 2 dX1_pass_4 rfl (by decide) rfl ?_
  refine g_iload_n 1 2 dX1_pass_5 rfl rfl ?_
  refine g_callS (fc := fun sς => Mod_wide sς x1) (as := [iv x1]) q1376 mdX1_87 (ctX2_wide x1) rfl (Nat.le_of_ble_eq_true rfl) (Nat.le_of_ble_eq_true rfl) (Nat.le_of_ble_eq_true rfl) pu_J dX1_pass_6 (fun r3 σ2 => ?_)
  refine g_aload_n 0 1 dX1_pass_9 rfl rfl ?_
  refine g_getI fdX1_59 dX1_pass_10 ?_
  refine g_aload_n 0 1 dX1_pass_13 rfl rfl ?_
  refine g_getI fdX1_56 dX1_pass_14 ?_
  refine g_isub dX1_pass_17 ?_
  refine g_i2l dX1_pass_18 ?_
  refine g_lcmp_le 32 dX1_pass_19 dX1_pass_20 (by decide) ?_ ?_
  · refine G.sub [1, 2, 0] rfl ?_
    exact gX1_pass_p32 _ _ _ _
  · refine g_aload_n 0 1 dX1_pass_23 rfl rfl ?_
    refine g_iconst (v := 1) dX1_pass_24 (by decide) ?_
    refine g_aload_n 0 1 dX1_pass_25 rfl rfl ?_
    refine g_getI fdX1_59 dX1_pass_26 ?_
    refine g_callVT (fc := fun sς => Byt_stop sς x0 (1 : Int32) (gI σ2 x0 7)) (ci := 1) (as := [iv (1 : Int32), iv (gI σ2 x0 7)]) rfl rfl rfl q1295 qs3 q1293 mdX1_68 (ctX1_stop x0 (1 : Int32) (gI σ2 x0 7)) rfl (Nat.le_of_ble_eq_true rfl) (Nat.le_of_ble_eq_true rfl) (Nat.le_of_ble_eq_true rfl) pu_V (by decide) dX1_pass_29 (fun _ σ4 => ?_)
    refine G.sub [1, 2, 0] rfl ?_
    exact gX1_pass_p32 _ _ _ _
theorem V.dX1_characterAt_0 : decode cX1_characterAt 0 = .ok (.aload_n 0, 1) := by decide +kernel
theorem V.dX1_characterAt_1 : decode cX1_characterAt 1 = .ok (.getfield 16, 3) := by decide +kernel
theorem V.dX1_characterAt_4 : decode cX1_characterAt 4 = .ok (.getfield 72, 3) := by decide +kernel
theorem V.dX1_characterAt_7 : decode cX1_characterAt 7 = .ok (.iload_n 1, 1) := by decide +kernel
theorem V.dX1_characterAt_8 : decode cX1_characterAt 8 = .ok (.baload, 1) := by decide +kernel
theorem V.dX1_characterAt_9 : decode cX1_characterAt 9 = .ok (.sipush 255, 3) := by decide +kernel
theorem V.dX1_characterAt_12 : decode cX1_characterAt 12 = .ok (.iand, 1) := by decide +kernel
theorem V.dX1_characterAt_13 : decode cX1_characterAt 13 = .ok (.istore_n 3, 1) := by decide +kernel
theorem V.dX1_characterAt_14 : decode cX1_characterAt 14 = .ok (.iload_n 3, 1) := by decide +kernel
theorem V.dX1_characterAt_15 : decode cX1_characterAt 15 = .ok (.sipush 128, 3) := by decide +kernel
theorem V.dX1_characterAt_18 : decode cX1_characterAt 18 = .ok (.if_icmp .ge 5, 3) := by decide +kernel
theorem V.dX1_characterAt_21 : decode cX1_characterAt 21 = .ok (.iconst 1, 1) := by decide +kernel
theorem V.dX1_characterAt_22 : decode cX1_characterAt 22 = .ok (.ireturn, 1) := by decide +kernel
theorem V.dX1_characterAt_23 : decode cX1_characterAt 23 = .ok (.iload_n 3, 1) := by decide +kernel
theorem V.dX1_characterAt_24 : decode cX1_characterAt 24 = .ok (.sipush 240, 3) := by decide +kernel
theorem V.dX1_characterAt_27 : decode cX1_characterAt 27 = .ok (.if_icmp .lt 7, 3) := by decide +kernel
theorem V.dX1_characterAt_30 : decode cX1_characterAt 30 = .ok (.iconst 4, 1) := by decide +kernel
theorem V.dX1_characterAt_31 : decode cX1_characterAt 31 = .ok (.goto 15, 3) := by decide +kernel
theorem V.dX1_characterAt_34 : decode cX1_characterAt 34 = .ok (.iload_n 3, 1) := by decide +kernel
theorem V.dX1_characterAt_35 : decode cX1_characterAt 35 = .ok (.sipush 224, 3) := by decide +kernel
theorem V.dX1_characterAt_38 : decode cX1_characterAt 38 = .ok (.if_icmp .lt 7, 3) := by decide +kernel
theorem V.dX1_characterAt_41 : decode cX1_characterAt 41 = .ok (.iconst 3, 1) := by decide +kernel
theorem V.dX1_characterAt_42 : decode cX1_characterAt 42 = .ok (.goto 4, 3) := by decide +kernel
theorem V.dX1_characterAt_45 : decode cX1_characterAt 45 = .ok (.iconst 2, 1) := by decide +kernel
theorem V.dX1_characterAt_46 : decode cX1_characterAt 46 = .ok (.istore 4, 2) := by decide +kernel
theorem V.dX1_characterAt_48 : decode cX1_characterAt 48 = .ok (.iload_n 3, 1) := by decide +kernel
theorem V.dX1_characterAt_49 : decode cX1_characterAt 49 = .ok (.sipush 192, 3) := by decide +kernel
theorem V.dX1_characterAt_52 : decode cX1_characterAt 52 = .ok (.if_icmp .lt 18, 3) := by decide +kernel
theorem V.dX1_characterAt_55 : decode cX1_characterAt 55 = .ok (.iload_n 3, 1) := by decide +kernel
theorem V.dX1_characterAt_56 : decode cX1_characterAt 56 = .ok (.sipush 247, 3) := by decide +kernel
theorem V.dX1_characterAt_59 : decode cX1_characterAt 59 = .ok (.if_icmp .gt 11, 3) := by decide +kernel
theorem V.dX1_characterAt_62 : decode cX1_characterAt 62 = .ok (.iload_n 1, 1) := by decide +kernel
theorem V.dX1_characterAt_63 : decode cX1_characterAt 63 = .ok (.iload 4, 2) := by decide +kernel
theorem V.dX1_characterAt_65 : decode cX1_characterAt 65 = .ok (.iadd, 1) := by decide +kernel
theorem V.dX1_characterAt_66 : decode cX1_characterAt 66 = .ok (.iload_n 2, 1) := by decide +kernel
theorem V.dX1_characterAt_67 : decode cX1_characterAt 67 = .ok (.if_icmp .le 5, 3) := by decide +kernel
theorem V.dX1_characterAt_70 : decode cX1_characterAt 70 = .ok (.iconst 0, 1) := by decide +kernel
theorem V.dX1_characterAt_71 : decode cX1_characterAt 71 = .ok (.ireturn, 1) := by decide +kernel
theorem V.dX1_characterAt_72 : decode cX1_characterAt 72 = .ok (.iload_n 3, 1) := by decide +kernel
theorem V.dX1_characterAt_73 : decode cX1_characterAt 73 = .ok (.iload 4, 2) := by decide +kernel
theorem V.dX1_characterAt_75 : decode cX1_characterAt 75 = .ok (.iconst 2, 1) := by decide +kernel
theorem V.dX1_characterAt_76 : decode cX1_characterAt 76 = .ok (.if_icmp .ne 8, 3) := by decide +kernel
theorem V.dX1_characterAt_79 : decode cX1_characterAt 79 = .ok (.bipush 31, 2) := by decide +kernel
theorem V.dX1_characterAt_81 : decode cX1_characterAt 81 = .ok (.goto 16, 3) := by decide +kernel
theorem V.dX1_characterAt_84 : decode cX1_characterAt 84 = .ok (.iload 4, 2) := by decide +kernel
theorem V.dX1_characterAt_86 : decode cX1_characterAt 86 = .ok (.iconst 3, 1) := by decide +kernel
theorem V.dX1_characterAt_87 : decode cX1_characterAt 87 = .ok (.if_icmp .ne 8, 3) := by decide +kernel
theorem V.dX1_characterAt_90 : decode cX1_characterAt 90 = .ok (.bipush 15, 2) := by decide +kernel
theorem V.dX1_characterAt_92 : decode cX1_characterAt 92 = .ok (.goto 5, 3) := by decide +kernel
theorem V.dX1_characterAt_95 : decode cX1_characterAt 95 = .ok (.bipush 7, 2) := by decide +kernel
theorem V.dX1_characterAt_97 : decode cX1_characterAt 97 = .ok (.iand, 1) := by decide +kernel
theorem V.dX1_characterAt_98 : decode cX1_characterAt 98 = .ok (.istore 5, 2) := by decide +kernel
theorem V.dX1_characterAt_100 : decode cX1_characterAt 100 = .ok (.iconst 1, 1) := by decide +kernel
theorem V.dX1_characterAt_101 : decode cX1_characterAt 101 = .ok (.istore 6, 2) := by decide +kernel
theorem V.dX1_characterAt_103 : decode cX1_characterAt 103 = .ok (.iload 6, 2) := by decide +kernel
theorem V.dX1_characterAt_105 : decode cX1_characterAt 105 = .ok (.iload 4, 2) := by decide +kernel
theorem V.dX1_characterAt_107 : decode cX1_characterAt 107 = .ok (.if_icmp .ge 51, 3) := by decide +kernel
theorem V.dX1_characterAt_110 : decode cX1_characterAt 110 = .ok (.aload_n 0, 1) := by decide +kernel
theorem V.dX1_characterAt_111 : decode cX1_characterAt 111 = .ok (.getfield 16, 3) := by decide +kernel
theorem V.dX1_characterAt_114 : decode cX1_characterAt 114 = .ok (.getfield 72, 3) := by decide +kernel
theorem V.dX1_characterAt_117 : decode cX1_characterAt 117 = .ok (.iload_n 1, 1) := by decide +kernel
theorem V.dX1_characterAt_118 : decode cX1_characterAt 118 = .ok (.iload 6, 2) := by decide +kernel
theorem V.dX1_characterAt_120 : decode cX1_characterAt 120 = .ok (.iadd, 1) := by decide +kernel
theorem V.dX1_characterAt_121 : decode cX1_characterAt 121 = .ok (.baload, 1) := by decide +kernel
theorem V.dX1_characterAt_122 : decode cX1_characterAt 122 = .ok (.sipush 255, 3) := by decide +kernel
theorem V.dX1_characterAt_125 : decode cX1_characterAt 125 = .ok (.iand, 1) := by decide +kernel
theorem V.dX1_characterAt_126 : decode cX1_characterAt 126 = .ok (.istore 7, 2) := by decide +kernel
theorem V.dX1_characterAt_128 : decode cX1_characterAt 128 = .ok (.iload 7, 2) := by decide +kernel
theorem V.dX1_characterAt_130 : decode cX1_characterAt 130 = .ok (.bipush 6, 2) := by decide +kernel
theorem V.dX1_characterAt_132 : decode cX1_characterAt 132 = .ok (.ishr, 1) := by decide +kernel
theorem V.dX1_characterAt_133 : decode cX1_characterAt 133 = .ok (.iconst 2, 1) := by decide +kernel
theorem V.dX1_characterAt_134 : decode cX1_characterAt 134 = .ok (.if_icmp .eq 5, 3) := by decide +kernel
theorem V.dX1_characterAt_137 : decode cX1_characterAt 137 = .ok (.iconst 0, 1) := by decide +kernel
theorem V.dX1_characterAt_138 : decode cX1_characterAt 138 = .ok (.ireturn, 1) := by decide +kernel
theorem V.dX1_characterAt_139 : decode cX1_characterAt 139 = .ok (.iload 5, 2) := by decide +kernel
theorem V.dX1_characterAt_141 : decode cX1_characterAt 141 = .ok (.bipush 6, 2) := by decide +kernel
theorem V.dX1_characterAt_143 : decode cX1_characterAt 143 = .ok (.ishl, 1) := by decide +kernel
theorem V.dX1_characterAt_144 : decode cX1_characterAt 144 = .ok (.iload 7, 2) := by decide +kernel
theorem V.dX1_characterAt_146 : decode cX1_characterAt 146 = .ok (.bipush 63, 2) := by decide +kernel
theorem V.dX1_characterAt_148 : decode cX1_characterAt 148 = .ok (.iand, 1) := by decide +kernel
theorem V.dX1_characterAt_149 : decode cX1_characterAt 149 = .ok (.ior, 1) := by decide +kernel
theorem V.dX1_characterAt_150 : decode cX1_characterAt 150 = .ok (.istore 5, 2) := by decide +kernel
theorem V.dX1_characterAt_152 : decode cX1_characterAt 152 = .ok (.iinc 6 1, 3) := by decide +kernel
theorem V.dX1_characterAt_155 : decode cX1_characterAt 155 = .ok (.goto (-52), 3) := by decide +kernel
theorem V.dX1_characterAt_158 : decode cX1_characterAt 158 = .ok (.iload 4, 2) := by decide +kernel
theorem V.dX1_characterAt_160 : decode cX1_characterAt 160 = .ok (.iconst 2, 1) := by decide +kernel
theorem V.dX1_characterAt_161 : decode cX1_characterAt 161 = .ok (.if_icmp .ne 19, 3) := by decide +kernel
theorem V.dX1_characterAt_164 : decode cX1_characterAt 164 = .ok (.iload 5, 2) := by decide +kernel
theorem V.dX1_characterAt_166 : decode cX1_characterAt 166 = .ok (.sipush 128, 3) := by decide +kernel
theorem V.dX1_characterAt_169 : decode cX1_characterAt 169 = .ok (.if_icmp .lt 7, 3) := by decide +kernel
theorem V.dX1_characterAt_172 : decode cX1_characterAt 172 = .ok (.iconst 1, 1) := by decide +kernel
theorem V.dX1_characterAt_173 : decode cX1_characterAt 173 = .ok (.goto 41, 3) := by decide +kernel
theorem V.dX1_characterAt_176 : decode cX1_characterAt 176 = .ok (.iconst 0, 1) := by decide +kernel
theorem V.dX1_characterAt_177 : decode cX1_characterAt 177 = .ok (.goto 37, 3) := by decide +kernel
theorem V.dX1_characterAt_180 : decode cX1_characterAt 180 = .ok (.iload 4, 2) := by decide +kernel
theorem V.dX1_characterAt_182 : decode cX1_characterAt 182 = .ok (.iconst 3, 1) := by decide +kernel
theorem V.dX1_characterAt_183 : decode cX1_characterAt 183 = .ok (.if_icmp .ne 19, 3) := by decide +kernel
theorem V.dX1_characterAt_186 : decode cX1_characterAt 186 = .ok (.iload 5, 2) := by decide +kernel
theorem V.dX1_characterAt_188 : decode cX1_characterAt 188 = .ok (.sipush 2048, 3) := by decide +kernel
theorem V.dX1_characterAt_191 : decode cX1_characterAt 191 = .ok (.if_icmp .lt 7, 3) := by decide +kernel
theorem V.dX1_characterAt_194 : decode cX1_characterAt 194 = .ok (.iconst 1, 1) := by decide +kernel
theorem V.dX1_characterAt_195 : decode cX1_characterAt 195 = .ok (.goto 19, 3) := by decide +kernel
theorem V.dX1_characterAt_198 : decode cX1_characterAt 198 = .ok (.iconst 0, 1) := by decide +kernel
theorem V.dX1_characterAt_199 : decode cX1_characterAt 199 = .ok (.goto 15, 3) := by decide +kernel
theorem V.dX1_characterAt_202 : decode cX1_characterAt 202 = .ok (.iload 5, 2) := by decide +kernel
theorem V.dX1_characterAt_204 : decode cX1_characterAt 204 = .ok (.ldc 105, 2) := by decide +kernel
theorem V.dX1_characterAt_206 : decode cX1_characterAt 206 = .ok (.if_icmp .lt 7, 3) := by decide +kernel
theorem V.dX1_characterAt_209 : decode cX1_characterAt 209 = .ok (.iconst 1, 1) := by decide +kernel
theorem V.dX1_characterAt_210 : decode cX1_characterAt 210 = .ok (.goto 4, 3) := by decide +kernel
theorem V.dX1_characterAt_213 : decode cX1_characterAt 213 = .ok (.iconst 0, 1) := by decide +kernel
theorem V.dX1_characterAt_214 : decode cX1_characterAt 214 = .ok (.istore 6, 2) := by decide +kernel
theorem V.dX1_characterAt_216 : decode cX1_characterAt 216 = .ok (.iload 6, 2) := by decide +kernel
theorem V.dX1_characterAt_218 : decode cX1_characterAt 218 = .ok (.ifCond .eq 29, 3) := by decide +kernel
theorem V.dX1_characterAt_221 : decode cX1_characterAt 221 = .ok (.iload 5, 2) := by decide +kernel
theorem V.dX1_characterAt_223 : decode cX1_characterAt 223 = .ok (.ldc 106, 2) := by decide +kernel
theorem V.dX1_characterAt_225 : decode cX1_characterAt 225 = .ok (.if_icmp .gt 22, 3) := by decide +kernel
theorem V.dX1_characterAt_228 : decode cX1_characterAt 228 = .ok (.iload 5, 2) := by decide +kernel
theorem V.dX1_characterAt_230 : decode cX1_characterAt 230 = .ok (.ldc 107, 2) := by decide +kernel
theorem V.dX1_characterAt_232 : decode cX1_characterAt 232 = .ok (.if_icmp .lt 10, 3) := by decide +kernel
theorem V.dX1_characterAt_235 : decode cX1_characterAt 235 = .ok (.iload 5, 2) := by decide +kernel
theorem V.dX1_characterAt_237 : decode cX1_characterAt 237 = .ok (.ldc 108, 2) := by decide +kernel
theorem V.dX1_characterAt_239 : decode cX1_characterAt 239 = .ok (.if_icmp .le 8, 3) := by decide +kernel
theorem V.dX1_characterAt_242 : decode cX1_characterAt 242 = .ok (.iload 4, 2) := by decide +kernel
theorem V.dX1_characterAt_244 : decode cX1_characterAt 244 = .ok (.goto 4, 3) := by decide +kernel
theorem V.dX1_characterAt_247 : decode cX1_characterAt 247 = .ok (.iconst 0, 1) := by decide +kernel
theorem V.dX1_characterAt_248 : decode cX1_characterAt 248 = .ok (.ireturn, 1) := by decide +kernel
/-! ModuleEngine$Bytes.characterAt(II)I -/
def V.Byt_characterAt_p242  (σ : HS) (x4 : Int32) : Option (Int32 × HS) :=
  some (x4, σ)
theorem V.gX1_characterAt_p242 {X : CX}  (σ : HS) (x4 : Int32) : G X RX1 "characterAt" cX1_characterAt 8 (some .int) 0 0 enI 242 [(4, iv x4)] [] σ (Byt_characterAt_p242 σ x4) := by
  unfold Byt_characterAt_p242
  refine g_iload 0 dX1_characterAt_242 rfl ?_
  refine g_goto 248 dX1_characterAt_244 (by decide) ?_
  exact g_ireturn rfl dX1_characterAt_248
def V.Byt_characterAt_p214  (σ : HS) (x4 : Int32) (x5 : Int32) (s0 : Int32) : Option (Int32 × HS) :=
  if s0 = 0 then (
    some ((0 : Int32), σ))
  else (
    if (1114111 : Int32) < x5 then (
      some ((0 : Int32), σ))
    else (
      if x5 < (55296 : Int32) then (
        Byt_characterAt_p242 σ x4)
      else (
        if x5 ≤ (57343 : Int32) then (
          some ((0 : Int32), σ))
        else (
          Byt_characterAt_p242 σ x4))))
theorem V.gX1_characterAt_p214 {X : CX}  (σ : HS) (x4 : Int32) (x5 : Int32) (s0 : Int32) : G X RX1 "characterAt" cX1_characterAt 8 (some .int) 0 0 enI 214 [(4, iv x4), (5, iv x5)] [iv s0] σ (Byt_characterAt_p214 σ x4 x5 s0) := by
  unfold Byt_characterAt_p214
  refine g_istore dX1_characterAt_214 (by decide) rfl ?_
  refine g_iload 0 dX1_characterAt_216 rfl ?_
  refine g_if_eq 247 dX1_characterAt_218 (by decide) ?_ ?_
  · refine g_iconst (v := 0) dX1_characterAt_247 (by decide) ?_
    exact g_ireturn rfl dX1_characterAt_248
  · refine g_iload 2 dX1_characterAt_221 rfl ?_
    refine g_ldc q1401 dX1_characterAt_223 ?_
    refine g_icmp_gt 247 dX1_characterAt_225 (by decide) ?_ ?_
    · refine g_iconst (v := 0) dX1_characterAt_247 (by decide) ?_
      exact g_ireturn rfl dX1_characterAt_248
    · refine g_iload 2 dX1_characterAt_228 rfl ?_
      refine g_ldc q1402 dX1_characterAt_230 ?_
      refine g_icmp_lt 242 dX1_characterAt_232 (by decide) ?_ ?_
      · refine G.sub [1] rfl ?_
        exact gX1_characterAt_p242 _ _
      · refine g_iload 2 dX1_characterAt_235 rfl ?_
        refine g_ldc q1403 dX1_characterAt_237 ?_
        refine g_icmp_le 247 dX1_characterAt_239 (by decide) ?_ ?_
        · refine g_iconst (v := 0) dX1_characterAt_247 (by decide) ?_
          exact g_ireturn rfl dX1_characterAt_248
        · refine G.sub [1] rfl ?_
          exact gX1_characterAt_p242 _ _
def V.Byt_characterAt_p103  : Nat → HS → Nat → Int32 → Int32 → Int32 → Int32 → Option (Int32 × HS)
  | 0, _, _, _, _, _, _ => none
  | n + 1, σ, x0, x1, x4, x5, x6 =>
    if x4 ≤ x6 then (
      if x4 = (2 : Int32) then (
        if x5 < (128 : Int32) then (
          Byt_characterAt_p214 σ x4 x5 (0 : Int32))
        else (
          Byt_characterAt_p214 σ x4 x5 (1 : Int32)))
      else (
        if x4 = (3 : Int32) then (
          if x5 < (2048 : Int32) then (
            Byt_characterAt_p214 σ x4 x5 (0 : Int32))
          else (
            Byt_characterAt_p214 σ x4 x5 (1 : Int32)))
        else (
          if x5 < (65536 : Int32) then (
            Byt_characterAt_p214 σ x4 x5 (0 : Int32))
          else (
            Byt_characterAt_p214 σ x4 x5 (1 : Int32)))))
    else (
      ck (tg σ x0 = 2) <|
      ck (tg σ (gR σ x0 3) = 3) <|
      ck (tg σ (gR σ (gR σ x0 3) 0) = 102 ∧ inb (x1 + x6) (ln σ (gR σ (gR σ x0 3) 0))) <|
      bn ((gI σ (gR σ (gR σ x0 3) 0) (ix (x1 + x6))) &&& (255 : Int32)) fun y1 =>
      if (y1 >>> ((6 : Int32) &&& 31)) = (2 : Int32) then (
        bn ((x5 <<< ((6 : Int32) &&& 31)) ||| (y1 &&& (63 : Int32))) fun y2 =>
        bn (x6 + (1 : Int32)) fun y3 =>
        Byt_characterAt_p103 n σ x0 x1 x4 y2 y3)
      else (
        some ((0 : Int32), σ)))
theorem V.gX1_characterAt_p103 {X : CX}  : ∀ (n : Nat) (σ : HS) (x0 : Nat) (x1 : Int32) (x4 : Int32) (x5 : Int32) (x6 : Int32), G X RX1 "characterAt" cX1_characterAt 8 (some .int) 0 0 enI 103 [(0, av x0), (1, iv x1), (4, iv x4), (5, iv x5), (6, iv x6)] [] σ (Byt_characterAt_p103 n σ x0 x1 x4 x5 x6)
  | 0, σ, x0, x1, x4, x5, x6 => by rw [Byt_characterAt_p103]; exact G.nul
  | n + 1, σ, x0, x1, x4, x5, x6 => by
    rw [Byt_characterAt_p103]
    refine g_iload 4 dX1_characterAt_103 rfl ?_
    refine g_iload 2 dX1_characterAt_105 rfl ?_
    refine g_icmp_ge 158 dX1_characterAt_107 (by decide) ?_ ?_
    · refine g_iload 2 dX1_characterAt_158 rfl ?_
      refine g_iconst (v := 2) dX1_characterAt_160 (by decide) ?_
      refine g_icmp_ne 180 dX1_characterAt_161 (by decide) ?_ ?_
      · refine g_iload 2 dX1_characterAt_180 rfl ?_
        refine g_iconst (v := 3) dX1_characterAt_182 (by decide) ?_
        refine g_icmp_ne 202 dX1_characterAt_183 (by decide) ?_ ?_
        · refine g_iload 3 dX1_characterAt_202 rfl ?_
          refine g_ldc q1400 dX1_characterAt_204 ?_
          refine g_icmp_lt 213 dX1_characterAt_206 (by decide) ?_ ?_
          · refine g_iconst (v := 0) dX1_characterAt_213 (by decide) ?_
            refine G.sub [2, 3] rfl ?_
            exact gX1_characterAt_p214 _ _ _ _
          · refine g_iconst (v := 1) dX1_characterAt_209 (by decide) ?_
            refine g_goto 214 dX1_characterAt_210 (by decide) ?_
            refine G.sub [2, 3] rfl ?_
            exact gX1_characterAt_p214 _ _ _ _
        · refine g_iload 3 dX1_characterAt_186 rfl ?_
          refine g_sipush (v := 2048) dX1_characterAt_188 (by decide) ?_
          refine g_icmp_lt 198 dX1_characterAt_191 (by decide) ?_ ?_
          · refine g_iconst (v := 0) dX1_characterAt_198 (by decide) ?_
            refine g_goto 214 dX1_characterAt_199 (by decide) ?_
            refine G.sub [2, 3] rfl ?_
            exact gX1_characterAt_p214 _ _ _ _
          · refine g_iconst (v := 1) dX1_characterAt_194 (by decide) ?_
            refine g_goto 214 dX1_characterAt_195 (by decide) ?_
            refine G.sub [2, 3] rfl ?_
            exact gX1_characterAt_p214 _ _ _ _
      · refine g_iload 3 dX1_characterAt_164 rfl ?_
        refine g_sipush (v := 128) dX1_characterAt_166 (by decide) ?_
        refine g_icmp_lt 176 dX1_characterAt_169 (by decide) ?_ ?_
        · refine g_iconst (v := 0) dX1_characterAt_176 (by decide) ?_
          refine g_goto 214 dX1_characterAt_177 (by decide) ?_
          refine G.sub [2, 3] rfl ?_
          exact gX1_characterAt_p214 _ _ _ _
        · refine g_iconst (v := 1) dX1_characterAt_172 (by decide) ?_
          refine g_goto 214 dX1_characterAt_173 (by decide) ?_
          refine G.sub [2, 3] rfl ?_
          exact gX1_characterAt_p214 _ _ _ _
    · refine g_aload_n 0 0 dX1_characterAt_110 rfl rfl ?_
      refine g_getR fdX1_16 dX1_characterAt_111 ?_
      refine g_getR fdX1_72 dX1_characterAt_114 ?_
      refine g_iload_n 1 1 dX1_characterAt_117 rfl rfl ?_
      refine g_iload 4 dX1_characterAt_118 rfl ?_
      refine g_iadd dX1_characterAt_120 ?_
      refine g_baload dX1_characterAt_121 ?_
      refine g_sipush (v := 255) dX1_characterAt_122 (by decide) ?_
      refine g_iand dX1_characterAt_125 ?_
      refine g_nmI (fun y1 => ?_)
      refine g_istore dX1_characterAt_126 (by decide) rfl ?_
      refine g_iload 0 dX1_characterAt_128 rfl ?_
      refine g_bipush (v := 6) dX1_characterAt_130 (by decide) ?_
      refine g_ishr dX1_characterAt_132 ?_
      refine g_iconst (v := 2) dX1_characterAt_133 (by decide) ?_
      refine g_icmp_eq 139 dX1_characterAt_134 (by decide) ?_ ?_
      · refine g_iload 4 dX1_characterAt_139 rfl ?_
        refine g_bipush (v := 6) dX1_characterAt_141 (by decide) ?_
        refine g_ishl dX1_characterAt_143 ?_
        refine g_iload 0 dX1_characterAt_144 rfl ?_
        refine g_bipush (v := 63) dX1_characterAt_146 (by decide) ?_
        refine g_iand dX1_characterAt_148 ?_
        refine g_ior dX1_characterAt_149 ?_
        refine g_nmI (fun y2 => ?_)
        refine g_istore dX1_characterAt_150 (by decide) rfl ?_
        refine g_iincB (w := 1) 5 dX1_characterAt_152 rfl (by decide) (by decide) (fun _ => rfl) (fun y3 => ?_)
        refine g_goto 103 dX1_characterAt_155 (by decide) ?_
        refine G.sub [3, 4, 5, 1, 0] rfl ?_
        exact gX1_characterAt_p103 n _ _ _ _ _ _
      · refine g_iconst (v := 0) dX1_characterAt_137 (by decide) ?_
        exact g_ireturn rfl dX1_characterAt_138
def V.Byt_characterAt_p97  (σ : HS) (x0 : Nat) (x1 : Int32) (x4 : Int32) (s0 : Int32) (s1 : Int32) : Option (Int32 × HS) :=
  bn (s1 &&& s0) fun y1 =>
  Byt_characterAt_p103 FU σ x0 x1 x4 y1 (1 : Int32)
theorem V.gX1_characterAt_p97 {X : CX}  (σ : HS) (x0 : Nat) (x1 : Int32) (x4 : Int32) (s0 : Int32) (s1 : Int32) : G X RX1 "characterAt" cX1_characterAt 8 (some .int) 0 0 enI 97 [(0, av x0), (1, iv x1), (4, iv x4)] [iv s0, iv s1] σ (Byt_characterAt_p97 σ x0 x1 x4 s0 s1) := by
  unfold Byt_characterAt_p97
  refine g_iand dX1_characterAt_97 ?_
  refine g_nmI (fun y1 => ?_)
  refine g_istore dX1_characterAt_98 (by decide) rfl ?_
  refine g_iconst (v := 1) dX1_characterAt_100 (by decide) ?_
  refine g_istore dX1_characterAt_101 (by decide) rfl ?_
  refine G.sub [2, 3, 4, 1, 0] rfl ?_
  exact gX1_characterAt_p103 FU _ _ _ _ _ _
def V.Byt_characterAt_p46  (σ : HS) (x0 : Nat) (x1 : Int32) (x2 : Int32) (x3 : Int32) (s0 : Int32) : Option (Int32 × HS) :=
  if x3 < (192 : Int32) then (
    some ((0 : Int32), σ))
  else (
    if (247 : Int32) < x3 then (
      some ((0 : Int32), σ))
    else (
      if (x1 + s0) ≤ x2 then (
        if s0 = (2 : Int32) then (
          Byt_characterAt_p97 σ x0 x1 s0 (31 : Int32) x3)
        else (
          if s0 = (3 : Int32) then (
            Byt_characterAt_p97 σ x0 x1 s0 (15 : Int32) x3)
          else (
            Byt_characterAt_p97 σ x0 x1 s0 (7 : Int32) x3)))
      else (
        some ((0 : Int32), σ))))
theorem V.gX1_characterAt_p46 {X : CX}  (σ : HS) (x0 : Nat) (x1 : Int32) (x2 : Int32) (x3 : Int32) (s0 : Int32) : G X RX1 "characterAt" cX1_characterAt 8 (some .int) 0 0 enI 46 [(0, av x0), (1, iv x1), (2, iv x2), (3, iv x3)] [iv s0] σ (Byt_characterAt_p46 σ x0 x1 x2 x3 s0) := by
  unfold Byt_characterAt_p46
  refine g_istore dX1_characterAt_46 (by decide) rfl ?_
  refine g_iload_n 3 4 dX1_characterAt_48 rfl rfl ?_
  refine g_sipush (v := 192) dX1_characterAt_49 (by decide) ?_
  refine g_icmp_lt 70 dX1_characterAt_52 (by decide) ?_ ?_
  · refine g_iconst (v := 0) dX1_characterAt_70 (by decide) ?_
    exact g_ireturn rfl dX1_characterAt_71
  · refine g_iload_n 3 4 dX1_characterAt_55 rfl rfl ?_
    refine g_sipush (v := 247) dX1_characterAt_56 (by decide) ?_
    refine g_icmp_gt 70 dX1_characterAt_59 (by decide) ?_ ?_
    · refine g_iconst (v := 0) dX1_characterAt_70 (by decide) ?_
      exact g_ireturn rfl dX1_characterAt_71
    · refine g_iload_n 1 2 dX1_characterAt_62 rfl rfl ?_
      refine g_iload 0 dX1_characterAt_63 rfl ?_
      refine g_iadd dX1_characterAt_65 ?_
      refine g_iload_n 2 3 dX1_characterAt_66 rfl rfl ?_
      refine g_icmp_le 72 dX1_characterAt_67 (by decide) ?_ ?_
      · refine g_iload_n 3 4 dX1_characterAt_72 rfl rfl ?_
        refine g_iload 0 dX1_characterAt_73 rfl ?_
        refine g_iconst (v := 2) dX1_characterAt_75 (by decide) ?_
        refine g_icmp_ne 84 dX1_characterAt_76 (by decide) ?_ ?_
        · refine g_iload 0 dX1_characterAt_84 rfl ?_
          refine g_iconst (v := 3) dX1_characterAt_86 (by decide) ?_
          refine g_icmp_ne 95 dX1_characterAt_87 (by decide) ?_ ?_
          · refine g_bipush (v := 7) dX1_characterAt_95 (by decide) ?_
            refine G.sub [1, 2, 0] rfl ?_
            exact gX1_characterAt_p97 _ _ _ _ _ _
          · refine g_bipush (v := 15) dX1_characterAt_90 (by decide) ?_
            refine g_goto 97 dX1_characterAt_92 (by decide) ?_
            refine G.sub [1, 2, 0] rfl ?_
            exact gX1_characterAt_p97 _ _ _ _ _ _
        · refine g_bipush (v := 31) dX1_characterAt_79 (by decide) ?_
          refine g_goto 97 dX1_characterAt_81 (by decide) ?_
          refine G.sub [1, 2, 0] rfl ?_
          exact gX1_characterAt_p97 _ _ _ _ _ _
      · refine g_iconst (v := 0) dX1_characterAt_70 (by decide) ?_
        exact g_ireturn rfl dX1_characterAt_71
def V.Byt_characterAt (σ : HS) (x0 : Nat) (x1 : Int32) (x2 : Int32) : Option (Int32 × HS) :=
  ck (tg σ x0 = 2) <|
  ck (tg σ (gR σ x0 3) = 3) <|
  ck (tg σ (gR σ (gR σ x0 3) 0) = 102 ∧ inb x1 (ln σ (gR σ (gR σ x0 3) 0))) <|
  bn ((gI σ (gR σ (gR σ x0 3) 0) (ix x1)) &&& (255 : Int32)) fun y1 =>
  if (128 : Int32) ≤ y1 then (
    if y1 < (240 : Int32) then (
      if y1 < (224 : Int32) then (
        Byt_characterAt_p46 σ x0 x1 x2 y1 (2 : Int32))
      else (
        Byt_characterAt_p46 σ x0 x1 x2 y1 (3 : Int32)))
    else (
      Byt_characterAt_p46 σ x0 x1 x2 y1 (4 : Int32)))
  else (
    some ((1 : Int32), σ))
theorem V.ctX1_characterAt (x0 : Nat) (x1 : Int32) (x2 : Int32) : Ct yX1_characterAt  cX1_characterAt 8 (some .int) 0 0 eI [av x0, iv x1, iv x2] (fun σ => Byt_characterAt σ x0 x1 x2) := by
  refine Ct.of (own := RX1) (nm := "characterAt") (desc := "(II)I") rfl (by decide) (Nat.le_of_ble_eq_true rfl) (by decide) (fun X σ => ?_)
  show G X RX1 "characterAt" cX1_characterAt 8 (some .int) 0 0 enI 0 [(0, av x0), (1, iv x1), (2, iv x2)] [] σ (Byt_characterAt σ x0 x1 x2)
  unfold Byt_characterAt
  refine g_aload_n 0 0 dX1_characterAt_0 rfl rfl ?_
  refine g_getR fdX1_16 dX1_characterAt_1 ?_
  refine g_getR fdX1_72 dX1_characterAt_4 ?_
  refine g_iload_n 1 1 dX1_characterAt_7 rfl rfl ?_
  refine g_baload dX1_characterAt_8 ?_
  refine g_sipush (v := 255) dX1_characterAt_9 (by decide) ?_
  refine g_iand dX1_characterAt_12 ?_
  refine g_nmI (fun y1 => ?_)
  refine g_istore_n 3 dX1_characterAt_13 rfl (by decide) rfl ?_
  refine g_iload_n 3 0 dX1_characterAt_14 rfl rfl ?_
  refine g_sipush (v := 128) dX1_characterAt_15 (by decide) ?_
  refine g_icmp_ge 23 dX1_characterAt_18 (by decide) ?_ ?_
  · refine g_iload_n 3 0 dX1_characterAt_23 rfl rfl ?_
    refine g_sipush (v := 240) dX1_characterAt_24 (by decide) ?_
    refine g_icmp_lt 34 dX1_characterAt_27 (by decide) ?_ ?_
    · refine g_iload_n 3 0 dX1_characterAt_34 rfl rfl ?_
      refine g_sipush (v := 224) dX1_characterAt_35 (by decide) ?_
      refine g_icmp_lt 45 dX1_characterAt_38 (by decide) ?_ ?_
      · refine g_iconst (v := 2) dX1_characterAt_45 (by decide) ?_
        refine G.sub [1, 2, 3, 0] rfl ?_
        exact gX1_characterAt_p46 _ _ _ _ _ _
      · refine g_iconst (v := 3) dX1_characterAt_41 (by decide) ?_
        refine g_goto 46 dX1_characterAt_42 (by decide) ?_
        refine G.sub [1, 2, 3, 0] rfl ?_
        exact gX1_characterAt_p46 _ _ _ _ _ _
    · refine g_iconst (v := 4) dX1_characterAt_30 (by decide) ?_
      refine g_goto 46 dX1_characterAt_31 (by decide) ?_
      refine G.sub [1, 2, 3, 0] rfl ?_
      exact gX1_characterAt_p46 _ _ _ _ _ _
  · refine g_iconst (v := 1) dX1_characterAt_21 (by decide) ?_
    exact g_ireturn rfl dX1_characterAt_22
theorem V.dX1_text_0 : decode cX1_text 0 = .ok (.aload_n 0, 1) := by decide +kernel
theorem V.dX1_text_1 : decode cX1_text 1 = .ok (.invokevirtual 91, 3) := by decide +kernel
theorem V.dX1_text_4 : decode cX1_text 4 = .ok (.istore_n 2, 1) := by decide +kernel
theorem V.dX1_text_5 : decode cX1_text 5 = .ok (.aload_n 0, 1) := by decide +kernel
theorem V.dX1_text_6 : decode cX1_text 6 = .ok (.iload_n 2, 1) := by decide +kernel
theorem V.dX1_text_7 : decode cX1_text 7 = .ok (.invokevirtual 94, 3) := by decide +kernel
theorem V.dX1_text_10 : decode cX1_text 10 = .ok (.istore_n 3, 1) := by decide +kernel
theorem V.dX1_text_11 : decode cX1_text 11 = .ok (.iload_n 3, 1) := by decide +kernel
theorem V.dX1_text_12 : decode cX1_text 12 = .ok (.istore 4, 2) := by decide +kernel
theorem V.dX1_text_14 : decode cX1_text 14 = .ok (.iload 4, 2) := by decide +kernel
theorem V.dX1_text_16 : decode cX1_text 16 = .ok (.iload_n 3, 1) := by decide +kernel
theorem V.dX1_text_17 : decode cX1_text 17 = .ok (.iload_n 2, 1) := by decide +kernel
theorem V.dX1_text_18 : decode cX1_text 18 = .ok (.iadd, 1) := by decide +kernel
theorem V.dX1_text_19 : decode cX1_text 19 = .ok (.if_icmp .ge 37, 3) := by decide +kernel
theorem V.dX1_text_22 : decode cX1_text 22 = .ok (.aload_n 0, 1) := by decide +kernel
theorem V.dX1_text_23 : decode cX1_text 23 = .ok (.iload 4, 2) := by decide +kernel
theorem V.dX1_text_25 : decode cX1_text 25 = .ok (.iload_n 3, 1) := by decide +kernel
theorem V.dX1_text_26 : decode cX1_text 26 = .ok (.iload_n 2, 1) := by decide +kernel
theorem V.dX1_text_27 : decode cX1_text 27 = .ok (.iadd, 1) := by decide +kernel
theorem V.dX1_text_28 : decode cX1_text 28 = .ok (.invokevirtual 98, 3) := by decide +kernel
theorem V.dX1_text_31 : decode cX1_text 31 = .ok (.istore 5, 2) := by decide +kernel
theorem V.dX1_text_33 : decode cX1_text 33 = .ok (.iload 5, 2) := by decide +kernel
theorem V.dX1_text_35 : decode cX1_text 35 = .ok (.ifCond .ne 11, 3) := by decide +kernel
theorem V.dX1_text_38 : decode cX1_text 38 = .ok (.aload_n 0, 1) := by decide +kernel
theorem V.dX1_text_39 : decode cX1_text 39 = .ok (.bipush 9, 2) := by decide +kernel
theorem V.dX1_text_41 : decode cX1_text 41 = .ok (.iload 4, 2) := by decide +kernel
theorem V.dX1_text_43 : decode cX1_text 43 = .ok (.invokevirtual 68, 3) := by decide +kernel
theorem V.dX1_text_46 : decode cX1_text 46 = .ok (.iload 4, 2) := by decide +kernel
theorem V.dX1_text_48 : decode cX1_text 48 = .ok (.iload 5, 2) := by decide +kernel
theorem V.dX1_text_50 : decode cX1_text 50 = .ok (.iadd, 1) := by decide +kernel
theorem V.dX1_text_51 : decode cX1_text 51 = .ok (.istore 4, 2) := by decide +kernel
theorem V.dX1_text_53 : decode cX1_text 53 = .ok (.goto (-39), 3) := by decide +kernel
theorem V.dX1_text_56 : decode cX1_text 56 = .ok (.aload_n 1, 1) := by decide +kernel
theorem V.dX1_text_57 : decode cX1_text 57 = .ok (.iload_n 3, 1) := by decide +kernel
theorem V.dX1_text_58 : decode cX1_text 58 = .ok (.invokevirtual 101, 3) := by decide +kernel
theorem V.dX1_text_61 : decode cX1_text 61 = .ok (.aload_n 1, 1) := by decide +kernel
theorem V.dX1_text_62 : decode cX1_text 62 = .ok (.iload_n 2, 1) := by decide +kernel
theorem V.dX1_text_63 : decode cX1_text 63 = .ok (.invokevirtual 101, 3) := by decide +kernel
theorem V.dX1_text_66 : decode cX1_text 66 = .ok (.return_, 1) := by decide +kernel
theorem V.mdX1_91 : MD RX1 91 yX1_whole cX1_whole 1 (some .int) 0 := ⟨Or.inl q1363, q361, q1366, by decide, by decide, by decide +kernel⟩
theorem V.mdX1_94 : MD RX1 94 yX1_pass cX1_pass 3 (some .int) 1 := ⟨Or.inl q1392, q361, q1395, by decide, by decide, by decide +kernel⟩
theorem V.mdX1_101 : MD RX1 101 yX3_add cX3_add 4 none 1 := ⟨Or.inl q1404, q363, q1407, by decide, by decide, by decide +kernel⟩
theorem V.mdX1_98 : MD RX1 98 yX1_characterAt cX1_characterAt 8 (some .int) 2 := ⟨Or.inl q1396, q361, q1399, by decide, by decide, by decide +kernel⟩
/-! ModuleEngine$Bytes.text(LModuleEngine$Row;)V -/
def V.Byt_text_p46 (rec14 : HS → Nat → Nat → Int32 → Int32 → Int32 → Option ((Nat ⊕ Unit) × HS)) (σ : HS) (x0 : Nat) (x1 : Nat) (x2 : Int32) (x3 : Int32) (x4 : Int32) (x5 : Int32) : Option ((Nat ⊕ Unit) × HS) :=
  bn (x4 + x5) fun y1 =>
  rec14 σ x0 x1 x2 x3 y1
theorem V.gX1_text_p46 {X : CX} (rec14 : HS → Nat → Nat → Int32 → Int32 → Int32 → Option ((Nat ⊕ Unit) × HS)) (hrec14 : ∀ (σ : HS) (x0 : Nat) (x1 : Nat) (x2 : Int32) (x3 : Int32) (x4 : Int32), G X RX1 "text" cX1_text 6 none 10 176 (enX enV (cxz X)) 14 [(0, av x0), (1, av x1), (2, iv x2), (3, iv x3), (4, iv x4)] [] σ (rec14 σ x0 x1 x2 x3 x4)) (σ : HS) (x0 : Nat) (x1 : Nat) (x2 : Int32) (x3 : Int32) (x4 : Int32) (x5 : Int32) : G X RX1 "text" cX1_text 6 none 10 176 (enX enV (cxz X)) 46 [(0, av x0), (1, av x1), (2, iv x2), (3, iv x3), (4, iv x4), (5, iv x5)] [] σ (Byt_text_p46 rec14 σ x0 x1 x2 x3 x4 x5) := by
  unfold Byt_text_p46
  refine g_iload 4 dX1_text_46 rfl ?_
  refine g_iload 5 dX1_text_48 rfl ?_
  refine g_iadd dX1_text_50 ?_
  refine g_nmI (fun y1 => ?_)
  refine g_istore dX1_text_51 (by decide) rfl ?_
  refine g_goto 14 dX1_text_53 (by decide) ?_
  refine G.sub [1, 2, 3, 4, 0] rfl ?_
  exact hrec14 _ _ _ _ _ _
def V.Byt_text_p14  : Nat → HS → Nat → Nat → Int32 → Int32 → Int32 → Option ((Nat ⊕ Unit) × HS)
  | 0, _, _, _, _, _, _ => none
  | n + 1, σ, x0, x1, x2, x3, x4 =>
    if (x3 + x2) ≤ x4 then (
      ck (tg σ x1 = 4) <| cl (Row_add σ x1 x3) fun _ σ1 =>
      ck (tg σ1 x1 = 4) <| cl (Row_add σ1 x1 x2) fun _ σ2 =>
      some (.inr (), σ2))
    else (
      ck (tg σ x0 = 2) <| cl (Byt_characterAt σ x0 x4 (x3 + x2)) fun r4 σ3 =>
      if r4 = 0 then (
        ck (tg σ3 x0 = 2) <| clT (Byt_stop σ3 x0 (9 : Int32) x4) fun _ σ5 =>
        Byt_text_p46 (Byt_text_p14 n) σ5 x0 x1 x2 x3 x4 r4)
      else (
        Byt_text_p46 (Byt_text_p14 n) σ3 x0 x1 x2 x3 x4 r4))
theorem V.gX1_text_p14 {X : CX}  : ∀ (n : Nat) (σ : HS) (x0 : Nat) (x1 : Nat) (x2 : Int32) (x3 : Int32) (x4 : Int32), G X RX1 "text" cX1_text 6 none 10 176 (enX enV (cxz X)) 14 [(0, av x0), (1, av x1), (2, iv x2), (3, iv x3), (4, iv x4)] [] σ (Byt_text_p14 n σ x0 x1 x2 x3 x4)
  | 0, σ, x0, x1, x2, x3, x4 => by rw [Byt_text_p14]; exact G.nul
  | n + 1, σ, x0, x1, x2, x3, x4 => by
    rw [Byt_text_p14]
    refine g_iload 4 dX1_text_14 rfl ?_
    refine g_iload_n 3 3 dX1_text_16 rfl rfl ?_
    refine g_iload_n 2 2 dX1_text_17 rfl rfl ?_
    refine g_iadd dX1_text_18 ?_
    refine g_icmp_ge 56 dX1_text_19 (by decide) ?_ ?_
    · refine g_aload_n 1 1 dX1_text_56 rfl rfl ?_
      refine g_iload_n 3 3 dX1_text_57 rfl rfl ?_
      refine g_callV (fc := fun sς => Row_add sς x1 x3) (ci := 3) (as := [iv x3]) rfl rfl rfl q1405 q1406 mdX1_101 (ctX3_add x1 x3) rfl (Nat.le_of_ble_eq_true rfl) (Nat.le_of_ble_eq_true rfl) (Nat.le_of_ble_eq_true rfl) pu_V dX1_text_58 (fun _ σ1 => ?_)
      refine g_aload_n 1 1 dX1_text_61 rfl rfl ?_
      refine g_iload_n 2 2 dX1_text_62 rfl rfl ?_
      refine g_callV (fc := fun sς => Row_add sς x1 x2) (ci := 3) (as := [iv x2]) rfl rfl rfl q1405 q1406 mdX1_101 (ctX3_add x1 x2) rfl (Nat.le_of_ble_eq_true rfl) (Nat.le_of_ble_eq_true rfl) (Nat.le_of_ble_eq_true rfl) pu_V dX1_text_63 (fun _ σ2 => ?_)
      exact g_return rfl dX1_text_66
    · refine g_aload_n 0 0 dX1_text_22 rfl rfl ?_
      refine g_iload 4 dX1_text_23 rfl ?_
      refine g_iload_n 3 3 dX1_text_25 rfl rfl ?_
      refine g_iload_n 2 2 dX1_text_26 rfl rfl ?_
      refine g_iadd dX1_text_27 ?_
      refine g_callV (fc := fun sς => Byt_characterAt sς x0 x4 (x3 + x2)) (ci := 1) (as := [iv x4, iv (x3 + x2)]) rfl rfl rfl q1398 qs11 mdX1_98 (ctX1_characterAt x0 x4 (x3 + x2)) rfl (Nat.le_of_ble_eq_true rfl) (Nat.le_of_ble_eq_true rfl) (Nat.le_of_ble_eq_true rfl) pu_I dX1_text_28 (fun r4 σ3 => ?_)
      refine g_istore dX1_text_31 (by decide) rfl ?_
      refine g_iload 0 dX1_text_33 rfl ?_
      refine g_if_ne 46 dX1_text_35 (by decide) ?_ ?_
      · refine G.sub [1, 2, 3, 4, 5, 0] rfl ?_
        exact gX1_text_p46 (Byt_text_p14 n) (gX1_text_p14 n) _ _ _ _ _ _ _
      · refine g_aload_n 0 1 dX1_text_38 rfl rfl ?_
        refine g_bipush (v := 9) dX1_text_39 (by decide) ?_
        refine g_iload 5 dX1_text_41 rfl ?_
        refine g_callVT (fc := fun sς => Byt_stop sς x0 (9 : Int32) x4) (ci := 1) (as := [iv (9 : Int32), iv x4]) rfl rfl rfl q1295 qs3 q1293 mdX1_68 (ctX1_stop x0 (9 : Int32) x4) rfl (Nat.le_of_ble_eq_true rfl) (Nat.le_of_ble_eq_true rfl) (Nat.le_of_ble_eq_true rfl) pu_V (by decide) dX1_text_43 (fun _ σ5 => ?_)
        refine G.sub [1, 2, 3, 4, 5, 0] rfl ?_
        exact gX1_text_p46 (Byt_text_p14 n) (gX1_text_p14 n) _ _ _ _ _ _ _
def V.Byt_text (σ : HS) (x0 : Nat) (x1 : Nat) : Option ((Nat ⊕ Unit) × HS) :=
  ck (tg σ x0 = 2) <| clT (Byt_whole σ x0 ) fun r2 σ1 =>
  ck (tg σ1 x0 = 2) <| clT (Byt_pass σ1 x0 r2) fun r4 σ3 =>
  Byt_text_p14 FU σ3 x0 x1 r2 r4 r4
theorem V.ctX1_text (x0 : Nat) (x1 : Nat) : Ct yX1_text  cX1_text 6 none 10 176 eXV [av x0, av x1] (fun σ => Byt_text σ x0 x1) := by
  refine Ct.of (own := RX1) (nm := "text") (desc := "(LModuleEngine$Row;)V") rfl (by decide) (Nat.le_of_ble_eq_true rfl) (by decide) (fun X σ => ?_)
  show G X RX1 "text" cX1_text 6 none 10 176 (enX enV (cxz X)) 0 [(0, av x0), (1, av x1)] [] σ (Byt_text σ x0 x1)
  unfold Byt_text
  refine g_aload_n 0 0 dX1_text_0 rfl rfl ?_
  refine g_callVT (fc := fun sς => Byt_whole sς x0 ) (ci := 1) (as := []) rfl rfl rfl q1365 qs5 q1363 mdX1_91 (ctX1_whole x0 ) rfl (Nat.le_of_ble_eq_true rfl) (Nat.le_of_ble_eq_true rfl) (Nat.le_of_ble_eq_true rfl) pu_I (by decide) dX1_text_1 (fun r2 σ1 => ?_)
  refine g_istore_n 2 dX1_text_4 rfl (by decide) rfl ?_
  refine g_aload_n 0 1 dX1_text_5 rfl rfl ?_
  refine g_iload_n 2 0 dX1_text_6 rfl rfl ?_
  refine g_callVT (fc := fun sς => Byt_pass sς x0 r2) (ci := 1) (as := [iv r2]) rfl rfl rfl q1394 qs10 q1392 mdX1_94 (ctX1_pass x0 r2) rfl (Nat.le_of_ble_eq_true rfl) (Nat.le_of_ble_eq_true rfl) (Nat.le_of_ble_eq_true rfl) pu_I (by decide) dX1_text_7 (fun r4 σ3 => ?_)
  refine g_istore_n 3 dX1_text_10 rfl (by decide) rfl ?_
  refine g_iload_n 3 0 dX1_text_11 rfl rfl ?_
  refine g_istore dX1_text_12 (by decide) rfl ?_
  refine G.sub [3, 4, 2, 1, 0] rfl ?_
  exact gX1_text_p14 FU _ _ _ _ _ _
