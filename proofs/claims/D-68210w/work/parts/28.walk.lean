set_option maxRecDepth 100000
theorem V.dX1_custom_0 : decode cX1_custom 0 = .ok (.aload_n 0, 1) := by decide +kernel
theorem V.dX1_custom_1 : decode cX1_custom 1 = .ok (.getfield 31, 3) := by decide +kernel
theorem V.dX1_custom_4 : decode cX1_custom 4 = .ok (.astore_n 1, 1) := by decide +kernel
theorem V.dX1_custom_5 : decode cX1_custom 5 = .ok (.aload_n 1, 1) := by decide +kernel
theorem V.dX1_custom_6 : decode cX1_custom 6 = .ok (.iconst 0, 1) := by decide +kernel
theorem V.dX1_custom_7 : decode cX1_custom 7 = .ok (.invokevirtual 170, 3) := by decide +kernel
theorem V.dX1_custom_10 : decode cX1_custom 10 = .ok (.aload_n 0, 1) := by decide +kernel
theorem V.dX1_custom_11 : decode cX1_custom 11 = .ok (.aload_n 1, 1) := by decide +kernel
theorem V.dX1_custom_12 : decode cX1_custom 12 = .ok (.invokevirtual 182, 3) := by decide +kernel
theorem V.dX1_custom_15 : decode cX1_custom 15 = .ok (.aload_n 0, 1) := by decide +kernel
theorem V.dX1_custom_16 : decode cX1_custom 16 = .ok (.getfield 16, 3) := by decide +kernel
theorem V.dX1_custom_19 : decode cX1_custom 19 = .ok (.getfield 220, 3) := by decide +kernel
theorem V.dX1_custom_22 : decode cX1_custom 22 = .ok (.aload_n 0, 1) := by decide +kernel
theorem V.dX1_custom_23 : decode cX1_custom 23 = .ok (.getfield 56, 3) := by decide +kernel
theorem V.dX1_custom_26 : decode cX1_custom 26 = .ok (.invokevirtual 101, 3) := by decide +kernel
theorem V.dX1_custom_29 : decode cX1_custom 29 = .ok (.aload_n 0, 1) := by decide +kernel
theorem V.dX1_custom_30 : decode cX1_custom 30 = .ok (.getfield 16, 3) := by decide +kernel
theorem V.dX1_custom_33 : decode cX1_custom 33 = .ok (.getfield 220, 3) := by decide +kernel
theorem V.dX1_custom_36 : decode cX1_custom 36 = .ok (.aload_n 0, 1) := by decide +kernel
theorem V.dX1_custom_37 : decode cX1_custom 37 = .ok (.getfield 59, 3) := by decide +kernel
theorem V.dX1_custom_40 : decode cX1_custom 40 = .ok (.aload_n 0, 1) := by decide +kernel
theorem V.dX1_custom_41 : decode cX1_custom 41 = .ok (.getfield 56, 3) := by decide +kernel
theorem V.dX1_custom_44 : decode cX1_custom 44 = .ok (.isub, 1) := by decide +kernel
theorem V.dX1_custom_45 : decode cX1_custom 45 = .ok (.invokevirtual 101, 3) := by decide +kernel
theorem V.dX1_custom_48 : decode cX1_custom 48 = .ok (.aload_n 0, 1) := by decide +kernel
theorem V.dX1_custom_49 : decode cX1_custom 49 = .ok (.getfield 16, 3) := by decide +kernel
theorem V.dX1_custom_52 : decode cX1_custom 52 = .ok (.getfield 220, 3) := by decide +kernel
theorem V.dX1_custom_55 : decode cX1_custom 55 = .ok (.aload_n 1, 1) := by decide +kernel
theorem V.dX1_custom_56 : decode cX1_custom 56 = .ok (.iconst 0, 1) := by decide +kernel
theorem V.dX1_custom_57 : decode cX1_custom 57 = .ok (.invokevirtual 149, 3) := by decide +kernel
theorem V.dX1_custom_60 : decode cX1_custom 60 = .ok (.invokevirtual 101, 3) := by decide +kernel
theorem V.dX1_custom_63 : decode cX1_custom 63 = .ok (.aload_n 0, 1) := by decide +kernel
theorem V.dX1_custom_64 : decode cX1_custom 64 = .ok (.getfield 16, 3) := by decide +kernel
theorem V.dX1_custom_67 : decode cX1_custom 67 = .ok (.getfield 220, 3) := by decide +kernel
theorem V.dX1_custom_70 : decode cX1_custom 70 = .ok (.aload_n 1, 1) := by decide +kernel
theorem V.dX1_custom_71 : decode cX1_custom 71 = .ok (.iconst 1, 1) := by decide +kernel
theorem V.dX1_custom_72 : decode cX1_custom 72 = .ok (.invokevirtual 149, 3) := by decide +kernel
theorem V.dX1_custom_75 : decode cX1_custom 75 = .ok (.invokevirtual 101, 3) := by decide +kernel
theorem V.dX1_custom_78 : decode cX1_custom 78 = .ok (.aload_n 0, 1) := by decide +kernel
theorem V.dX1_custom_79 : decode cX1_custom 79 = .ok (.aload_n 0, 1) := by decide +kernel
theorem V.dX1_custom_80 : decode cX1_custom 80 = .ok (.getfield 59, 3) := by decide +kernel
theorem V.dX1_custom_83 : decode cX1_custom 83 = .ok (.putfield 56, 3) := by decide +kernel
theorem V.dX1_custom_86 : decode cX1_custom 86 = .ok (.return_, 1) := by decide +kernel
theorem V.fdX1_31 : FD RX1 31 1 9 2 := ⟨(RX1, TX1, 10), tyX1, rfl, rfl, in_X1, by decide, Or.inl q549, rfl⟩
theorem V.mdX1_170 : MD RX1 170 yX3_cut cX3_cut 2 none 1 := ⟨Or.inl q1387, q363, q1283, by decide, by decide, by decide +kernel⟩
theorem V.mdX1_182 : MD RX1 182 yX1_text cX1_text 6 none 1 := ⟨Or.inl q1388, q361, q1391, by decide, by decide, by decide +kernel⟩
theorem V.fdX1_220 : FD RX1 220 2 14 2 := ⟨(RX2, TX2, 21), tyX2, rfl, rfl, in_X2, by decide, Or.inr ⟨_, q477⟩, rfl⟩
theorem V.mdX1_149 : MD RX1 149 yX3_at cX3_at 2 (some .int) 1 := ⟨Or.inl q1408, q363, q1411, by decide, by decide, by decide +kernel⟩
/-! ModuleEngine$Bytes.custom()V -/
def V.Byt_custom (σ : HS) (x0 : Nat) : Option ((Nat ⊕ Unit) × HS) :=
  ck (tg σ x0 = 2) <|
  bn (gR σ x0 9) fun y1 =>
  ck (tg σ y1 = 4) <| cl (Row_cut σ y1 (0 : Int32)) fun _ σ2 =>
  ck (tg σ2 x0 = 2) <| clT (Byt_text σ2 x0 y1) fun _ σ3 =>
  ck (tg σ3 x0 = 2) <|
  ck (tg σ3 (gR σ3 x0 3) = 3) <|
  ck (tg σ3 x0 = 2) <|
  ck (tg σ3 (gR σ3 (gR σ3 x0 3) 14) = 4) <| cl (Row_add σ3 (gR σ3 (gR σ3 x0 3) 14) (gI σ3 x0 6)) fun _ σ4 =>
  ck (tg σ4 x0 = 2) <|
  ck (tg σ4 (gR σ4 x0 3) = 3) <|
  ck (tg σ4 x0 = 2) <|
  ck (tg σ4 x0 = 2) <|
  ck (tg σ4 (gR σ4 (gR σ4 x0 3) 14) = 4) <| cl (Row_add σ4 (gR σ4 (gR σ4 x0 3) 14) ((gI σ4 x0 7) - (gI σ4 x0 6))) fun _ σ5 =>
  ck (tg σ5 x0 = 2) <|
  ck (tg σ5 (gR σ5 x0 3) = 3) <|
  ck (tg σ5 y1 = 4) <| cl (Row_at σ5 y1 (0 : Int32)) fun r7 σ6 =>
  ck (tg σ6 (gR σ5 (gR σ5 x0 3) 14) = 4) <| cl (Row_add σ6 (gR σ5 (gR σ5 x0 3) 14) r7) fun _ σ8 =>
  ck (tg σ8 x0 = 2) <|
  ck (tg σ8 (gR σ8 x0 3) = 3) <|
  ck (tg σ8 y1 = 4) <| cl (Row_at σ8 y1 (1 : Int32)) fun r10 σ9 =>
  ck (tg σ9 (gR σ8 (gR σ8 x0 3) 14) = 4) <| cl (Row_add σ9 (gR σ8 (gR σ8 x0 3) 14) r10) fun _ σ11 =>
  ck (tg σ11 x0 = 2) <|
  ck (tg σ11 x0 = 2) <| bn (sI σ11 x0 6 (gI σ11 x0 7)) fun σ12 =>
  some (.inr (), σ12)
theorem V.ctX1_custom (x0 : Nat) : Ct yX1_custom  cX1_custom 2 none 11 201 eXV [av x0] (fun σ => Byt_custom σ x0) := by
  refine Ct.of (own := RX1) (nm := "custom") (desc := "()V") rfl (by decide) (Nat.le_of_ble_eq_true rfl) (by decide) (fun X σ => ?_)
  show G X RX1 "custom" cX1_custom 2 none 11 201 (enX enV (cxz X)) 0 [(0, av x0)] [] σ (Byt_custom σ x0)
  unfold Byt_custom
  refine g_aload_n 0 0 dX1_custom_0 rfl rfl ?_
  refine g_getR fdX1_31 dX1_custom_1 ?_
  refine g_nmA (fun y1 => ?_)
  refine g_astore_n 1 dX1_custom_4 rfl (by decide) rfl ?_
  refine g_aload_n 1 0 dX1_custom_5 rfl rfl ?_
  refine g_iconst (v := 0) dX1_custom_6 (by decide) ?_
  refine g_callV (fc := fun sς => Row_cut sς y1 (0 : Int32)) (ci := 3) (as := [iv (0 : Int32)]) rfl rfl rfl q1281 q1282 mdX1_170 (ctX3_cut y1 (0 : Int32)) rfl (Nat.le_of_ble_eq_true rfl) (Nat.le_of_ble_eq_true rfl) (Nat.le_of_ble_eq_true rfl) pu_V dX1_custom_7 (fun _ σ2 => ?_)
  refine g_aload_n 0 1 dX1_custom_10 rfl rfl ?_
  refine g_aload_n 1 0 dX1_custom_11 rfl rfl ?_
  refine g_callVT (fc := fun sς => Byt_text sς x0 y1) (ci := 1) (as := [av y1]) rfl rfl rfl q1390 qs9 q1388 mdX1_182 (ctX1_text x0 y1) rfl (Nat.le_of_ble_eq_true rfl) (Nat.le_of_ble_eq_true rfl) (Nat.le_of_ble_eq_true rfl) pu_V (by decide) dX1_custom_12 (fun _ σ3 => ?_)
  refine g_aload_n 0 1 dX1_custom_15 rfl rfl ?_
  refine g_getR fdX1_16 dX1_custom_16 ?_
  refine g_getR fdX1_220 dX1_custom_19 ?_
  refine g_aload_n 0 1 dX1_custom_22 rfl rfl ?_
  refine g_getI fdX1_56 dX1_custom_23 ?_
  refine g_callV (fc := fun sς => Row_add sς (gR σ3 (gR σ3 x0 3) 14) (gI σ3 x0 6)) (ci := 3) (as := [iv (gI σ3 x0 6)]) rfl rfl rfl q1405 q1406 mdX1_101 (ctX3_add (gR σ3 (gR σ3 x0 3) 14) (gI σ3 x0 6)) rfl (Nat.le_of_ble_eq_true rfl) (Nat.le_of_ble_eq_true rfl) (Nat.le_of_ble_eq_true rfl) pu_V dX1_custom_26 (fun _ σ4 => ?_)
  refine g_aload_n 0 1 dX1_custom_29 rfl rfl ?_
  refine g_getR fdX1_16 dX1_custom_30 ?_
  refine g_getR fdX1_220 dX1_custom_33 ?_
  refine g_aload_n 0 1 dX1_custom_36 rfl rfl ?_
  refine g_getI fdX1_59 dX1_custom_37 ?_
  refine g_aload_n 0 1 dX1_custom_40 rfl rfl ?_
  refine g_getI fdX1_56 dX1_custom_41 ?_
  refine g_isub dX1_custom_44 ?_
  refine g_callV (fc := fun sς => Row_add sς (gR σ4 (gR σ4 x0 3) 14) ((gI σ4 x0 7) - (gI σ4 x0 6))) (ci := 3) (as := [iv ((gI σ4 x0 7) - (gI σ4 x0 6))]) rfl rfl rfl q1405 q1406 mdX1_101 (ctX3_add (gR σ4 (gR σ4 x0 3) 14) ((gI σ4 x0 7) - (gI σ4 x0 6))) rfl (Nat.le_of_ble_eq_true rfl) (Nat.le_of_ble_eq_true rfl) (Nat.le_of_ble_eq_true rfl) pu_V dX1_custom_45 (fun _ σ5 => ?_)
  refine g_aload_n 0 1 dX1_custom_48 rfl rfl ?_
  refine g_getR fdX1_16 dX1_custom_49 ?_
  refine g_getR fdX1_220 dX1_custom_52 ?_
  refine g_aload_n 1 0 dX1_custom_55 rfl rfl ?_
  refine g_iconst (v := 0) dX1_custom_56 (by decide) ?_
  refine g_callV (fc := fun sς => Row_at sς y1 (0 : Int32)) (ci := 3) (as := [iv (0 : Int32)]) rfl rfl rfl q1409 q1410 mdX1_149 (ctX3_at y1 (0 : Int32)) rfl (Nat.le_of_ble_eq_true rfl) (Nat.le_of_ble_eq_true rfl) (Nat.le_of_ble_eq_true rfl) pu_I dX1_custom_57 (fun r7 σ6 => ?_)
  refine g_callV (fc := fun sς => Row_add sς (gR σ5 (gR σ5 x0 3) 14) r7) (ci := 3) (as := [iv r7]) rfl rfl rfl q1405 q1406 mdX1_101 (ctX3_add (gR σ5 (gR σ5 x0 3) 14) r7) rfl (Nat.le_of_ble_eq_true rfl) (Nat.le_of_ble_eq_true rfl) (Nat.le_of_ble_eq_true rfl) pu_V dX1_custom_60 (fun _ σ8 => ?_)
  refine g_aload_n 0 1 dX1_custom_63 rfl rfl ?_
  refine g_getR fdX1_16 dX1_custom_64 ?_
  refine g_getR fdX1_220 dX1_custom_67 ?_
  refine g_aload_n 1 0 dX1_custom_70 rfl rfl ?_
  refine g_iconst (v := 1) dX1_custom_71 (by decide) ?_
  refine g_callV (fc := fun sς => Row_at sς y1 (1 : Int32)) (ci := 3) (as := [iv (1 : Int32)]) rfl rfl rfl q1409 q1410 mdX1_149 (ctX3_at y1 (1 : Int32)) rfl (Nat.le_of_ble_eq_true rfl) (Nat.le_of_ble_eq_true rfl) (Nat.le_of_ble_eq_true rfl) pu_I dX1_custom_72 (fun r10 σ9 => ?_)
  refine g_callV (fc := fun sς => Row_add sς (gR σ8 (gR σ8 x0 3) 14) r10) (ci := 3) (as := [iv r10]) rfl rfl rfl q1405 q1406 mdX1_101 (ctX3_add (gR σ8 (gR σ8 x0 3) 14) r10) rfl (Nat.le_of_ble_eq_true rfl) (Nat.le_of_ble_eq_true rfl) (Nat.le_of_ble_eq_true rfl) pu_V dX1_custom_75 (fun _ σ11 => ?_)
  refine g_aload_n 0 1 dX1_custom_78 rfl rfl ?_
  refine g_aload_n 0 1 dX1_custom_79 rfl rfl ?_
  refine g_getI fdX1_59 dX1_custom_80 ?_
  refine g_putI fpX1_56 dX1_custom_83 (fun σ12 => ?_)
  exact g_return rfl dX1_custom_86
theorem V.dX1_isReference_0 : decode cX1_isReference 0 = .ok (.iload_n 0, 1) := by decide +kernel
theorem V.dX1_isReference_1 : decode cX1_isReference 1 = .ok (.bipush 112, 2) := by decide +kernel
theorem V.dX1_isReference_3 : decode cX1_isReference 3 = .ok (.if_icmp .eq 9, 3) := by decide +kernel
theorem V.dX1_isReference_6 : decode cX1_isReference 6 = .ok (.iload_n 0, 1) := by decide +kernel
theorem V.dX1_isReference_7 : decode cX1_isReference 7 = .ok (.bipush 111, 2) := by decide +kernel
theorem V.dX1_isReference_9 : decode cX1_isReference 9 = .ok (.if_icmp .ne 7, 3) := by decide +kernel
theorem V.dX1_isReference_12 : decode cX1_isReference 12 = .ok (.iconst 1, 1) := by decide +kernel
theorem V.dX1_isReference_13 : decode cX1_isReference 13 = .ok (.goto 4, 3) := by decide +kernel
theorem V.dX1_isReference_16 : decode cX1_isReference 16 = .ok (.iconst 0, 1) := by decide +kernel
theorem V.dX1_isReference_17 : decode cX1_isReference 17 = .ok (.ireturn, 1) := by decide +kernel
/-! ModuleEngine$Bytes.isReference(I)Z -/
def V.Byt_isReference_p12  (σ : HS)  : Option (Int32 × HS) :=
  some ((1 : Int32), σ)
theorem V.gX1_isReference_p12 {X : CX}  (σ : HS)  : G X RX1 "isReference" cX1_isReference 1 (some .boolean) 0 0 enI 12 [] [] σ (Byt_isReference_p12 σ ) := by
  unfold Byt_isReference_p12
  refine g_iconst (v := 1) dX1_isReference_12 (by decide) ?_
  refine g_goto 17 dX1_isReference_13 (by decide) ?_
  exact g_zreturn rfl (by decide +kernel) dX1_isReference_17
def V.Byt_isReference (σ : HS) (x0 : Int32) : Option (Int32 × HS) :=
  if x0 = (112 : Int32) then (
    Byt_isReference_p12 σ)
  else (
    if x0 = (111 : Int32) then (
      Byt_isReference_p12 σ)
    else (
      some ((0 : Int32), σ)))
theorem V.ctX1_isReference (x0 : Int32) : Ct yX1_isReference  cX1_isReference 1 (some .boolean) 0 0 eI [iv x0] (fun σ => Byt_isReference σ x0) := by
  refine Ct.of (own := RX1) (nm := "isReference") (desc := "(I)Z") rfl (by decide) (Nat.le_of_ble_eq_true rfl) (by decide) (fun X σ => ?_)
  show G X RX1 "isReference" cX1_isReference 1 (some .boolean) 0 0 enI 0 [(0, iv x0)] [] σ (Byt_isReference σ x0)
  unfold Byt_isReference
  refine g_iload_n 0 0 dX1_isReference_0 rfl rfl ?_
  refine g_bipush (v := 112) dX1_isReference_1 (by decide) ?_
  refine g_icmp_eq 12 dX1_isReference_3 (by decide) ?_ ?_
  · refine G.sub [] rfl ?_
    exact gX1_isReference_p12 _
  · refine g_iload_n 0 0 dX1_isReference_6 rfl rfl ?_
    refine g_bipush (v := 111) dX1_isReference_7 (by decide) ?_
    refine g_icmp_ne 16 dX1_isReference_9 (by decide) ?_ ?_
    · refine g_iconst (v := 0) dX1_isReference_16 (by decide) ?_
      exact g_zreturn rfl (by decide +kernel) dX1_isReference_17
    · refine G.sub [] rfl ?_
      exact gX1_isReference_p12 _
theorem V.dX1_isValue_0 : decode cX1_isValue 0 = .ok (.iload_n 0, 1) := by decide +kernel
theorem V.dX1_isValue_1 : decode cX1_isValue 1 = .ok (.bipush 123, 2) := by decide +kernel
theorem V.dX1_isValue_3 : decode cX1_isValue 3 = .ok (.if_icmp .le 10, 3) := by decide +kernel
theorem V.dX1_isValue_6 : decode cX1_isValue 6 = .ok (.iload_n 0, 1) := by decide +kernel
theorem V.dX1_isValue_7 : decode cX1_isValue 7 = .ok (.sipush 128, 3) := by decide +kernel
theorem V.dX1_isValue_10 : decode cX1_isValue 10 = .ok (.if_icmp .lt 10, 3) := by decide +kernel
theorem V.dX1_isValue_13 : decode cX1_isValue 13 = .ok (.iload_n 0, 1) := by decide +kernel
theorem V.dX1_isValue_14 : decode cX1_isValue 14 = .ok (.invokestatic 109, 3) := by decide +kernel
theorem V.dX1_isValue_17 : decode cX1_isValue 17 = .ok (.ifCond .eq 7, 3) := by decide +kernel
theorem V.dX1_isValue_20 : decode cX1_isValue 20 = .ok (.iconst 1, 1) := by decide +kernel
theorem V.dX1_isValue_21 : decode cX1_isValue 21 = .ok (.goto 4, 3) := by decide +kernel
theorem V.dX1_isValue_24 : decode cX1_isValue 24 = .ok (.iconst 0, 1) := by decide +kernel
theorem V.dX1_isValue_25 : decode cX1_isValue 25 = .ok (.ireturn, 1) := by decide +kernel
theorem V.mdX1_109 : MD RX1 109 yX1_isReference cX1_isReference 1 (some .boolean) 1 := ⟨Or.inl q1431, q361, q1433, by decide, by decide, by decide +kernel⟩
/-! ModuleEngine$Bytes.isValue(I)Z -/
def V.Byt_isValue_p20  (σ : HS)  : Option (Int32 × HS) :=
  some ((1 : Int32), σ)
theorem V.gX1_isValue_p20 {X : CX}  (σ : HS)  : G X RX1 "isValue" cX1_isValue 1 (some .boolean) 1 20 enI 20 [] [] σ (Byt_isValue_p20 σ ) := by
  unfold Byt_isValue_p20
  refine g_iconst (v := 1) dX1_isValue_20 (by decide) ?_
  refine g_goto 25 dX1_isValue_21 (by decide) ?_
  exact g_zreturn rfl (by decide +kernel) dX1_isValue_25
def V.Byt_isValue_p13  (σ : HS) (x0 : Int32) : Option (Int32 × HS) :=
  cl (Byt_isReference σ x0) fun r2 σ1 =>
  if r2 = 0 then (
    some ((0 : Int32), σ1))
  else (
    Byt_isValue_p20 σ1)
theorem V.gX1_isValue_p13 {X : CX}  (σ : HS) (x0 : Int32) : G X RX1 "isValue" cX1_isValue 1 (some .boolean) 1 20 enI 13 [(0, iv x0)] [] σ (Byt_isValue_p13 σ x0) := by
  unfold Byt_isValue_p13
  refine g_iload_n 0 0 dX1_isValue_13 rfl rfl ?_
  refine g_callS (fc := fun sς => Byt_isReference sς x0) (as := [iv x0]) q1432 mdX1_109 (ctX1_isReference x0) rfl (Nat.le_of_ble_eq_true rfl) (Nat.le_of_ble_eq_true rfl) (Nat.le_of_ble_eq_true rfl) pu_I dX1_isValue_14 (fun r2 σ1 => ?_)
  refine g_if_eq 24 dX1_isValue_17 (by decide) ?_ ?_
  · refine g_iconst (v := 0) dX1_isValue_24 (by decide) ?_
    exact g_zreturn rfl (by decide +kernel) dX1_isValue_25
  · refine G.sub [] rfl ?_
    exact gX1_isValue_p20 _
def V.Byt_isValue (σ : HS) (x0 : Int32) : Option (Int32 × HS) :=
  if x0 ≤ (123 : Int32) then (
    Byt_isValue_p13 σ x0)
  else (
    if x0 < (128 : Int32) then (
      Byt_isValue_p20 σ)
    else (
      Byt_isValue_p13 σ x0))
theorem V.ctX1_isValue (x0 : Int32) : Ct yX1_isValue  cX1_isValue 1 (some .boolean) 1 20 eI [iv x0] (fun σ => Byt_isValue σ x0) := by
  refine Ct.of (own := RX1) (nm := "isValue") (desc := "(I)Z") rfl (by decide) (Nat.le_of_ble_eq_true rfl) (by decide) (fun X σ => ?_)
  show G X RX1 "isValue" cX1_isValue 1 (some .boolean) 1 20 enI 0 [(0, iv x0)] [] σ (Byt_isValue σ x0)
  unfold Byt_isValue
  refine g_iload_n 0 0 dX1_isValue_0 rfl rfl ?_
  refine g_bipush (v := 123) dX1_isValue_1 (by decide) ?_
  refine g_icmp_le 13 dX1_isValue_3 (by decide) ?_ ?_
  · exact gX1_isValue_p13 _ _
  · refine g_iload_n 0 0 dX1_isValue_6 rfl rfl ?_
    refine g_sipush (v := 128) dX1_isValue_7 (by decide) ?_
    refine g_icmp_lt 20 dX1_isValue_10 (by decide) ?_ ?_
    · refine G.sub [] rfl ?_
      exact gX1_isValue_p20 _
    · exact gX1_isValue_p13 _ _
theorem V.dX1_valueType_0 : decode cX1_valueType 0 = .ok (.aload_n 0, 1) := by decide +kernel
theorem V.dX1_valueType_1 : decode cX1_valueType 1 = .ok (.getfield 56, 3) := by decide +kernel
theorem V.dX1_valueType_4 : decode cX1_valueType 4 = .ok (.istore_n 1, 1) := by decide +kernel
theorem V.dX1_valueType_5 : decode cX1_valueType 5 = .ok (.aload_n 0, 1) := by decide +kernel
theorem V.dX1_valueType_6 : decode cX1_valueType 6 = .ok (.invokevirtual 73, 3) := by decide +kernel
theorem V.dX1_valueType_9 : decode cX1_valueType 9 = .ok (.istore_n 2, 1) := by decide +kernel
theorem V.dX1_valueType_10 : decode cX1_valueType 10 = .ok (.iload_n 2, 1) := by decide +kernel
theorem V.dX1_valueType_11 : decode cX1_valueType 11 = .ok (.invokestatic 113, 3) := by decide +kernel
theorem V.dX1_valueType_14 : decode cX1_valueType 14 = .ok (.ifCond .ne 10, 3) := by decide +kernel
theorem V.dX1_valueType_17 : decode cX1_valueType 17 = .ok (.aload_n 0, 1) := by decide +kernel
theorem V.dX1_valueType_18 : decode cX1_valueType 18 = .ok (.bipush 8, 2) := by decide +kernel
theorem V.dX1_valueType_20 : decode cX1_valueType 20 = .ok (.iload_n 1, 1) := by decide +kernel
theorem V.dX1_valueType_21 : decode cX1_valueType 21 = .ok (.invokevirtual 68, 3) := by decide +kernel
theorem V.dX1_valueType_24 : decode cX1_valueType 24 = .ok (.iload_n 2, 1) := by decide +kernel
theorem V.dX1_valueType_25 : decode cX1_valueType 25 = .ok (.ireturn, 1) := by decide +kernel
theorem V.mdX1_113 : MD RX1 113 yX1_isValue cX1_isValue 1 (some .boolean) 1 := ⟨Or.inl q1428, q361, q1430, by decide, by decide, by decide +kernel⟩
/-! ModuleEngine$Bytes.valueType()I -/
def V.Byt_valueType (σ : HS) (x0 : Nat) : Option ((Nat ⊕ Int32) × HS) :=
  ck (tg σ x0 = 2) <|
  bn (gI σ x0 6) fun y1 =>
  ck (tg σ x0 = 2) <| clT (Byt_take σ x0 ) fun r3 σ2 =>
  cl (Byt_isValue σ2 r3) fun r5 σ4 =>
  if r5 = 0 then (
    ck (tg σ4 x0 = 2) <| clT (Byt_stop σ4 x0 (8 : Int32) y1) fun _ σ6 =>
    some (.inr r3, σ6))
  else (
    some (.inr r3, σ4))
theorem V.ctX1_valueType (x0 : Nat) : Ct yX1_valueType  cX1_valueType 3 (some .int) 8 128 eXI [av x0] (fun σ => Byt_valueType σ x0) := by
  refine Ct.of (own := RX1) (nm := "valueType") (desc := "()I") rfl (by decide) (Nat.le_of_ble_eq_true rfl) (by decide) (fun X σ => ?_)
  show G X RX1 "valueType" cX1_valueType 3 (some .int) 8 128 (enX enI (cxz X)) 0 [(0, av x0)] [] σ (Byt_valueType σ x0)
  unfold Byt_valueType
  refine g_aload_n 0 0 dX1_valueType_0 rfl rfl ?_
  refine g_getI fdX1_56 dX1_valueType_1 ?_
  refine g_nmI (fun y1 => ?_)
  refine g_istore_n 1 dX1_valueType_4 rfl (by decide) rfl ?_
  refine g_aload_n 0 1 dX1_valueType_5 rfl rfl ?_
  refine g_callVT (fc := fun sς => Byt_take sς x0 ) (ci := 1) (as := []) rfl rfl rfl q1291 qs2 q1289 mdX1_73 (ctX1_take x0 ) rfl (Nat.le_of_ble_eq_true rfl) (Nat.le_of_ble_eq_true rfl) (Nat.le_of_ble_eq_true rfl) pu_I (by decide) dX1_valueType_6 (fun r3 σ2 => ?_)
  refine g_istore_n 2 dX1_valueType_9 rfl (by decide) rfl ?_
  refine g_iload_n 2 0 dX1_valueType_10 rfl rfl ?_
  refine g_callS (fc := fun sς => Byt_isValue sς r3) (as := [iv r3]) q1429 mdX1_113 (ctX1_isValue r3) rfl (Nat.le_of_ble_eq_true rfl) (Nat.le_of_ble_eq_true rfl) (Nat.le_of_ble_eq_true rfl) pu_I dX1_valueType_11 (fun r5 σ4 => ?_)
  refine g_if_ne 24 dX1_valueType_14 (by decide) ?_ ?_
  · refine g_iload_n 2 0 dX1_valueType_24 rfl rfl ?_
    exact g_ireturn rfl dX1_valueType_25
  · refine g_aload_n 0 2 dX1_valueType_17 rfl rfl ?_
    refine g_bipush (v := 8) dX1_valueType_18 (by decide) ?_
    refine g_iload_n 1 1 dX1_valueType_20 rfl rfl ?_
    refine g_callVT (fc := fun sς => Byt_stop sς x0 (8 : Int32) y1) (ci := 1) (as := [iv (8 : Int32), iv y1]) rfl rfl rfl q1295 qs3 q1293 mdX1_68 (ctX1_stop x0 (8 : Int32) y1) rfl (Nat.le_of_ble_eq_true rfl) (Nat.le_of_ble_eq_true rfl) (Nat.le_of_ble_eq_true rfl) pu_V (by decide) dX1_valueType_21 (fun _ σ6 => ?_)
    refine g_iload_n 2 0 dX1_valueType_24 rfl rfl ?_
    exact g_ireturn rfl dX1_valueType_25
theorem V.dX1_functionType_0 : decode cX1_functionType 0 = .ok (.aload_n 0, 1) := by decide +kernel
theorem V.dX1_functionType_1 : decode cX1_functionType 1 = .ok (.getfield 56, 3) := by decide +kernel
theorem V.dX1_functionType_4 : decode cX1_functionType 4 = .ok (.istore_n 1, 1) := by decide +kernel
theorem V.dX1_functionType_5 : decode cX1_functionType 5 = .ok (.aload_n 0, 1) := by decide +kernel
theorem V.dX1_functionType_6 : decode cX1_functionType 6 = .ok (.invokevirtual 73, 3) := by decide +kernel
theorem V.dX1_functionType_9 : decode cX1_functionType 9 = .ok (.bipush 96, 2) := by decide +kernel
theorem V.dX1_functionType_11 : decode cX1_functionType 11 = .ok (.if_icmp .eq 10, 3) := by decide +kernel
theorem V.dX1_functionType_14 : decode cX1_functionType 14 = .ok (.aload_n 0, 1) := by decide +kernel
theorem V.dX1_functionType_15 : decode cX1_functionType 15 = .ok (.bipush 8, 2) := by decide +kernel
theorem V.dX1_functionType_17 : decode cX1_functionType 17 = .ok (.iload_n 1, 1) := by decide +kernel
theorem V.dX1_functionType_18 : decode cX1_functionType 18 = .ok (.invokevirtual 68, 3) := by decide +kernel
theorem V.dX1_functionType_21 : decode cX1_functionType 21 = .ok (.aload_n 0, 1) := by decide +kernel
theorem V.dX1_functionType_22 : decode cX1_functionType 22 = .ok (.getfield 16, 3) := by decide +kernel
theorem V.dX1_functionType_25 : decode cX1_functionType 25 = .ok (.getfield 116, 3) := by decide +kernel
theorem V.dX1_functionType_28 : decode cX1_functionType 28 = .ok (.aload_n 0, 1) := by decide +kernel
theorem V.dX1_functionType_29 : decode cX1_functionType 29 = .ok (.getfield 16, 3) := by decide +kernel
theorem V.dX1_functionType_32 : decode cX1_functionType 32 = .ok (.getfield 119, 3) := by decide +kernel
theorem V.dX1_functionType_35 : decode cX1_functionType 35 = .ok (.invokevirtual 122, 3) := by decide +kernel
theorem V.dX1_functionType_38 : decode cX1_functionType 38 = .ok (.invokevirtual 101, 3) := by decide +kernel
theorem V.dX1_functionType_41 : decode cX1_functionType 41 = .ok (.iconst 0, 1) := by decide +kernel
theorem V.dX1_functionType_42 : decode cX1_functionType 42 = .ok (.istore_n 2, 1) := by decide +kernel
theorem V.dX1_functionType_43 : decode cX1_functionType 43 = .ok (.iload_n 2, 1) := by decide +kernel
theorem V.dX1_functionType_44 : decode cX1_functionType 44 = .ok (.iconst 2, 1) := by decide +kernel
theorem V.dX1_functionType_45 : decode cX1_functionType 45 = .ok (.if_icmp .ge 54, 3) := by decide +kernel
theorem V.dX1_functionType_48 : decode cX1_functionType 48 = .ok (.aload_n 0, 1) := by decide +kernel
theorem V.dX1_functionType_49 : decode cX1_functionType 49 = .ok (.invokevirtual 91, 3) := by decide +kernel
theorem V.dX1_functionType_52 : decode cX1_functionType 52 = .ok (.istore_n 3, 1) := by decide +kernel
theorem V.dX1_functionType_53 : decode cX1_functionType 53 = .ok (.aload_n 0, 1) := by decide +kernel
theorem V.dX1_functionType_54 : decode cX1_functionType 54 = .ok (.getfield 16, 3) := by decide +kernel
theorem V.dX1_functionType_57 : decode cX1_functionType 57 = .ok (.getfield 119, 3) := by decide +kernel
theorem V.dX1_functionType_60 : decode cX1_functionType 60 = .ok (.iload_n 3, 1) := by decide +kernel
theorem V.dX1_functionType_61 : decode cX1_functionType 61 = .ok (.invokevirtual 101, 3) := by decide +kernel
theorem V.dX1_functionType_64 : decode cX1_functionType 64 = .ok (.iconst 0, 1) := by decide +kernel
theorem V.dX1_functionType_65 : decode cX1_functionType 65 = .ok (.istore 4, 2) := by decide +kernel
theorem V.dX1_functionType_67 : decode cX1_functionType 67 = .ok (.iload 4, 2) := by decide +kernel
theorem V.dX1_functionType_69 : decode cX1_functionType 69 = .ok (.iload_n 3, 1) := by decide +kernel
theorem V.dX1_functionType_70 : decode cX1_functionType 70 = .ok (.if_icmp .eq 23, 3) := by decide +kernel
theorem V.dX1_functionType_73 : decode cX1_functionType 73 = .ok (.aload_n 0, 1) := by decide +kernel
theorem V.dX1_functionType_74 : decode cX1_functionType 74 = .ok (.getfield 16, 3) := by decide +kernel
theorem V.dX1_functionType_77 : decode cX1_functionType 77 = .ok (.getfield 119, 3) := by decide +kernel
theorem V.dX1_functionType_80 : decode cX1_functionType 80 = .ok (.aload_n 0, 1) := by decide +kernel
theorem V.dX1_functionType_81 : decode cX1_functionType 81 = .ok (.invokevirtual 124, 3) := by decide +kernel
theorem V.dX1_functionType_84 : decode cX1_functionType 84 = .ok (.invokevirtual 101, 3) := by decide +kernel
theorem V.dX1_functionType_87 : decode cX1_functionType 87 = .ok (.iinc 4 1, 3) := by decide +kernel
theorem V.dX1_functionType_90 : decode cX1_functionType 90 = .ok (.goto (-23), 3) := by decide +kernel
theorem V.dX1_functionType_93 : decode cX1_functionType 93 = .ok (.iinc 2 1, 3) := by decide +kernel
theorem V.dX1_functionType_96 : decode cX1_functionType 96 = .ok (.goto (-53), 3) := by decide +kernel
theorem V.dX1_functionType_99 : decode cX1_functionType 99 = .ok (.return_, 1) := by decide +kernel
theorem V.fdX1_116 : FD RX1 116 2 1 2 := ⟨(RX2, TX2, 21), tyX2, rfl, rfl, in_X2, by decide, Or.inr ⟨_, q429⟩, rfl⟩
theorem V.fdX1_119 : FD RX1 119 2 2 2 := ⟨(RX2, TX2, 21), tyX2, rfl, rfl, in_X2, by decide, Or.inr ⟨_, q431⟩, rfl⟩
theorem V.mdX1_122 : MD RX1 122 yX3_size cX3_size 1 (some .int) 0 := ⟨Or.inl q1420, q363, q1423, by decide, by decide, by decide +kernel⟩
theorem V.mdX1_124 : MD RX1 124 yX1_valueType cX1_valueType 3 (some .int) 0 := ⟨Or.inl q1424, q361, q1427, by decide, by decide, by decide +kernel⟩
/-! ModuleEngine$Bytes.functionType()V -/
def V.Byt_functionType_p67 (rec43 : HS → Nat → Int32 → Option ((Nat ⊕ Unit) × HS)) : Nat → HS → Nat → Int32 → Int32 → Int32 → Option ((Nat ⊕ Unit) × HS)
  | 0, _, _, _, _, _ => none
  | n + 1, σ, x0, x2, x3, x4 =>
    if x4 = x3 then (
      bn (x2 + (1 : Int32)) fun y1 =>
      rec43 σ x0 y1)
    else (
      ck (tg σ x0 = 2) <|
      ck (tg σ (gR σ x0 3) = 3) <|
      ck (tg σ x0 = 2) <| clT (Byt_valueType σ x0 ) fun r3 σ2 =>
      ck (tg σ2 (gR σ (gR σ x0 3) 2) = 4) <| cl (Row_add σ2 (gR σ (gR σ x0 3) 2) r3) fun _ σ4 =>
      bn (x4 + (1 : Int32)) fun y5 =>
      Byt_functionType_p67 rec43 n σ4 x0 x2 x3 y5)
theorem V.gX1_functionType_p67 {X : CX} (rec43 : HS → Nat → Int32 → Option ((Nat ⊕ Unit) × HS)) (hrec43 : ∀ (σ : HS) (x0 : Nat) (x2 : Int32), G X RX1 "functionType" cX1_functionType 5 none 10 176 (enX enV (cxz X)) 43 [(0, av x0), (2, iv x2)] [] σ (rec43 σ x0 x2)) : ∀ (n : Nat) (σ : HS) (x0 : Nat) (x2 : Int32) (x3 : Int32) (x4 : Int32), G X RX1 "functionType" cX1_functionType 5 none 10 176 (enX enV (cxz X)) 67 [(0, av x0), (2, iv x2), (3, iv x3), (4, iv x4)] [] σ (Byt_functionType_p67 rec43 n σ x0 x2 x3 x4)
  | 0, σ, x0, x2, x3, x4 => by rw [Byt_functionType_p67]; exact G.nul
  | n + 1, σ, x0, x2, x3, x4 => by
    rw [Byt_functionType_p67]
    refine g_iload 3 dX1_functionType_67 rfl ?_
    refine g_iload_n 3 2 dX1_functionType_69 rfl rfl ?_
    refine g_icmp_eq 93 dX1_functionType_70 (by decide) ?_ ?_
    · refine g_iincB (w := 1) 1 dX1_functionType_93 rfl (by decide) (by decide) (fun _ => rfl) (fun y1 => ?_)
      refine g_goto 43 dX1_functionType_96 (by decide) ?_
      refine G.sub [1, 0] rfl ?_
      exact hrec43 _ _ _
    · refine g_aload_n 0 0 dX1_functionType_73 rfl rfl ?_
      refine g_getR fdX1_16 dX1_functionType_74 ?_
      refine g_getR fdX1_119 dX1_functionType_77 ?_
      refine g_aload_n 0 0 dX1_functionType_80 rfl rfl ?_
      refine g_callVT (fc := fun sς => Byt_valueType sς x0 ) (ci := 1) (as := []) rfl rfl rfl q1426 qs14 q1424 mdX1_124 (ctX1_valueType x0 ) rfl (Nat.le_of_ble_eq_true rfl) (Nat.le_of_ble_eq_true rfl) (Nat.le_of_ble_eq_true rfl) pu_I (by decide) dX1_functionType_81 (fun r3 σ2 => ?_)
      refine g_callV (fc := fun sς => Row_add sς (gR σ (gR σ x0 3) 2) r3) (ci := 3) (as := [iv r3]) rfl rfl rfl q1405 q1406 mdX1_101 (ctX3_add (gR σ (gR σ x0 3) 2) r3) rfl (Nat.le_of_ble_eq_true rfl) (Nat.le_of_ble_eq_true rfl) (Nat.le_of_ble_eq_true rfl) pu_V dX1_functionType_84 (fun _ σ4 => ?_)
      refine g_iincB (w := 1) 3 dX1_functionType_87 rfl (by decide) (by decide) (fun _ => rfl) (fun y5 => ?_)
      refine g_goto 67 dX1_functionType_90 (by decide) ?_
      refine G.sub [1, 2, 3, 0] rfl ?_
      exact gX1_functionType_p67 rec43 hrec43 n _ _ _ _ _
def V.Byt_functionType_p43  : Nat → HS → Nat → Int32 → Option ((Nat ⊕ Unit) × HS)
  | 0, _, _, _ => none
  | n + 1, σ, x0, x2 =>
    if (2 : Int32) ≤ x2 then (
      some (.inr (), σ))
    else (
      ck (tg σ x0 = 2) <| clT (Byt_whole σ x0 ) fun r2 σ1 =>
      ck (tg σ1 x0 = 2) <|
      ck (tg σ1 (gR σ1 x0 3) = 3) <|
      ck (tg σ1 (gR σ1 (gR σ1 x0 3) 2) = 4) <| cl (Row_add σ1 (gR σ1 (gR σ1 x0 3) 2) r2) fun _ σ3 =>
      Byt_functionType_p67 (Byt_functionType_p43 n) FU σ3 x0 x2 r2 (0 : Int32))
theorem V.gX1_functionType_p43 {X : CX}  : ∀ (n : Nat) (σ : HS) (x0 : Nat) (x2 : Int32), G X RX1 "functionType" cX1_functionType 5 none 10 176 (enX enV (cxz X)) 43 [(0, av x0), (2, iv x2)] [] σ (Byt_functionType_p43 n σ x0 x2)
  | 0, σ, x0, x2 => by rw [Byt_functionType_p43]; exact G.nul
  | n + 1, σ, x0, x2 => by
    rw [Byt_functionType_p43]
    refine g_iload_n 2 1 dX1_functionType_43 rfl rfl ?_
    refine g_iconst (v := 2) dX1_functionType_44 (by decide) ?_
    refine g_icmp_ge 99 dX1_functionType_45 (by decide) ?_ ?_
    · exact g_return rfl dX1_functionType_99
    · refine g_aload_n 0 0 dX1_functionType_48 rfl rfl ?_
      refine g_callVT (fc := fun sς => Byt_whole sς x0 ) (ci := 1) (as := []) rfl rfl rfl q1365 qs5 q1363 mdX1_91 (ctX1_whole x0 ) rfl (Nat.le_of_ble_eq_true rfl) (Nat.le_of_ble_eq_true rfl) (Nat.le_of_ble_eq_true rfl) pu_I (by decide) dX1_functionType_49 (fun r2 σ1 => ?_)
      refine g_istore_n 3 dX1_functionType_52 rfl (by decide) rfl ?_
      refine g_aload_n 0 1 dX1_functionType_53 rfl rfl ?_
      refine g_getR fdX1_16 dX1_functionType_54 ?_
      refine g_getR fdX1_119 dX1_functionType_57 ?_
      refine g_iload_n 3 0 dX1_functionType_60 rfl rfl ?_
      refine g_callV (fc := fun sς => Row_add sς (gR σ1 (gR σ1 x0 3) 2) r2) (ci := 3) (as := [iv r2]) rfl rfl rfl q1405 q1406 mdX1_101 (ctX3_add (gR σ1 (gR σ1 x0 3) 2) r2) rfl (Nat.le_of_ble_eq_true rfl) (Nat.le_of_ble_eq_true rfl) (Nat.le_of_ble_eq_true rfl) pu_V dX1_functionType_61 (fun _ σ3 => ?_)
      refine g_iconst (v := 0) dX1_functionType_64 (by decide) ?_
      refine g_istore dX1_functionType_65 (by decide) rfl ?_
      refine G.sub [2, 3, 1, 0] rfl ?_
      exact gX1_functionType_p67 (Byt_functionType_p43 n) (gX1_functionType_p43 n) FU _ _ _ _ _
def V.Byt_functionType_p21  (σ : HS) (x0 : Nat) : Option ((Nat ⊕ Unit) × HS) :=
  ck (tg σ x0 = 2) <|
  ck (tg σ (gR σ x0 3) = 3) <|
  ck (tg σ x0 = 2) <|
  ck (tg σ (gR σ x0 3) = 3) <|
  ck (tg σ (gR σ (gR σ x0 3) 2) = 4) <| cl (Row_size σ (gR σ (gR σ x0 3) 2) ) fun r2 σ1 =>
  ck (tg σ1 (gR σ (gR σ x0 3) 1) = 4) <| cl (Row_add σ1 (gR σ (gR σ x0 3) 1) r2) fun _ σ3 =>
  Byt_functionType_p43 FU σ3 x0 (0 : Int32)
theorem V.gX1_functionType_p21 {X : CX}  (σ : HS) (x0 : Nat) : G X RX1 "functionType" cX1_functionType 5 none 10 176 (enX enV (cxz X)) 21 [(0, av x0)] [] σ (Byt_functionType_p21 σ x0) := by
  unfold Byt_functionType_p21
  refine g_aload_n 0 0 dX1_functionType_21 rfl rfl ?_
  refine g_getR fdX1_16 dX1_functionType_22 ?_
  refine g_getR fdX1_116 dX1_functionType_25 ?_
  refine g_aload_n 0 0 dX1_functionType_28 rfl rfl ?_
  refine g_getR fdX1_16 dX1_functionType_29 ?_
  refine g_getR fdX1_119 dX1_functionType_32 ?_
  refine g_callV (fc := fun sς => Row_size sς (gR σ (gR σ x0 3) 2) ) (ci := 3) (as := []) rfl rfl rfl q1421 q1422 mdX1_122 (ctX3_size (gR σ (gR σ x0 3) 2) ) rfl (Nat.le_of_ble_eq_true rfl) (Nat.le_of_ble_eq_true rfl) (Nat.le_of_ble_eq_true rfl) pu_I dX1_functionType_35 (fun r2 σ1 => ?_)
  refine g_callV (fc := fun sς => Row_add sς (gR σ (gR σ x0 3) 1) r2) (ci := 3) (as := [iv r2]) rfl rfl rfl q1405 q1406 mdX1_101 (ctX3_add (gR σ (gR σ x0 3) 1) r2) rfl (Nat.le_of_ble_eq_true rfl) (Nat.le_of_ble_eq_true rfl) (Nat.le_of_ble_eq_true rfl) pu_V dX1_functionType_38 (fun _ σ3 => ?_)
  refine g_iconst (v := 0) dX1_functionType_41 (by decide) ?_
  refine g_istore_n 2 dX1_functionType_42 rfl (by decide) rfl ?_
  refine G.sub [1, 0] rfl ?_
  exact gX1_functionType_p43 FU _ _ _
def V.Byt_functionType (σ : HS) (x0 : Nat) : Option ((Nat ⊕ Unit) × HS) :=
  ck (tg σ x0 = 2) <|
  bn (gI σ x0 6) fun y1 =>
  ck (tg σ x0 = 2) <| clT (Byt_take σ x0 ) fun r3 σ2 =>
  if r3 = (96 : Int32) then (
    Byt_functionType_p21 σ2 x0)
  else (
    ck (tg σ2 x0 = 2) <| clT (Byt_stop σ2 x0 (8 : Int32) y1) fun _ σ4 =>
    Byt_functionType_p21 σ4 x0)
theorem V.ctX1_functionType (x0 : Nat) : Ct yX1_functionType  cX1_functionType 5 none 10 176 eXV [av x0] (fun σ => Byt_functionType σ x0) := by
  refine Ct.of (own := RX1) (nm := "functionType") (desc := "()V") rfl (by decide) (Nat.le_of_ble_eq_true rfl) (by decide) (fun X σ => ?_)
  show G X RX1 "functionType" cX1_functionType 5 none 10 176 (enX enV (cxz X)) 0 [(0, av x0)] [] σ (Byt_functionType σ x0)
  unfold Byt_functionType
  refine g_aload_n 0 0 dX1_functionType_0 rfl rfl ?_
  refine g_getI fdX1_56 dX1_functionType_1 ?_
  refine g_nmI (fun y1 => ?_)
  refine g_istore_n 1 dX1_functionType_4 rfl (by decide) rfl ?_
  refine g_aload_n 0 1 dX1_functionType_5 rfl rfl ?_
  refine g_callVT (fc := fun sς => Byt_take sς x0 ) (ci := 1) (as := []) rfl rfl rfl q1291 qs2 q1289 mdX1_73 (ctX1_take x0 ) rfl (Nat.le_of_ble_eq_true rfl) (Nat.le_of_ble_eq_true rfl) (Nat.le_of_ble_eq_true rfl) pu_I (by decide) dX1_functionType_6 (fun r3 σ2 => ?_)
  refine g_bipush (v := 96) dX1_functionType_9 (by decide) ?_
  refine g_icmp_eq 21 dX1_functionType_11 (by decide) ?_ ?_
  · refine G.sub [1] rfl ?_
    exact gX1_functionType_p21 _ _
  · refine g_aload_n 0 1 dX1_functionType_14 rfl rfl ?_
    refine g_bipush (v := 8) dX1_functionType_15 (by decide) ?_
    refine g_iload_n 1 0 dX1_functionType_17 rfl rfl ?_
    refine g_callVT (fc := fun sς => Byt_stop sς x0 (8 : Int32) y1) (ci := 1) (as := [iv (8 : Int32), iv y1]) rfl rfl rfl q1295 qs3 q1293 mdX1_68 (ctX1_stop x0 (8 : Int32) y1) rfl (Nat.le_of_ble_eq_true rfl) (Nat.le_of_ble_eq_true rfl) (Nat.le_of_ble_eq_true rfl) pu_V (by decide) dX1_functionType_18 (fun _ σ4 => ?_)
    refine G.sub [1] rfl ?_
    exact gX1_functionType_p21 _ _
theorem V.dX1_form_0 : decode cX1_form 0 = .ok (.aload_n 0, 1) := by decide +kernel
theorem V.dX1_form_1 : decode cX1_form 1 = .ok (.getfield 56, 3) := by decide +kernel
theorem V.dX1_form_4 : decode cX1_form 4 = .ok (.istore_n 2, 1) := by decide +kernel
theorem V.dX1_form_5 : decode cX1_form 5 = .ok (.aload_n 0, 1) := by decide +kernel
theorem V.dX1_form_6 : decode cX1_form 6 = .ok (.invokevirtual 73, 3) := by decide +kernel
theorem V.dX1_form_9 : decode cX1_form 9 = .ok (.istore_n 3, 1) := by decide +kernel
theorem V.dX1_form_10 : decode cX1_form 10 = .ok (.iload_n 3, 1) := by decide +kernel
theorem V.dX1_form_11 : decode cX1_form 11 = .ok (.iload_n 1, 1) := by decide +kernel
theorem V.dX1_form_12 : decode cX1_form 12 = .ok (.if_icmp .le 10, 3) := by decide +kernel
theorem V.dX1_form_15 : decode cX1_form 15 = .ok (.aload_n 0, 1) := by decide +kernel
theorem V.dX1_form_16 : decode cX1_form 16 = .ok (.bipush 7, 2) := by decide +kernel
theorem V.dX1_form_18 : decode cX1_form 18 = .ok (.iload_n 2, 1) := by decide +kernel
theorem V.dX1_form_19 : decode cX1_form 19 = .ok (.invokevirtual 68, 3) := by decide +kernel
theorem V.dX1_form_22 : decode cX1_form 22 = .ok (.iload_n 3, 1) := by decide +kernel
theorem V.dX1_form_23 : decode cX1_form 23 = .ok (.ireturn, 1) := by decide +kernel
/-! ModuleEngine$Bytes.form(I)I -/
def V.Byt_form (σ : HS) (x0 : Nat) (x1 : Int32) : Option ((Nat ⊕ Int32) × HS) :=
  ck (tg σ x0 = 2) <|
  bn (gI σ x0 6) fun y1 =>
  ck (tg σ x0 = 2) <| clT (Byt_take σ x0 ) fun r3 σ2 =>
  if r3 ≤ x1 then (
    some (.inr r3, σ2))
  else (
    ck (tg σ2 x0 = 2) <| clT (Byt_stop σ2 x0 (7 : Int32) y1) fun _ σ4 =>
    some (.inr r3, σ4))
theorem V.ctX1_form (x0 : Nat) (x1 : Int32) : Ct yX1_form  cX1_form 4 (some .int) 8 128 eXI [av x0, iv x1] (fun σ => Byt_form σ x0 x1) := by
  refine Ct.of (own := RX1) (nm := "form") (desc := "(I)I") rfl (by decide) (Nat.le_of_ble_eq_true rfl) (by decide) (fun X σ => ?_)
  show G X RX1 "form" cX1_form 4 (some .int) 8 128 (enX enI (cxz X)) 0 [(0, av x0), (1, iv x1)] [] σ (Byt_form σ x0 x1)
  unfold Byt_form
  refine g_aload_n 0 0 dX1_form_0 rfl rfl ?_
  refine g_getI fdX1_56 dX1_form_1 ?_
  refine g_nmI (fun y1 => ?_)
  refine g_istore_n 2 dX1_form_4 rfl (by decide) rfl ?_
  refine g_aload_n 0 1 dX1_form_5 rfl rfl ?_
  refine g_callVT (fc := fun sς => Byt_take sς x0 ) (ci := 1) (as := []) rfl rfl rfl q1291 qs2 q1289 mdX1_73 (ctX1_take x0 ) rfl (Nat.le_of_ble_eq_true rfl) (Nat.le_of_ble_eq_true rfl) (Nat.le_of_ble_eq_true rfl) pu_I (by decide) dX1_form_6 (fun r3 σ2 => ?_)
  refine g_istore_n 3 dX1_form_9 rfl (by decide) rfl ?_
  refine g_iload_n 3 0 dX1_form_10 rfl rfl ?_
  refine g_iload_n 1 3 dX1_form_11 rfl rfl ?_
  refine g_icmp_le 22 dX1_form_12 (by decide) ?_ ?_
  · refine g_iload_n 3 0 dX1_form_22 rfl rfl ?_
    exact g_ireturn rfl dX1_form_23
  · refine g_aload_n 0 2 dX1_form_15 rfl rfl ?_
    refine g_bipush (v := 7) dX1_form_16 (by decide) ?_
    refine g_iload_n 2 1 dX1_form_18 rfl rfl ?_
    refine g_callVT (fc := fun sς => Byt_stop sς x0 (7 : Int32) y1) (ci := 1) (as := [iv (7 : Int32), iv y1]) rfl rfl rfl q1295 qs3 q1293 mdX1_68 (ctX1_stop x0 (7 : Int32) y1) rfl (Nat.le_of_ble_eq_true rfl) (Nat.le_of_ble_eq_true rfl) (Nat.le_of_ble_eq_true rfl) pu_V (by decide) dX1_form_19 (fun _ σ4 => ?_)
    refine g_iload_n 3 0 dX1_form_22 rfl rfl ?_
    exact g_ireturn rfl dX1_form_23
theorem V.dX1_referenceType_0 : decode cX1_referenceType 0 = .ok (.aload_n 0, 1) := by decide +kernel
theorem V.dX1_referenceType_1 : decode cX1_referenceType 1 = .ok (.getfield 56, 3) := by decide +kernel
theorem V.dX1_referenceType_4 : decode cX1_referenceType 4 = .ok (.istore_n 1, 1) := by decide +kernel
theorem V.dX1_referenceType_5 : decode cX1_referenceType 5 = .ok (.aload_n 0, 1) := by decide +kernel
theorem V.dX1_referenceType_6 : decode cX1_referenceType 6 = .ok (.invokevirtual 73, 3) := by decide +kernel
theorem V.dX1_referenceType_9 : decode cX1_referenceType 9 = .ok (.istore_n 2, 1) := by decide +kernel
theorem V.dX1_referenceType_10 : decode cX1_referenceType 10 = .ok (.iload_n 2, 1) := by decide +kernel
theorem V.dX1_referenceType_11 : decode cX1_referenceType 11 = .ok (.invokestatic 109, 3) := by decide +kernel
theorem V.dX1_referenceType_14 : decode cX1_referenceType 14 = .ok (.ifCond .ne 10, 3) := by decide +kernel
theorem V.dX1_referenceType_17 : decode cX1_referenceType 17 = .ok (.aload_n 0, 1) := by decide +kernel
theorem V.dX1_referenceType_18 : decode cX1_referenceType 18 = .ok (.bipush 8, 2) := by decide +kernel
theorem V.dX1_referenceType_20 : decode cX1_referenceType 20 = .ok (.iload_n 1, 1) := by decide +kernel
theorem V.dX1_referenceType_21 : decode cX1_referenceType 21 = .ok (.invokevirtual 68, 3) := by decide +kernel
theorem V.dX1_referenceType_24 : decode cX1_referenceType 24 = .ok (.iload_n 2, 1) := by decide +kernel
theorem V.dX1_referenceType_25 : decode cX1_referenceType 25 = .ok (.ireturn, 1) := by decide +kernel
/-! ModuleEngine$Bytes.referenceType()I -/
def V.Byt_referenceType (σ : HS) (x0 : Nat) : Option ((Nat ⊕ Int32) × HS) :=
  ck (tg σ x0 = 2) <|
  bn (gI σ x0 6) fun y1 =>
  ck (tg σ x0 = 2) <| clT (Byt_take σ x0 ) fun r3 σ2 =>
  cl (Byt_isReference σ2 r3) fun r5 σ4 =>
  if r5 = 0 then (
    ck (tg σ4 x0 = 2) <| clT (Byt_stop σ4 x0 (8 : Int32) y1) fun _ σ6 =>
    some (.inr r3, σ6))
  else (
    some (.inr r3, σ4))
theorem V.ctX1_referenceType (x0 : Nat) : Ct yX1_referenceType  cX1_referenceType 3 (some .int) 8 128 eXI [av x0] (fun σ => Byt_referenceType σ x0) := by
  refine Ct.of (own := RX1) (nm := "referenceType") (desc := "()I") rfl (by decide) (Nat.le_of_ble_eq_true rfl) (by decide) (fun X σ => ?_)
  show G X RX1 "referenceType" cX1_referenceType 3 (some .int) 8 128 (enX enI (cxz X)) 0 [(0, av x0)] [] σ (Byt_referenceType σ x0)
  unfold Byt_referenceType
  refine g_aload_n 0 0 dX1_referenceType_0 rfl rfl ?_
  refine g_getI fdX1_56 dX1_referenceType_1 ?_
  refine g_nmI (fun y1 => ?_)
  refine g_istore_n 1 dX1_referenceType_4 rfl (by decide) rfl ?_
  refine g_aload_n 0 1 dX1_referenceType_5 rfl rfl ?_
  refine g_callVT (fc := fun sς => Byt_take sς x0 ) (ci := 1) (as := []) rfl rfl rfl q1291 qs2 q1289 mdX1_73 (ctX1_take x0 ) rfl (Nat.le_of_ble_eq_true rfl) (Nat.le_of_ble_eq_true rfl) (Nat.le_of_ble_eq_true rfl) pu_I (by decide) dX1_referenceType_6 (fun r3 σ2 => ?_)
  refine g_istore_n 2 dX1_referenceType_9 rfl (by decide) rfl ?_
  refine g_iload_n 2 0 dX1_referenceType_10 rfl rfl ?_
  refine g_callS (fc := fun sς => Byt_isReference sς r3) (as := [iv r3]) q1432 mdX1_109 (ctX1_isReference r3) rfl (Nat.le_of_ble_eq_true rfl) (Nat.le_of_ble_eq_true rfl) (Nat.le_of_ble_eq_true rfl) pu_I dX1_referenceType_11 (fun r5 σ4 => ?_)
  refine g_if_ne 24 dX1_referenceType_14 (by decide) ?_ ?_
  · refine g_iload_n 2 0 dX1_referenceType_24 rfl rfl ?_
    exact g_ireturn rfl dX1_referenceType_25
  · refine g_aload_n 0 2 dX1_referenceType_17 rfl rfl ?_
    refine g_bipush (v := 8) dX1_referenceType_18 (by decide) ?_
    refine g_iload_n 1 1 dX1_referenceType_20 rfl rfl ?_
    refine g_callVT (fc := fun sς => Byt_stop sς x0 (8 : Int32) y1) (ci := 1) (as := [iv (8 : Int32), iv y1]) rfl rfl rfl q1295 qs3 q1293 mdX1_68 (ctX1_stop x0 (8 : Int32) y1) rfl (Nat.le_of_ble_eq_true rfl) (Nat.le_of_ble_eq_true rfl) (Nat.le_of_ble_eq_true rfl) pu_V (by decide) dX1_referenceType_21 (fun _ σ6 => ?_)
    refine g_iload_n 2 0 dX1_referenceType_24 rfl rfl ?_
    exact g_ireturn rfl dX1_referenceType_25
theorem V.dX1_limits_0 : decode cX1_limits 0 = .ok (.aload_n 0, 1) := by decide +kernel
theorem V.dX1_limits_1 : decode cX1_limits 1 = .ok (.iconst 1, 1) := by decide +kernel
theorem V.dX1_limits_2 : decode cX1_limits 2 = .ok (.invokevirtual 127, 3) := by decide +kernel
theorem V.dX1_limits_5 : decode cX1_limits 5 = .ok (.istore_n 2, 1) := by decide +kernel
theorem V.dX1_limits_6 : decode cX1_limits 6 = .ok (.aload_n 1, 1) := by decide +kernel
theorem V.dX1_limits_7 : decode cX1_limits 7 = .ok (.aload_n 0, 1) := by decide +kernel
theorem V.dX1_limits_8 : decode cX1_limits 8 = .ok (.invokevirtual 91, 3) := by decide +kernel
theorem V.dX1_limits_11 : decode cX1_limits 11 = .ok (.invokevirtual 101, 3) := by decide +kernel
theorem V.dX1_limits_14 : decode cX1_limits 14 = .ok (.aload_n 1, 1) := by decide +kernel
theorem V.dX1_limits_15 : decode cX1_limits 15 = .ok (.iload_n 2, 1) := by decide +kernel
theorem V.dX1_limits_16 : decode cX1_limits 16 = .ok (.iconst 1, 1) := by decide +kernel
theorem V.dX1_limits_17 : decode cX1_limits 17 = .ok (.if_icmp .ne 10, 3) := by decide +kernel
theorem V.dX1_limits_20 : decode cX1_limits 20 = .ok (.aload_n 0, 1) := by decide +kernel
theorem V.dX1_limits_21 : decode cX1_limits 21 = .ok (.invokevirtual 91, 3) := by decide +kernel
theorem V.dX1_limits_24 : decode cX1_limits 24 = .ok (.goto 4, 3) := by decide +kernel
theorem V.dX1_limits_27 : decode cX1_limits 27 = .ok (.iconst 0, 1) := by decide +kernel
theorem V.dX1_limits_28 : decode cX1_limits 28 = .ok (.invokevirtual 101, 3) := by decide +kernel
theorem V.dX1_limits_31 : decode cX1_limits 31 = .ok (.aload_n 1, 1) := by decide +kernel
theorem V.dX1_limits_32 : decode cX1_limits 32 = .ok (.iload_n 2, 1) := by decide +kernel
theorem V.dX1_limits_33 : decode cX1_limits 33 = .ok (.invokevirtual 101, 3) := by decide +kernel
theorem V.dX1_limits_36 : decode cX1_limits 36 = .ok (.return_, 1) := by decide +kernel
theorem V.mdX1_127 : MD RX1 127 yX1_form cX1_form 4 (some .int) 1 := ⟨Or.inl q1442, q361, q1445, by decide, by decide, by decide +kernel⟩
/-! ModuleEngine$Bytes.limits(LModuleEngine$Row;)V -/
def V.Byt_limits_p28  (σ : HS) (x1 : Nat) (x2 : Int32) (s0 : Int32) (s1 : Nat) : Option ((Nat ⊕ Unit) × HS) :=
  ck (tg σ s1 = 4) <| cl (Row_add σ s1 s0) fun _ σ1 =>
  ck (tg σ1 x1 = 4) <| cl (Row_add σ1 x1 x2) fun _ σ2 =>
  some (.inr (), σ2)
theorem V.gX1_limits_p28 {X : CX}  (σ : HS) (x1 : Nat) (x2 : Int32) (s0 : Int32) (s1 : Nat) : G X RX1 "limits" cX1_limits 3 none 10 176 (enX enV (cxz X)) 28 [(1, av x1), (2, iv x2)] [iv s0, av s1] σ (Byt_limits_p28 σ x1 x2 s0 s1) := by
  unfold Byt_limits_p28
  refine g_callV (fc := fun sς => Row_add sς s1 s0) (ci := 3) (as := [iv s0]) rfl rfl rfl q1405 q1406 mdX1_101 (ctX3_add s1 s0) rfl (Nat.le_of_ble_eq_true rfl) (Nat.le_of_ble_eq_true rfl) (Nat.le_of_ble_eq_true rfl) pu_V dX1_limits_28 (fun _ σ1 => ?_)
  refine g_aload_n 1 0 dX1_limits_31 rfl rfl ?_
  refine g_iload_n 2 1 dX1_limits_32 rfl rfl ?_
  refine g_callV (fc := fun sς => Row_add sς x1 x2) (ci := 3) (as := [iv x2]) rfl rfl rfl q1405 q1406 mdX1_101 (ctX3_add x1 x2) rfl (Nat.le_of_ble_eq_true rfl) (Nat.le_of_ble_eq_true rfl) (Nat.le_of_ble_eq_true rfl) pu_V dX1_limits_33 (fun _ σ2 => ?_)
  exact g_return rfl dX1_limits_36
def V.Byt_limits (σ : HS) (x0 : Nat) (x1 : Nat) : Option ((Nat ⊕ Unit) × HS) :=
  ck (tg σ x0 = 2) <| clT (Byt_form σ x0 (1 : Int32)) fun r2 σ1 =>
  ck (tg σ1 x0 = 2) <| clT (Byt_whole σ1 x0 ) fun r4 σ3 =>
  ck (tg σ3 x1 = 4) <| cl (Row_add σ3 x1 r4) fun _ σ5 =>
  if r2 = (1 : Int32) then (
    ck (tg σ5 x0 = 2) <| clT (Byt_whole σ5 x0 ) fun r7 σ6 =>
    Byt_limits_p28 σ6 x1 r2 r7 x1)
  else (
    Byt_limits_p28 σ5 x1 r2 (0 : Int32) x1)
theorem V.ctX1_limits (x0 : Nat) (x1 : Nat) : Ct yX1_limits  cX1_limits 3 none 10 176 eXV [av x0, av x1] (fun σ => Byt_limits σ x0 x1) := by
  refine Ct.of (own := RX1) (nm := "limits") (desc := "(LModuleEngine$Row;)V") rfl (by decide) (Nat.le_of_ble_eq_true rfl) (by decide) (fun X σ => ?_)
  show G X RX1 "limits" cX1_limits 3 none 10 176 (enX enV (cxz X)) 0 [(0, av x0), (1, av x1)] [] σ (Byt_limits σ x0 x1)
  unfold Byt_limits
  refine g_aload_n 0 0 dX1_limits_0 rfl rfl ?_
  refine g_iconst (v := 1) dX1_limits_1 (by decide) ?_
  refine g_callVT (fc := fun sς => Byt_form sς x0 (1 : Int32)) (ci := 1) (as := [iv (1 : Int32)]) rfl rfl rfl q1444 qs16 q1442 mdX1_127 (ctX1_form x0 (1 : Int32)) rfl (Nat.le_of_ble_eq_true rfl) (Nat.le_of_ble_eq_true rfl) (Nat.le_of_ble_eq_true rfl) pu_I (by decide) dX1_limits_2 (fun r2 σ1 => ?_)
  refine g_istore_n 2 dX1_limits_5 rfl (by decide) rfl ?_
  refine g_aload_n 1 2 dX1_limits_6 rfl rfl ?_
  refine g_aload_n 0 1 dX1_limits_7 rfl rfl ?_
  refine g_callVT (fc := fun sς => Byt_whole sς x0 ) (ci := 1) (as := []) rfl rfl rfl q1365 qs5 q1363 mdX1_91 (ctX1_whole x0 ) rfl (Nat.le_of_ble_eq_true rfl) (Nat.le_of_ble_eq_true rfl) (Nat.le_of_ble_eq_true rfl) pu_I (by decide) dX1_limits_8 (fun r4 σ3 => ?_)
  refine g_callV (fc := fun sς => Row_add sς x1 r4) (ci := 3) (as := [iv r4]) rfl rfl rfl q1405 q1406 mdX1_101 (ctX3_add x1 r4) rfl (Nat.le_of_ble_eq_true rfl) (Nat.le_of_ble_eq_true rfl) (Nat.le_of_ble_eq_true rfl) pu_V dX1_limits_11 (fun _ σ5 => ?_)
  refine g_aload_n 1 2 dX1_limits_14 rfl rfl ?_
  refine g_iload_n 2 0 dX1_limits_15 rfl rfl ?_
  refine g_iconst (v := 1) dX1_limits_16 (by decide) ?_
  refine g_icmp_ne 27 dX1_limits_17 (by decide) ?_ ?_
  · refine g_iconst (v := 0) dX1_limits_27 (by decide) ?_
    refine G.sub [2, 0] rfl ?_
    exact gX1_limits_p28 _ _ _ _ _
  · refine g_aload_n 0 1 dX1_limits_20 rfl rfl ?_
    refine g_callVT (fc := fun sς => Byt_whole sς x0 ) (ci := 1) (as := []) rfl rfl rfl q1365 qs5 q1363 mdX1_91 (ctX1_whole x0 ) rfl (Nat.le_of_ble_eq_true rfl) (Nat.le_of_ble_eq_true rfl) (Nat.le_of_ble_eq_true rfl) pu_I (by decide) dX1_limits_21 (fun r7 σ6 => ?_)
    refine g_goto 28 dX1_limits_24 (by decide) ?_
    refine G.sub [2, 0] rfl ?_
    exact gX1_limits_p28 _ _ _ _ _
theorem V.dX1_table_0 : decode cX1_table 0 = .ok (.aload_n 1, 1) := by decide +kernel
theorem V.dX1_table_1 : decode cX1_table 1 = .ok (.aload_n 0, 1) := by decide +kernel
theorem V.dX1_table_2 : decode cX1_table 2 = .ok (.invokevirtual 130, 3) := by decide +kernel
theorem V.dX1_table_5 : decode cX1_table 5 = .ok (.invokevirtual 101, 3) := by decide +kernel
theorem V.dX1_table_8 : decode cX1_table 8 = .ok (.aload_n 0, 1) := by decide +kernel
theorem V.dX1_table_9 : decode cX1_table 9 = .ok (.aload_n 1, 1) := by decide +kernel
theorem V.dX1_table_10 : decode cX1_table 10 = .ok (.invokevirtual 133, 3) := by decide +kernel
theorem V.dX1_table_13 : decode cX1_table 13 = .ok (.return_, 1) := by decide +kernel
theorem V.mdX1_130 : MD RX1 130 yX1_referenceType cX1_referenceType 3 (some .int) 0 := ⟨Or.inl q1450, q361, q1453, by decide, by decide, by decide +kernel⟩
theorem V.mdX1_133 : MD RX1 133 yX1_limits cX1_limits 3 none 1 := ⟨Or.inl q1454, q361, q1457, by decide, by decide, by decide +kernel⟩
/-! ModuleEngine$Bytes.table(LModuleEngine$Row;)V -/
def V.Byt_table (σ : HS) (x0 : Nat) (x1 : Nat) : Option ((Nat ⊕ Unit) × HS) :=
  ck (tg σ x0 = 2) <| clT (Byt_referenceType σ x0 ) fun r2 σ1 =>
  ck (tg σ1 x1 = 4) <| cl (Row_add σ1 x1 r2) fun _ σ3 =>
  ck (tg σ3 x0 = 2) <| clT (Byt_limits σ3 x0 x1) fun _ σ4 =>
  some (.inr (), σ4)
theorem V.ctX1_table (x0 : Nat) (x1 : Nat) : Ct yX1_table  cX1_table 2 none 11 198 eXV [av x0, av x1] (fun σ => Byt_table σ x0 x1) := by
  refine Ct.of (own := RX1) (nm := "table") (desc := "(LModuleEngine$Row;)V") rfl (by decide) (Nat.le_of_ble_eq_true rfl) (by decide) (fun X σ => ?_)
  show G X RX1 "table" cX1_table 2 none 11 198 (enX enV (cxz X)) 0 [(0, av x0), (1, av x1)] [] σ (Byt_table σ x0 x1)
  unfold Byt_table
  refine g_aload_n 1 1 dX1_table_0 rfl rfl ?_
  refine g_aload_n 0 0 dX1_table_1 rfl rfl ?_
  refine g_callVT (fc := fun sς => Byt_referenceType sς x0 ) (ci := 1) (as := []) rfl rfl rfl q1452 qs18 q1450 mdX1_130 (ctX1_referenceType x0 ) rfl (Nat.le_of_ble_eq_true rfl) (Nat.le_of_ble_eq_true rfl) (Nat.le_of_ble_eq_true rfl) pu_I (by decide) dX1_table_2 (fun r2 σ1 => ?_)
  refine g_callV (fc := fun sς => Row_add sς x1 r2) (ci := 3) (as := [iv r2]) rfl rfl rfl q1405 q1406 mdX1_101 (ctX3_add x1 r2) rfl (Nat.le_of_ble_eq_true rfl) (Nat.le_of_ble_eq_true rfl) (Nat.le_of_ble_eq_true rfl) pu_V dX1_table_5 (fun _ σ3 => ?_)
  refine g_aload_n 0 0 dX1_table_8 rfl rfl ?_
  refine g_aload_n 1 1 dX1_table_9 rfl rfl ?_
  refine g_callVT (fc := fun sς => Byt_limits sς x0 x1) (ci := 1) (as := [av x1]) rfl rfl rfl q1456 qs19 q1454 mdX1_133 (ctX1_limits x0 x1) rfl (Nat.le_of_ble_eq_true rfl) (Nat.le_of_ble_eq_true rfl) (Nat.le_of_ble_eq_true rfl) pu_V (by decide) dX1_table_10 (fun _ σ4 => ?_)
  exact g_return rfl dX1_table_13
theorem V.dX1_memory_0 : decode cX1_memory 0 = .ok (.aload_n 1, 1) := by decide +kernel
theorem V.dX1_memory_1 : decode cX1_memory 1 = .ok (.iconst 0, 1) := by decide +kernel
theorem V.dX1_memory_2 : decode cX1_memory 2 = .ok (.invokevirtual 101, 3) := by decide +kernel
theorem V.dX1_memory_5 : decode cX1_memory 5 = .ok (.aload_n 0, 1) := by decide +kernel
theorem V.dX1_memory_6 : decode cX1_memory 6 = .ok (.aload_n 1, 1) := by decide +kernel
theorem V.dX1_memory_7 : decode cX1_memory 7 = .ok (.invokevirtual 133, 3) := by decide +kernel
theorem V.dX1_memory_10 : decode cX1_memory 10 = .ok (.return_, 1) := by decide +kernel
/-! ModuleEngine$Bytes.memory(LModuleEngine$Row;)V -/
def V.Byt_memory (σ : HS) (x0 : Nat) (x1 : Nat) : Option ((Nat ⊕ Unit) × HS) :=
  ck (tg σ x1 = 4) <| cl (Row_add σ x1 (0 : Int32)) fun _ σ1 =>
  ck (tg σ1 x0 = 2) <| clT (Byt_limits σ1 x0 x1) fun _ σ2 =>
  some (.inr (), σ2)
theorem V.ctX1_memory (x0 : Nat) (x1 : Nat) : Ct yX1_memory  cX1_memory 2 none 11 198 eXV [av x0, av x1] (fun σ => Byt_memory σ x0 x1) := by
  refine Ct.of (own := RX1) (nm := "memory") (desc := "(LModuleEngine$Row;)V") rfl (by decide) (Nat.le_of_ble_eq_true rfl) (by decide) (fun X σ => ?_)
  show G X RX1 "memory" cX1_memory 2 none 11 198 (enX enV (cxz X)) 0 [(0, av x0), (1, av x1)] [] σ (Byt_memory σ x0 x1)
  unfold Byt_memory
  refine g_aload_n 1 1 dX1_memory_0 rfl rfl ?_
  refine g_iconst (v := 0) dX1_memory_1 (by decide) ?_
  refine g_callV (fc := fun sς => Row_add sς x1 (0 : Int32)) (ci := 3) (as := [iv (0 : Int32)]) rfl rfl rfl q1405 q1406 mdX1_101 (ctX3_add x1 (0 : Int32)) rfl (Nat.le_of_ble_eq_true rfl) (Nat.le_of_ble_eq_true rfl) (Nat.le_of_ble_eq_true rfl) pu_V dX1_memory_2 (fun _ σ1 => ?_)
  refine g_aload_n 0 0 dX1_memory_5 rfl rfl ?_
  refine g_aload_n 1 1 dX1_memory_6 rfl rfl ?_
  refine g_callVT (fc := fun sς => Byt_limits sς x0 x1) (ci := 1) (as := [av x1]) rfl rfl rfl q1456 qs19 q1454 mdX1_133 (ctX1_limits x0 x1) rfl (Nat.le_of_ble_eq_true rfl) (Nat.le_of_ble_eq_true rfl) (Nat.le_of_ble_eq_true rfl) pu_V (by decide) dX1_memory_7 (fun _ σ2 => ?_)
  exact g_return rfl dX1_memory_10
theorem V.dX1_global_0 : decode cX1_global 0 = .ok (.aload_n 1, 1) := by decide +kernel
theorem V.dX1_global_1 : decode cX1_global 1 = .ok (.aload_n 0, 1) := by decide +kernel
theorem V.dX1_global_2 : decode cX1_global 2 = .ok (.invokevirtual 124, 3) := by decide +kernel
theorem V.dX1_global_5 : decode cX1_global 5 = .ok (.invokevirtual 101, 3) := by decide +kernel
theorem V.dX1_global_8 : decode cX1_global 8 = .ok (.aload_n 1, 1) := by decide +kernel
theorem V.dX1_global_9 : decode cX1_global 9 = .ok (.aload_n 0, 1) := by decide +kernel
theorem V.dX1_global_10 : decode cX1_global 10 = .ok (.iconst 1, 1) := by decide +kernel
theorem V.dX1_global_11 : decode cX1_global 11 = .ok (.invokevirtual 127, 3) := by decide +kernel
theorem V.dX1_global_14 : decode cX1_global 14 = .ok (.invokevirtual 101, 3) := by decide +kernel
theorem V.dX1_global_17 : decode cX1_global 17 = .ok (.return_, 1) := by decide +kernel
/-! ModuleEngine$Bytes.global(LModuleEngine$Row;)V -/
def V.Byt_global (σ : HS) (x0 : Nat) (x1 : Nat) : Option ((Nat ⊕ Unit) × HS) :=
  ck (tg σ x0 = 2) <| clT (Byt_valueType σ x0 ) fun r2 σ1 =>
  ck (tg σ1 x1 = 4) <| cl (Row_add σ1 x1 r2) fun _ σ3 =>
  ck (tg σ3 x0 = 2) <| clT (Byt_form σ3 x0 (1 : Int32)) fun r5 σ4 =>
  ck (tg σ4 x1 = 4) <| cl (Row_add σ4 x1 r5) fun _ σ6 =>
  some (.inr (), σ6)
theorem V.ctX1_global (x0 : Nat) (x1 : Nat) : Ct yX1_global  cX1_global 2 none 9 151 eXV [av x0, av x1] (fun σ => Byt_global σ x0 x1) := by
  refine Ct.of (own := RX1) (nm := "global") (desc := "(LModuleEngine$Row;)V") rfl (by decide) (Nat.le_of_ble_eq_true rfl) (by decide) (fun X σ => ?_)
  show G X RX1 "global" cX1_global 2 none 9 151 (enX enV (cxz X)) 0 [(0, av x0), (1, av x1)] [] σ (Byt_global σ x0 x1)
  unfold Byt_global
  refine g_aload_n 1 1 dX1_global_0 rfl rfl ?_
  refine g_aload_n 0 0 dX1_global_1 rfl rfl ?_
  refine g_callVT (fc := fun sς => Byt_valueType sς x0 ) (ci := 1) (as := []) rfl rfl rfl q1426 qs14 q1424 mdX1_124 (ctX1_valueType x0 ) rfl (Nat.le_of_ble_eq_true rfl) (Nat.le_of_ble_eq_true rfl) (Nat.le_of_ble_eq_true rfl) pu_I (by decide) dX1_global_2 (fun r2 σ1 => ?_)
  refine g_callV (fc := fun sς => Row_add sς x1 r2) (ci := 3) (as := [iv r2]) rfl rfl rfl q1405 q1406 mdX1_101 (ctX3_add x1 r2) rfl (Nat.le_of_ble_eq_true rfl) (Nat.le_of_ble_eq_true rfl) (Nat.le_of_ble_eq_true rfl) pu_V dX1_global_5 (fun _ σ3 => ?_)
  refine g_aload_n 1 1 dX1_global_8 rfl rfl ?_
  refine g_aload_n 0 0 dX1_global_9 rfl rfl ?_
  refine g_iconst (v := 1) dX1_global_10 (by decide) ?_
  refine g_callVT (fc := fun sς => Byt_form sς x0 (1 : Int32)) (ci := 1) (as := [iv (1 : Int32)]) rfl rfl rfl q1444 qs16 q1442 mdX1_127 (ctX1_form x0 (1 : Int32)) rfl (Nat.le_of_ble_eq_true rfl) (Nat.le_of_ble_eq_true rfl) (Nat.le_of_ble_eq_true rfl) pu_I (by decide) dX1_global_11 (fun r5 σ4 => ?_)
  refine g_callV (fc := fun sς => Row_add sς x1 r5) (ci := 3) (as := [iv r5]) rfl rfl rfl q1405 q1406 mdX1_101 (ctX3_add x1 r5) rfl (Nat.le_of_ble_eq_true rfl) (Nat.le_of_ble_eq_true rfl) (Nat.le_of_ble_eq_true rfl) pu_V dX1_global_14 (fun _ σ6 => ?_)
  exact g_return rfl dX1_global_17
theorem V.dX1_importOne_0 : decode cX1_importOne 0 = .ok (.aload_n 0, 1) := by decide +kernel
theorem V.dX1_importOne_1 : decode cX1_importOne 1 = .ok (.getfield 16, 3) := by decide +kernel
theorem V.dX1_importOne_4 : decode cX1_importOne 4 = .ok (.getfield 179, 3) := by decide +kernel
theorem V.dX1_importOne_7 : decode cX1_importOne 7 = .ok (.astore_n 1, 1) := by decide +kernel
theorem V.dX1_importOne_8 : decode cX1_importOne 8 = .ok (.aload_n 1, 1) := by decide +kernel
theorem V.dX1_importOne_9 : decode cX1_importOne 9 = .ok (.invokevirtual 122, 3) := by decide +kernel
theorem V.dX1_importOne_12 : decode cX1_importOne 12 = .ok (.istore_n 2, 1) := by decide +kernel
theorem V.dX1_importOne_13 : decode cX1_importOne 13 = .ok (.aload_n 0, 1) := by decide +kernel
theorem V.dX1_importOne_14 : decode cX1_importOne 14 = .ok (.aload_n 1, 1) := by decide +kernel
theorem V.dX1_importOne_15 : decode cX1_importOne 15 = .ok (.invokevirtual 182, 3) := by decide +kernel
theorem V.dX1_importOne_18 : decode cX1_importOne 18 = .ok (.aload_n 0, 1) := by decide +kernel
theorem V.dX1_importOne_19 : decode cX1_importOne 19 = .ok (.aload_n 1, 1) := by decide +kernel
theorem V.dX1_importOne_20 : decode cX1_importOne 20 = .ok (.invokevirtual 182, 3) := by decide +kernel
theorem V.dX1_importOne_23 : decode cX1_importOne 23 = .ok (.iconst 0, 1) := by decide +kernel
theorem V.dX1_importOne_24 : decode cX1_importOne 24 = .ok (.istore_n 3, 1) := by decide +kernel
theorem V.dX1_importOne_25 : decode cX1_importOne 25 = .ok (.iload_n 3, 1) := by decide +kernel
theorem V.dX1_importOne_26 : decode cX1_importOne 26 = .ok (.iconst 5, 1) := by decide +kernel
theorem V.dX1_importOne_27 : decode cX1_importOne 27 = .ok (.if_icmp .ge 14, 3) := by decide +kernel
theorem V.dX1_importOne_30 : decode cX1_importOne 30 = .ok (.aload_n 1, 1) := by decide +kernel
theorem V.dX1_importOne_31 : decode cX1_importOne 31 = .ok (.iconst 0, 1) := by decide +kernel
theorem V.dX1_importOne_32 : decode cX1_importOne 32 = .ok (.invokevirtual 101, 3) := by decide +kernel
theorem V.dX1_importOne_35 : decode cX1_importOne 35 = .ok (.iinc 3 1, 3) := by decide +kernel
theorem V.dX1_importOne_38 : decode cX1_importOne 38 = .ok (.goto (-13), 3) := by decide +kernel
theorem V.dX1_importOne_41 : decode cX1_importOne 41 = .ok (.iconst 3, 1) := by decide +kernel
theorem V.dX1_importOne_42 : decode cX1_importOne 42 = .ok (.istore_n 3, 1) := by decide +kernel
theorem V.dX1_importOne_43 : decode cX1_importOne 43 = .ok (.iload_n 3, 1) := by decide +kernel
theorem V.dX1_importOne_44 : decode cX1_importOne 44 = .ok (.ifCond .lt 25, 3) := by decide +kernel
theorem V.dX1_importOne_47 : decode cX1_importOne 47 = .ok (.aload_n 1, 1) := by decide +kernel
theorem V.dX1_importOne_48 : decode cX1_importOne 48 = .ok (.iload_n 2, 1) := by decide +kernel
theorem V.dX1_importOne_49 : decode cX1_importOne 49 = .ok (.iconst 5, 1) := by decide +kernel
theorem V.dX1_importOne_50 : decode cX1_importOne 50 = .ok (.iadd, 1) := by decide +kernel
theorem V.dX1_importOne_51 : decode cX1_importOne 51 = .ok (.iload_n 3, 1) := by decide +kernel
theorem V.dX1_importOne_52 : decode cX1_importOne 52 = .ok (.iadd, 1) := by decide +kernel
theorem V.dX1_importOne_53 : decode cX1_importOne 53 = .ok (.aload_n 1, 1) := by decide +kernel
theorem V.dX1_importOne_54 : decode cX1_importOne 54 = .ok (.iload_n 2, 1) := by decide +kernel
theorem V.dX1_importOne_55 : decode cX1_importOne 55 = .ok (.iload_n 3, 1) := by decide +kernel
theorem V.dX1_importOne_56 : decode cX1_importOne 56 = .ok (.iadd, 1) := by decide +kernel
theorem V.dX1_importOne_57 : decode cX1_importOne 57 = .ok (.invokevirtual 149, 3) := by decide +kernel
theorem V.dX1_importOne_60 : decode cX1_importOne 60 = .ok (.invokevirtual 151, 3) := by decide +kernel
theorem V.dX1_importOne_63 : decode cX1_importOne 63 = .ok (.iinc 3 (-1), 3) := by decide +kernel
theorem V.dX1_importOne_66 : decode cX1_importOne 66 = .ok (.goto (-23), 3) := by decide +kernel
theorem V.dX1_importOne_69 : decode cX1_importOne 69 = .ok (.aload_n 0, 1) := by decide +kernel
theorem V.dX1_importOne_70 : decode cX1_importOne 70 = .ok (.iconst 3, 1) := by decide +kernel
theorem V.dX1_importOne_71 : decode cX1_importOne 71 = .ok (.invokevirtual 127, 3) := by decide +kernel
theorem V.dX1_importOne_74 : decode cX1_importOne 74 = .ok (.istore_n 3, 1) := by decide +kernel
theorem V.dX1_importOne_75 : decode cX1_importOne 75 = .ok (.aload_n 0, 1) := by decide +kernel
theorem V.dX1_importOne_76 : decode cX1_importOne 76 = .ok (.getfield 31, 3) := by decide +kernel
theorem V.dX1_importOne_79 : decode cX1_importOne 79 = .ok (.astore 4, 2) := by decide +kernel
theorem V.dX1_importOne_81 : decode cX1_importOne 81 = .ok (.aload 4, 2) := by decide +kernel
theorem V.dX1_importOne_83 : decode cX1_importOne 83 = .ok (.iconst 0, 1) := by decide +kernel
theorem V.dX1_importOne_84 : decode cX1_importOne 84 = .ok (.invokevirtual 170, 3) := by decide +kernel
theorem V.dX1_importOne_87 : decode cX1_importOne 87 = .ok (.iload_n 3, 1) := by decide +kernel
theorem V.dX1_importOne_88 : decode cX1_importOne 88 = .ok (.ifCond .ne 15, 3) := by decide +kernel
theorem V.dX1_importOne_91 : decode cX1_importOne 91 = .ok (.aload 4, 2) := by decide +kernel
theorem V.dX1_importOne_93 : decode cX1_importOne 93 = .ok (.aload_n 0, 1) := by decide +kernel
theorem V.dX1_importOne_94 : decode cX1_importOne 94 = .ok (.invokevirtual 91, 3) := by decide +kernel
theorem V.dX1_importOne_97 : decode cX1_importOne 97 = .ok (.invokevirtual 101, 3) := by decide +kernel
theorem V.dX1_importOne_100 : decode cX1_importOne 100 = .ok (.goto 37, 3) := by decide +kernel
theorem V.dX1_importOne_103 : decode cX1_importOne 103 = .ok (.iload_n 3, 1) := by decide +kernel
theorem V.dX1_importOne_104 : decode cX1_importOne 104 = .ok (.iconst 1, 1) := by decide +kernel
theorem V.dX1_importOne_105 : decode cX1_importOne 105 = .ok (.if_icmp .ne 12, 3) := by decide +kernel
theorem V.dX1_importOne_108 : decode cX1_importOne 108 = .ok (.aload_n 0, 1) := by decide +kernel
theorem V.dX1_importOne_109 : decode cX1_importOne 109 = .ok (.aload 4, 2) := by decide +kernel
theorem V.dX1_importOne_111 : decode cX1_importOne 111 = .ok (.invokevirtual 185, 3) := by decide +kernel
theorem V.dX1_importOne_114 : decode cX1_importOne 114 = .ok (.goto 23, 3) := by decide +kernel
theorem V.dX1_importOne_117 : decode cX1_importOne 117 = .ok (.iload_n 3, 1) := by decide +kernel
theorem V.dX1_importOne_118 : decode cX1_importOne 118 = .ok (.iconst 2, 1) := by decide +kernel
theorem V.dX1_importOne_119 : decode cX1_importOne 119 = .ok (.if_icmp .ne 12, 3) := by decide +kernel
theorem V.dX1_importOne_122 : decode cX1_importOne 122 = .ok (.aload_n 0, 1) := by decide +kernel
theorem V.dX1_importOne_123 : decode cX1_importOne 123 = .ok (.aload 4, 2) := by decide +kernel
theorem V.dX1_importOne_125 : decode cX1_importOne 125 = .ok (.invokevirtual 188, 3) := by decide +kernel
theorem V.dX1_importOne_128 : decode cX1_importOne 128 = .ok (.goto 9, 3) := by decide +kernel
theorem V.dX1_importOne_131 : decode cX1_importOne 131 = .ok (.aload_n 0, 1) := by decide +kernel
theorem V.dX1_importOne_132 : decode cX1_importOne 132 = .ok (.aload 4, 2) := by decide +kernel
theorem V.dX1_importOne_134 : decode cX1_importOne 134 = .ok (.invokevirtual 191, 3) := by decide +kernel
theorem V.dX1_importOne_137 : decode cX1_importOne 137 = .ok (.aload_n 1, 1) := by decide +kernel
theorem V.dX1_importOne_138 : decode cX1_importOne 138 = .ok (.iload_n 2, 1) := by decide +kernel
theorem V.dX1_importOne_139 : decode cX1_importOne 139 = .ok (.iload_n 3, 1) := by decide +kernel
theorem V.dX1_importOne_140 : decode cX1_importOne 140 = .ok (.invokevirtual 151, 3) := by decide +kernel
theorem V.dX1_importOne_143 : decode cX1_importOne 143 = .ok (.iconst 0, 1) := by decide +kernel
theorem V.dX1_importOne_144 : decode cX1_importOne 144 = .ok (.istore 5, 2) := by decide +kernel
theorem V.dX1_importOne_146 : decode cX1_importOne 146 = .ok (.iload 5, 2) := by decide +kernel
theorem V.dX1_importOne_148 : decode cX1_importOne 148 = .ok (.iconst 4, 1) := by decide +kernel
theorem V.dX1_importOne_149 : decode cX1_importOne 149 = .ok (.if_icmp .ge 40, 3) := by decide +kernel
theorem V.dX1_importOne_152 : decode cX1_importOne 152 = .ok (.aload_n 1, 1) := by decide +kernel
theorem V.dX1_importOne_153 : decode cX1_importOne 153 = .ok (.iload_n 2, 1) := by decide +kernel
theorem V.dX1_importOne_154 : decode cX1_importOne 154 = .ok (.iconst 1, 1) := by decide +kernel
theorem V.dX1_importOne_155 : decode cX1_importOne 155 = .ok (.iadd, 1) := by decide +kernel
theorem V.dX1_importOne_156 : decode cX1_importOne 156 = .ok (.iload 5, 2) := by decide +kernel
theorem V.dX1_importOne_158 : decode cX1_importOne 158 = .ok (.iadd, 1) := by decide +kernel
theorem V.dX1_importOne_159 : decode cX1_importOne 159 = .ok (.iload 5, 2) := by decide +kernel
theorem V.dX1_importOne_161 : decode cX1_importOne 161 = .ok (.aload 4, 2) := by decide +kernel
theorem V.dX1_importOne_163 : decode cX1_importOne 163 = .ok (.invokevirtual 122, 3) := by decide +kernel
theorem V.dX1_importOne_166 : decode cX1_importOne 166 = .ok (.if_icmp .ge 13, 3) := by decide +kernel
theorem V.dX1_importOne_169 : decode cX1_importOne 169 = .ok (.aload 4, 2) := by decide +kernel
theorem V.dX1_importOne_171 : decode cX1_importOne 171 = .ok (.iload 5, 2) := by decide +kernel
theorem V.dX1_importOne_173 : decode cX1_importOne 173 = .ok (.invokevirtual 149, 3) := by decide +kernel
theorem V.dX1_importOne_176 : decode cX1_importOne 176 = .ok (.goto 4, 3) := by decide +kernel
theorem V.dX1_importOne_179 : decode cX1_importOne 179 = .ok (.iconst 0, 1) := by decide +kernel
theorem V.dX1_importOne_180 : decode cX1_importOne 180 = .ok (.invokevirtual 151, 3) := by decide +kernel
theorem V.dX1_importOne_183 : decode cX1_importOne 183 = .ok (.iinc 5 1, 3) := by decide +kernel
theorem V.dX1_importOne_186 : decode cX1_importOne 186 = .ok (.goto (-40), 3) := by decide +kernel
theorem V.dX1_importOne_189 : decode cX1_importOne 189 = .ok (.return_, 1) := by decide +kernel
theorem V.fdX1_179 : FD RX1 179 2 3 2 := ⟨(RX2, TX2, 21), tyX2, rfl, rfl, in_X2, by decide, Or.inr ⟨_, q435⟩, rfl⟩
theorem V.mdX1_191 : MD RX1 191 yX1_global cX1_global 2 none 1 := ⟨Or.inl q1462, q361, q1465, by decide, by decide, by decide +kernel⟩
theorem V.mdX1_188 : MD RX1 188 yX1_memory cX1_memory 2 none 1 := ⟨Or.inl q1458, q361, q1461, by decide, by decide, by decide +kernel⟩
theorem V.mdX1_185 : MD RX1 185 yX1_table cX1_table 2 none 1 := ⟨Or.inl q1446, q361, q1449, by decide, by decide, by decide +kernel⟩
theorem V.mdX1_151 : MD RX1 151 yX3_set cX3_set 3 none 2 := ⟨Or.inl q1438, q363, q1441, by decide, by decide, by decide +kernel⟩
/-! ModuleEngine$Bytes.importOne()V -/
def V.Byt_importOne_p180 (rec146 : HS → Nat → Int32 → Nat → Int32 → Option ((Nat ⊕ Unit) × HS)) (σ : HS) (x1 : Nat) (x2 : Int32) (x4 : Nat) (x5 : Int32) (s0 : Int32) (s1 : Int32) (s2 : Nat) : Option ((Nat ⊕ Unit) × HS) :=
  ck (tg σ s2 = 4) <| cl (Row_set σ s2 s1 s0) fun _ σ1 =>
  bn (x5 + (1 : Int32)) fun y2 =>
  rec146 σ1 x1 x2 x4 y2
theorem V.gX1_importOne_p180 {X : CX} (rec146 : HS → Nat → Int32 → Nat → Int32 → Option ((Nat ⊕ Unit) × HS)) (hrec146 : ∀ (σ : HS) (x1 : Nat) (x2 : Int32) (x4 : Nat) (x5 : Int32), G X RX1 "importOne" cX1_importOne 6 none 12 219 (enX enV (cxz X)) 146 [(1, av x1), (2, iv x2), (4, av x4), (5, iv x5)] [] σ (rec146 σ x1 x2 x4 x5)) (σ : HS) (x1 : Nat) (x2 : Int32) (x4 : Nat) (x5 : Int32) (s0 : Int32) (s1 : Int32) (s2 : Nat) : G X RX1 "importOne" cX1_importOne 6 none 12 219 (enX enV (cxz X)) 180 [(1, av x1), (2, iv x2), (4, av x4), (5, iv x5)] [iv s0, iv s1, av s2] σ (Byt_importOne_p180 rec146 σ x1 x2 x4 x5 s0 s1 s2) := by
  unfold Byt_importOne_p180
  refine g_callV (fc := fun sς => Row_set sς s2 s1 s0) (ci := 3) (as := [iv s1, iv s0]) rfl rfl rfl q1439 q1440 mdX1_151 (ctX3_set s2 s1 s0) rfl (Nat.le_of_ble_eq_true rfl) (Nat.le_of_ble_eq_true rfl) (Nat.le_of_ble_eq_true rfl) pu_V dX1_importOne_180 (fun _ σ1 => ?_)
  refine g_iincB (w := 1) 3 dX1_importOne_183 rfl (by decide) (by decide) (fun _ => rfl) (fun y2 => ?_)
  refine g_goto 146 dX1_importOne_186 (by decide) ?_
  refine G.sub [1, 2, 3, 0] rfl ?_
  exact hrec146 _ _ _ _ _
def V.Byt_importOne_p146  : Nat → HS → Nat → Int32 → Nat → Int32 → Option ((Nat ⊕ Unit) × HS)
  | 0, _, _, _, _, _ => none
  | n + 1, σ, x1, x2, x4, x5 =>
    if (4 : Int32) ≤ x5 then (
      some (.inr (), σ))
    else (
      ck (tg σ x4 = 4) <| cl (Row_size σ x4 ) fun r2 σ1 =>
      if r2 ≤ x5 then (
        Byt_importOne_p180 (Byt_importOne_p146 n) σ1 x1 x2 x4 x5 (0 : Int32) ((x2 + (1 : Int32)) + x5) x1)
      else (
        ck (tg σ1 x4 = 4) <| cl (Row_at σ1 x4 x5) fun r4 σ3 =>
        Byt_importOne_p180 (Byt_importOne_p146 n) σ3 x1 x2 x4 x5 r4 ((x2 + (1 : Int32)) + x5) x1))
theorem V.gX1_importOne_p146 {X : CX}  : ∀ (n : Nat) (σ : HS) (x1 : Nat) (x2 : Int32) (x4 : Nat) (x5 : Int32), G X RX1 "importOne" cX1_importOne 6 none 12 219 (enX enV (cxz X)) 146 [(1, av x1), (2, iv x2), (4, av x4), (5, iv x5)] [] σ (Byt_importOne_p146 n σ x1 x2 x4 x5)
  | 0, σ, x1, x2, x4, x5 => by rw [Byt_importOne_p146]; exact G.nul
  | n + 1, σ, x1, x2, x4, x5 => by
    rw [Byt_importOne_p146]
    refine g_iload 3 dX1_importOne_146 rfl ?_
    refine g_iconst (v := 4) dX1_importOne_148 (by decide) ?_
    refine g_icmp_ge 189 dX1_importOne_149 (by decide) ?_ ?_
    · exact g_return rfl dX1_importOne_189
    · refine g_aload_n 1 0 dX1_importOne_152 rfl rfl ?_
      refine g_iload_n 2 1 dX1_importOne_153 rfl rfl ?_
      refine g_iconst (v := 1) dX1_importOne_154 (by decide) ?_
      refine g_iadd dX1_importOne_155 ?_
      refine g_iload 3 dX1_importOne_156 rfl ?_
      refine g_iadd dX1_importOne_158 ?_
      refine g_iload 3 dX1_importOne_159 rfl ?_
      refine g_aload 2 dX1_importOne_161 rfl ?_
      refine g_callV (fc := fun sς => Row_size sς x4 ) (ci := 3) (as := []) rfl rfl rfl q1421 q1422 mdX1_122 (ctX3_size x4 ) rfl (Nat.le_of_ble_eq_true rfl) (Nat.le_of_ble_eq_true rfl) (Nat.le_of_ble_eq_true rfl) pu_I dX1_importOne_163 (fun r2 σ1 => ?_)
      refine g_icmp_ge 179 dX1_importOne_166 (by decide) ?_ ?_
      · refine g_iconst (v := 0) dX1_importOne_179 (by decide) ?_
        exact gX1_importOne_p180 (Byt_importOne_p146 n) (gX1_importOne_p146 n) _ _ _ _ _ _ _ _
      · refine g_aload 2 dX1_importOne_169 rfl ?_
        refine g_iload 3 dX1_importOne_171 rfl ?_
        refine g_callV (fc := fun sς => Row_at sς x4 x5) (ci := 3) (as := [iv x5]) rfl rfl rfl q1409 q1410 mdX1_149 (ctX3_at x4 x5) rfl (Nat.le_of_ble_eq_true rfl) (Nat.le_of_ble_eq_true rfl) (Nat.le_of_ble_eq_true rfl) pu_I dX1_importOne_173 (fun r4 σ3 => ?_)
        refine g_goto 180 dX1_importOne_176 (by decide) ?_
        exact gX1_importOne_p180 (Byt_importOne_p146 n) (gX1_importOne_p146 n) _ _ _ _ _ _ _ _
def V.Byt_importOne_p137  (σ : HS) (x1 : Nat) (x2 : Int32) (x3 : Int32) (x4 : Nat) : Option ((Nat ⊕ Unit) × HS) :=
  ck (tg σ x1 = 4) <| cl (Row_set σ x1 x2 x3) fun _ σ1 =>
  Byt_importOne_p146 FU σ1 x1 x2 x4 (0 : Int32)
theorem V.gX1_importOne_p137 {X : CX}  (σ : HS) (x1 : Nat) (x2 : Int32) (x3 : Int32) (x4 : Nat) : G X RX1 "importOne" cX1_importOne 6 none 12 219 (enX enV (cxz X)) 137 [(1, av x1), (2, iv x2), (3, iv x3), (4, av x4)] [] σ (Byt_importOne_p137 σ x1 x2 x3 x4) := by
  unfold Byt_importOne_p137
  refine g_aload_n 1 0 dX1_importOne_137 rfl rfl ?_
  refine g_iload_n 2 1 dX1_importOne_138 rfl rfl ?_
  refine g_iload_n 3 2 dX1_importOne_139 rfl rfl ?_
  refine g_callV (fc := fun sς => Row_set sς x1 x2 x3) (ci := 3) (as := [iv x2, iv x3]) rfl rfl rfl q1439 q1440 mdX1_151 (ctX3_set x1 x2 x3) rfl (Nat.le_of_ble_eq_true rfl) (Nat.le_of_ble_eq_true rfl) (Nat.le_of_ble_eq_true rfl) pu_V dX1_importOne_140 (fun _ σ1 => ?_)
  refine g_iconst (v := 0) dX1_importOne_143 (by decide) ?_
  refine g_istore dX1_importOne_144 (by decide) rfl ?_
  refine G.sub [1, 2, 4, 0] rfl ?_
  exact gX1_importOne_p146 FU _ _ _ _ _
def V.Byt_importOne_p43  : Nat → HS → Nat → Nat → Int32 → Int32 → Option ((Nat ⊕ Unit) × HS)
  | 0, _, _, _, _, _ => none
  | n + 1, σ, x0, x1, x2, x3 =>
    if x3 < 0 then (
      ck (tg σ x0 = 2) <| clT (Byt_form σ x0 (3 : Int32)) fun r2 σ1 =>
      ck (tg σ1 x0 = 2) <|
      bn (gR σ1 x0 9) fun y3 =>
      ck (tg σ1 y3 = 4) <| cl (Row_cut σ1 y3 (0 : Int32)) fun _ σ4 =>
      if r2 = 0 then (
        ck (tg σ4 x0 = 2) <| clT (Byt_whole σ4 x0 ) fun r9 σ8 =>
        ck (tg σ8 y3 = 4) <| cl (Row_add σ8 y3 r9) fun _ σ10 =>
        Byt_importOne_p137 σ10 x1 x2 r2 y3)
      else (
        if r2 = (1 : Int32) then (
          ck (tg σ4 x0 = 2) <| clT (Byt_table σ4 x0 y3) fun _ σ7 =>
          Byt_importOne_p137 σ7 x1 x2 r2 y3)
        else (
          if r2 = (2 : Int32) then (
            ck (tg σ4 x0 = 2) <| clT (Byt_memory σ4 x0 y3) fun _ σ6 =>
            Byt_importOne_p137 σ6 x1 x2 r2 y3)
          else (
            ck (tg σ4 x0 = 2) <| clT (Byt_global σ4 x0 y3) fun _ σ5 =>
            Byt_importOne_p137 σ5 x1 x2 r2 y3))))
    else (
      ck (tg σ x1 = 4) <| cl (Row_at σ x1 (x2 + x3)) fun r12 σ11 =>
      ck (tg σ11 x1 = 4) <| cl (Row_set σ11 x1 ((x2 + (5 : Int32)) + x3) r12) fun _ σ13 =>
      bn (x3 + (-1 : Int32)) fun y14 =>
      Byt_importOne_p43 n σ13 x0 x1 x2 y14)
theorem V.gX1_importOne_p43 {X : CX}  : ∀ (n : Nat) (σ : HS) (x0 : Nat) (x1 : Nat) (x2 : Int32) (x3 : Int32), G X RX1 "importOne" cX1_importOne 6 none 12 219 (enX enV (cxz X)) 43 [(0, av x0), (1, av x1), (2, iv x2), (3, iv x3)] [] σ (Byt_importOne_p43 n σ x0 x1 x2 x3)
  | 0, σ, x0, x1, x2, x3 => by rw [Byt_importOne_p43]; exact G.nul
  | n + 1, σ, x0, x1, x2, x3 => by
    rw [Byt_importOne_p43]
    refine g_iload_n 3 3 dX1_importOne_43 rfl rfl ?_
    refine g_if_lt 69 dX1_importOne_44 (by decide) ?_ ?_
    · refine g_aload_n 0 0 dX1_importOne_69 rfl rfl ?_
      refine g_iconst (v := 3) dX1_importOne_70 (by decide) ?_
      refine g_callVT (fc := fun sς => Byt_form sς x0 (3 : Int32)) (ci := 1) (as := [iv (3 : Int32)]) rfl rfl rfl q1444 qs16 q1442 mdX1_127 (ctX1_form x0 (3 : Int32)) rfl (Nat.le_of_ble_eq_true rfl) (Nat.le_of_ble_eq_true rfl) (Nat.le_of_ble_eq_true rfl) pu_I (by decide) dX1_importOne_71 (fun r2 σ1 => ?_)
      refine g_istore_n 3 dX1_importOne_74 rfl (by decide) rfl ?_
      refine g_aload_n 0 1 dX1_importOne_75 rfl rfl ?_
      refine g_getR fdX1_31 dX1_importOne_76 ?_
      refine g_nmA (fun y3 => ?_)
      refine g_astore dX1_importOne_79 (by decide) rfl ?_
      refine g_aload 0 dX1_importOne_81 rfl ?_
      refine g_iconst (v := 0) dX1_importOne_83 (by decide) ?_
      refine g_callV (fc := fun sς => Row_cut sς y3 (0 : Int32)) (ci := 3) (as := [iv (0 : Int32)]) rfl rfl rfl q1281 q1282 mdX1_170 (ctX3_cut y3 (0 : Int32)) rfl (Nat.le_of_ble_eq_true rfl) (Nat.le_of_ble_eq_true rfl) (Nat.le_of_ble_eq_true rfl) pu_V dX1_importOne_84 (fun _ σ4 => ?_)
      refine g_iload_n 3 1 dX1_importOne_87 rfl rfl ?_
      refine g_if_ne 103 dX1_importOne_88 (by decide) ?_ ?_
      · refine g_iload_n 3 1 dX1_importOne_103 rfl rfl ?_
        refine g_iconst (v := 1) dX1_importOne_104 (by decide) ?_
        refine g_icmp_ne 117 dX1_importOne_105 (by decide) ?_ ?_
        · refine g_iload_n 3 1 dX1_importOne_117 rfl rfl ?_
          refine g_iconst (v := 2) dX1_importOne_118 (by decide) ?_
          refine g_icmp_ne 131 dX1_importOne_119 (by decide) ?_ ?_
          · refine g_aload_n 0 2 dX1_importOne_131 rfl rfl ?_
            refine g_aload 0 dX1_importOne_132 rfl ?_
            refine g_callVT (fc := fun sς => Byt_global sς x0 y3) (ci := 1) (as := [av y3]) rfl rfl rfl q1464 qs21 q1462 mdX1_191 (ctX1_global x0 y3) rfl (Nat.le_of_ble_eq_true rfl) (Nat.le_of_ble_eq_true rfl) (Nat.le_of_ble_eq_true rfl) pu_V (by decide) dX1_importOne_134 (fun _ σ5 => ?_)
            refine G.sub [3, 4, 1, 0] rfl ?_
            exact gX1_importOne_p137 _ _ _ _ _
          · refine g_aload_n 0 2 dX1_importOne_122 rfl rfl ?_
            refine g_aload 0 dX1_importOne_123 rfl ?_
            refine g_callVT (fc := fun sς => Byt_memory sς x0 y3) (ci := 1) (as := [av y3]) rfl rfl rfl q1460 qs20 q1458 mdX1_188 (ctX1_memory x0 y3) rfl (Nat.le_of_ble_eq_true rfl) (Nat.le_of_ble_eq_true rfl) (Nat.le_of_ble_eq_true rfl) pu_V (by decide) dX1_importOne_125 (fun _ σ6 => ?_)
            refine g_goto 137 dX1_importOne_128 (by decide) ?_
            refine G.sub [3, 4, 1, 0] rfl ?_
            exact gX1_importOne_p137 _ _ _ _ _
        · refine g_aload_n 0 2 dX1_importOne_108 rfl rfl ?_
          refine g_aload 0 dX1_importOne_109 rfl ?_
          refine g_callVT (fc := fun sς => Byt_table sς x0 y3) (ci := 1) (as := [av y3]) rfl rfl rfl q1448 qs17 q1446 mdX1_185 (ctX1_table x0 y3) rfl (Nat.le_of_ble_eq_true rfl) (Nat.le_of_ble_eq_true rfl) (Nat.le_of_ble_eq_true rfl) pu_V (by decide) dX1_importOne_111 (fun _ σ7 => ?_)
          refine g_goto 137 dX1_importOne_114 (by decide) ?_
          refine G.sub [3, 4, 1, 0] rfl ?_
          exact gX1_importOne_p137 _ _ _ _ _
      · refine g_aload 0 dX1_importOne_91 rfl ?_
        refine g_aload_n 0 2 dX1_importOne_93 rfl rfl ?_
        refine g_callVT (fc := fun sς => Byt_whole sς x0 ) (ci := 1) (as := []) rfl rfl rfl q1365 qs5 q1363 mdX1_91 (ctX1_whole x0 ) rfl (Nat.le_of_ble_eq_true rfl) (Nat.le_of_ble_eq_true rfl) (Nat.le_of_ble_eq_true rfl) pu_I (by decide) dX1_importOne_94 (fun r9 σ8 => ?_)
        refine g_callV (fc := fun sς => Row_add sς y3 r9) (ci := 3) (as := [iv r9]) rfl rfl rfl q1405 q1406 mdX1_101 (ctX3_add y3 r9) rfl (Nat.le_of_ble_eq_true rfl) (Nat.le_of_ble_eq_true rfl) (Nat.le_of_ble_eq_true rfl) pu_V dX1_importOne_97 (fun _ σ10 => ?_)
        refine g_goto 137 dX1_importOne_100 (by decide) ?_
        refine G.sub [3, 4, 1, 0] rfl ?_
        exact gX1_importOne_p137 _ _ _ _ _
    · refine g_aload_n 1 1 dX1_importOne_47 rfl rfl ?_
      refine g_iload_n 2 2 dX1_importOne_48 rfl rfl ?_
      refine g_iconst (v := 5) dX1_importOne_49 (by decide) ?_
      refine g_iadd dX1_importOne_50 ?_
      refine g_iload_n 3 3 dX1_importOne_51 rfl rfl ?_
      refine g_iadd dX1_importOne_52 ?_
      refine g_aload_n 1 1 dX1_importOne_53 rfl rfl ?_
      refine g_iload_n 2 2 dX1_importOne_54 rfl rfl ?_
      refine g_iload_n 3 3 dX1_importOne_55 rfl rfl ?_
      refine g_iadd dX1_importOne_56 ?_
      refine g_callV (fc := fun sς => Row_at sς x1 (x2 + x3)) (ci := 3) (as := [iv (x2 + x3)]) rfl rfl rfl q1409 q1410 mdX1_149 (ctX3_at x1 (x2 + x3)) rfl (Nat.le_of_ble_eq_true rfl) (Nat.le_of_ble_eq_true rfl) (Nat.le_of_ble_eq_true rfl) pu_I dX1_importOne_57 (fun r12 σ11 => ?_)
      refine g_callV (fc := fun sς => Row_set sς x1 ((x2 + (5 : Int32)) + x3) r12) (ci := 3) (as := [iv ((x2 + (5 : Int32)) + x3), iv r12]) rfl rfl rfl q1439 q1440 mdX1_151 (ctX3_set x1 ((x2 + (5 : Int32)) + x3) r12) rfl (Nat.le_of_ble_eq_true rfl) (Nat.le_of_ble_eq_true rfl) (Nat.le_of_ble_eq_true rfl) pu_V dX1_importOne_60 (fun _ σ13 => ?_)
      refine g_iincB (w := (-1)) 3 dX1_importOne_63 rfl (by decide) (by decide) (fun _ => rfl) (fun y14 => ?_)
      refine g_goto 43 dX1_importOne_66 (by decide) ?_
      refine G.sub [1, 2, 3, 0] rfl ?_
      exact gX1_importOne_p43 n _ _ _ _ _
def V.Byt_importOne_p25  : Nat → HS → Nat → Nat → Int32 → Int32 → Option ((Nat ⊕ Unit) × HS)
  | 0, _, _, _, _, _ => none
  | n + 1, σ, x0, x1, x2, x3 =>
    if (5 : Int32) ≤ x3 then (
      Byt_importOne_p43 FU σ x0 x1 x2 (3 : Int32))
    else (
      ck (tg σ x1 = 4) <| cl (Row_add σ x1 (0 : Int32)) fun _ σ1 =>
      bn (x3 + (1 : Int32)) fun y2 =>
      Byt_importOne_p25 n σ1 x0 x1 x2 y2)
theorem V.gX1_importOne_p25 {X : CX}  : ∀ (n : Nat) (σ : HS) (x0 : Nat) (x1 : Nat) (x2 : Int32) (x3 : Int32), G X RX1 "importOne" cX1_importOne 6 none 12 219 (enX enV (cxz X)) 25 [(0, av x0), (1, av x1), (2, iv x2), (3, iv x3)] [] σ (Byt_importOne_p25 n σ x0 x1 x2 x3)
  | 0, σ, x0, x1, x2, x3 => by rw [Byt_importOne_p25]; exact G.nul
  | n + 1, σ, x0, x1, x2, x3 => by
    rw [Byt_importOne_p25]
    refine g_iload_n 3 3 dX1_importOne_25 rfl rfl ?_
    refine g_iconst (v := 5) dX1_importOne_26 (by decide) ?_
    refine g_icmp_ge 41 dX1_importOne_27 (by decide) ?_ ?_
    · refine g_iconst (v := 3) dX1_importOne_41 (by decide) ?_
      refine g_istore_n 3 dX1_importOne_42 rfl (by decide) rfl ?_
      refine G.sub [1, 2, 3, 0] rfl ?_
      exact gX1_importOne_p43 FU _ _ _ _ _
    · refine g_aload_n 1 1 dX1_importOne_30 rfl rfl ?_
      refine g_iconst (v := 0) dX1_importOne_31 (by decide) ?_
      refine g_callV (fc := fun sς => Row_add sς x1 (0 : Int32)) (ci := 3) (as := [iv (0 : Int32)]) rfl rfl rfl q1405 q1406 mdX1_101 (ctX3_add x1 (0 : Int32)) rfl (Nat.le_of_ble_eq_true rfl) (Nat.le_of_ble_eq_true rfl) (Nat.le_of_ble_eq_true rfl) pu_V dX1_importOne_32 (fun _ σ1 => ?_)
      refine g_iincB (w := 1) 3 dX1_importOne_35 rfl (by decide) (by decide) (fun _ => rfl) (fun y2 => ?_)
      refine g_goto 25 dX1_importOne_38 (by decide) ?_
      refine G.sub [1, 2, 3, 0] rfl ?_
      exact gX1_importOne_p25 n _ _ _ _ _
def V.Byt_importOne (σ : HS) (x0 : Nat) : Option ((Nat ⊕ Unit) × HS) :=
  ck (tg σ x0 = 2) <|
  ck (tg σ (gR σ x0 3) = 3) <|
  bn (gR σ (gR σ x0 3) 3) fun y1 =>
  ck (tg σ y1 = 4) <| cl (Row_size σ y1 ) fun r3 σ2 =>
  ck (tg σ2 x0 = 2) <| clT (Byt_text σ2 x0 y1) fun _ σ4 =>
  ck (tg σ4 x0 = 2) <| clT (Byt_text σ4 x0 y1) fun _ σ5 =>
  Byt_importOne_p25 FU σ5 x0 y1 r3 (0 : Int32)
theorem V.ctX1_importOne (x0 : Nat) : Ct yX1_importOne  cX1_importOne 6 none 12 219 eXV [av x0] (fun σ => Byt_importOne σ x0) := by
  refine Ct.of (own := RX1) (nm := "importOne") (desc := "()V") rfl (by decide) (Nat.le_of_ble_eq_true rfl) (by decide) (fun X σ => ?_)
  show G X RX1 "importOne" cX1_importOne 6 none 12 219 (enX enV (cxz X)) 0 [(0, av x0)] [] σ (Byt_importOne σ x0)
  unfold Byt_importOne
  refine g_aload_n 0 0 dX1_importOne_0 rfl rfl ?_
  refine g_getR fdX1_16 dX1_importOne_1 ?_
  refine g_getR fdX1_179 dX1_importOne_4 ?_
  refine g_nmA (fun y1 => ?_)
  refine g_astore_n 1 dX1_importOne_7 rfl (by decide) rfl ?_
  refine g_aload_n 1 0 dX1_importOne_8 rfl rfl ?_
  refine g_callV (fc := fun sς => Row_size sς y1 ) (ci := 3) (as := []) rfl rfl rfl q1421 q1422 mdX1_122 (ctX3_size y1 ) rfl (Nat.le_of_ble_eq_true rfl) (Nat.le_of_ble_eq_true rfl) (Nat.le_of_ble_eq_true rfl) pu_I dX1_importOne_9 (fun r3 σ2 => ?_)
  refine g_istore_n 2 dX1_importOne_12 rfl (by decide) rfl ?_
  refine g_aload_n 0 2 dX1_importOne_13 rfl rfl ?_
  refine g_aload_n 1 1 dX1_importOne_14 rfl rfl ?_
  refine g_callVT (fc := fun sς => Byt_text sς x0 y1) (ci := 1) (as := [av y1]) rfl rfl rfl q1390 qs9 q1388 mdX1_182 (ctX1_text x0 y1) rfl (Nat.le_of_ble_eq_true rfl) (Nat.le_of_ble_eq_true rfl) (Nat.le_of_ble_eq_true rfl) pu_V (by decide) dX1_importOne_15 (fun _ σ4 => ?_)
  refine g_aload_n 0 2 dX1_importOne_18 rfl rfl ?_
  refine g_aload_n 1 1 dX1_importOne_19 rfl rfl ?_
  refine g_callVT (fc := fun sς => Byt_text sς x0 y1) (ci := 1) (as := [av y1]) rfl rfl rfl q1390 qs9 q1388 mdX1_182 (ctX1_text x0 y1) rfl (Nat.le_of_ble_eq_true rfl) (Nat.le_of_ble_eq_true rfl) (Nat.le_of_ble_eq_true rfl) pu_V (by decide) dX1_importOne_20 (fun _ σ5 => ?_)
  refine g_iconst (v := 0) dX1_importOne_23 (by decide) ?_
  refine g_istore_n 3 dX1_importOne_24 rfl (by decide) rfl ?_
  refine G.sub [3, 2, 1, 0] rfl ?_
  exact gX1_importOne_p25 FU _ _ _ _ _
theorem V.dX1_isAlone_0 : decode cX1_isAlone 0 = .ok (.iload_n 0, 1) := by decide +kernel
theorem V.dX1_isAlone_1 : decode cX1_isAlone 1 = .ok (.iconst 2, 1) := by decide +kernel
theorem V.dX1_isAlone_2 : decode cX1_isAlone 2 = .ok (.if_icmp .lt 41, 3) := by decide +kernel
theorem V.dX1_isAlone_5 : decode cX1_isAlone 5 = .ok (.iload_n 0, 1) := by decide +kernel
theorem V.dX1_isAlone_6 : decode cX1_isAlone 6 = .ok (.bipush 15, 2) := by decide +kernel
theorem V.dX1_isAlone_8 : decode cX1_isAlone 8 = .ok (.if_icmp .eq 35, 3) := by decide +kernel
theorem V.dX1_isAlone_11 : decode cX1_isAlone 11 = .ok (.iload_n 0, 1) := by decide +kernel
theorem V.dX1_isAlone_12 : decode cX1_isAlone 12 = .ok (.bipush 26, 2) := by decide +kernel
theorem V.dX1_isAlone_14 : decode cX1_isAlone 14 = .ok (.if_icmp .eq 29, 3) := by decide +kernel
theorem V.dX1_isAlone_17 : decode cX1_isAlone 17 = .ok (.iload_n 0, 1) := by decide +kernel
theorem V.dX1_isAlone_18 : decode cX1_isAlone 18 = .ok (.bipush 27, 2) := by decide +kernel
theorem V.dX1_isAlone_20 : decode cX1_isAlone 20 = .ok (.if_icmp .eq 23, 3) := by decide +kernel
theorem V.dX1_isAlone_23 : decode cX1_isAlone 23 = .ok (.iload_n 0, 1) := by decide +kernel
theorem V.dX1_isAlone_24 : decode cX1_isAlone 24 = .ok (.bipush 68, 2) := by decide +kernel
theorem V.dX1_isAlone_26 : decode cX1_isAlone 26 = .ok (.if_icmp .le 10, 3) := by decide +kernel
theorem V.dX1_isAlone_29 : decode cX1_isAlone 29 = .ok (.iload_n 0, 1) := by decide +kernel
theorem V.dX1_isAlone_30 : decode cX1_isAlone 30 = .ok (.sipush 197, 3) := by decide +kernel
theorem V.dX1_isAlone_33 : decode cX1_isAlone 33 = .ok (.if_icmp .lt 10, 3) := by decide +kernel
theorem V.dX1_isAlone_36 : decode cX1_isAlone 36 = .ok (.iload_n 0, 1) := by decide +kernel
theorem V.dX1_isAlone_37 : decode cX1_isAlone 37 = .ok (.sipush 209, 3) := by decide +kernel
theorem V.dX1_isAlone_40 : decode cX1_isAlone 40 = .ok (.if_icmp .ne 7, 3) := by decide +kernel
theorem V.dX1_isAlone_43 : decode cX1_isAlone 43 = .ok (.iconst 1, 1) := by decide +kernel
theorem V.dX1_isAlone_44 : decode cX1_isAlone 44 = .ok (.goto 4, 3) := by decide +kernel
theorem V.dX1_isAlone_47 : decode cX1_isAlone 47 = .ok (.iconst 0, 1) := by decide +kernel
theorem V.dX1_isAlone_48 : decode cX1_isAlone 48 = .ok (.ireturn, 1) := by decide +kernel
/-! ModuleEngine$Bytes.isAlone(I)Z -/
def V.Byt_isAlone_p43  (σ : HS)  : Option (Int32 × HS) :=
  some ((1 : Int32), σ)
theorem V.gX1_isAlone_p43 {X : CX}  (σ : HS)  : G X RX1 "isAlone" cX1_isAlone 1 (some .boolean) 0 0 enI 43 [] [] σ (Byt_isAlone_p43 σ ) := by
  unfold Byt_isAlone_p43
  refine g_iconst (v := 1) dX1_isAlone_43 (by decide) ?_
  refine g_goto 48 dX1_isAlone_44 (by decide) ?_
  exact g_zreturn rfl (by decide +kernel) dX1_isAlone_48
def V.Byt_isAlone_p36  (σ : HS) (x0 : Int32) : Option (Int32 × HS) :=
  if x0 = (209 : Int32) then (
    Byt_isAlone_p43 σ)
  else (
    some ((0 : Int32), σ))
theorem V.gX1_isAlone_p36 {X : CX}  (σ : HS) (x0 : Int32) : G X RX1 "isAlone" cX1_isAlone 1 (some .boolean) 0 0 enI 36 [(0, iv x0)] [] σ (Byt_isAlone_p36 σ x0) := by
  unfold Byt_isAlone_p36
  refine g_iload_n 0 0 dX1_isAlone_36 rfl rfl ?_
  refine g_sipush (v := 209) dX1_isAlone_37 (by decide) ?_
  refine g_icmp_ne 47 dX1_isAlone_40 (by decide) ?_ ?_
  · refine g_iconst (v := 0) dX1_isAlone_47 (by decide) ?_
    exact g_zreturn rfl (by decide +kernel) dX1_isAlone_48
  · refine G.sub [] rfl ?_
    exact gX1_isAlone_p43 _
def V.Byt_isAlone (σ : HS) (x0 : Int32) : Option (Int32 × HS) :=
  if x0 < (2 : Int32) then (
    Byt_isAlone_p43 σ)
  else (
    if x0 = (15 : Int32) then (
      Byt_isAlone_p43 σ)
    else (
      if x0 = (26 : Int32) then (
        Byt_isAlone_p43 σ)
      else (
        if x0 = (27 : Int32) then (
          Byt_isAlone_p43 σ)
        else (
          if x0 ≤ (68 : Int32) then (
            Byt_isAlone_p36 σ x0)
          else (
            if x0 < (197 : Int32) then (
              Byt_isAlone_p43 σ)
            else (
              Byt_isAlone_p36 σ x0))))))
theorem V.ctX1_isAlone (x0 : Int32) : Ct yX1_isAlone  cX1_isAlone 1 (some .boolean) 0 0 eI [iv x0] (fun σ => Byt_isAlone σ x0) := by
  refine Ct.of (own := RX1) (nm := "isAlone") (desc := "(I)Z") rfl (by decide) (Nat.le_of_ble_eq_true rfl) (by decide) (fun X σ => ?_)
  show G X RX1 "isAlone" cX1_isAlone 1 (some .boolean) 0 0 enI 0 [(0, iv x0)] [] σ (Byt_isAlone σ x0)
  unfold Byt_isAlone
  refine g_iload_n 0 0 dX1_isAlone_0 rfl rfl ?_
  refine g_iconst (v := 2) dX1_isAlone_1 (by decide) ?_
  refine g_icmp_lt 43 dX1_isAlone_2 (by decide) ?_ ?_
  · refine G.sub [] rfl ?_
    exact gX1_isAlone_p43 _
  · refine g_iload_n 0 0 dX1_isAlone_5 rfl rfl ?_
    refine g_bipush (v := 15) dX1_isAlone_6 (by decide) ?_
    refine g_icmp_eq 43 dX1_isAlone_8 (by decide) ?_ ?_
    · refine G.sub [] rfl ?_
      exact gX1_isAlone_p43 _
    · refine g_iload_n 0 0 dX1_isAlone_11 rfl rfl ?_
      refine g_bipush (v := 26) dX1_isAlone_12 (by decide) ?_
      refine g_icmp_eq 43 dX1_isAlone_14 (by decide) ?_ ?_
      · refine G.sub [] rfl ?_
        exact gX1_isAlone_p43 _
      · refine g_iload_n 0 0 dX1_isAlone_17 rfl rfl ?_
        refine g_bipush (v := 27) dX1_isAlone_18 (by decide) ?_
        refine g_icmp_eq 43 dX1_isAlone_20 (by decide) ?_ ?_
        · refine G.sub [] rfl ?_
          exact gX1_isAlone_p43 _
        · refine g_iload_n 0 0 dX1_isAlone_23 rfl rfl ?_
          refine g_bipush (v := 68) dX1_isAlone_24 (by decide) ?_
          refine g_icmp_le 36 dX1_isAlone_26 (by decide) ?_ ?_
          · exact gX1_isAlone_p36 _ _
          · refine g_iload_n 0 0 dX1_isAlone_29 rfl rfl ?_
            refine g_sipush (v := 197) dX1_isAlone_30 (by decide) ?_
            refine g_icmp_lt 43 dX1_isAlone_33 (by decide) ?_ ?_
            · refine G.sub [] rfl ?_
              exact gX1_isAlone_p43 _
            · exact gX1_isAlone_p36 _ _
theorem V.dX1_hasWhole_0 : decode cX1_hasWhole 0 = .ok (.iload_n 0, 1) := by decide +kernel
theorem V.dX1_hasWhole_1 : decode cX1_hasWhole 1 = .ok (.bipush 12, 2) := by decide +kernel
theorem V.dX1_hasWhole_3 : decode cX1_hasWhole 3 = .ok (.if_icmp .eq 34, 3) := by decide +kernel
theorem V.dX1_hasWhole_6 : decode cX1_hasWhole 6 = .ok (.iload_n 0, 1) := by decide +kernel
theorem V.dX1_hasWhole_7 : decode cX1_hasWhole 7 = .ok (.bipush 13, 2) := by decide +kernel
theorem V.dX1_hasWhole_9 : decode cX1_hasWhole 9 = .ok (.if_icmp .eq 28, 3) := by decide +kernel
theorem V.dX1_hasWhole_12 : decode cX1_hasWhole 12 = .ok (.iload_n 0, 1) := by decide +kernel
theorem V.dX1_hasWhole_13 : decode cX1_hasWhole 13 = .ok (.bipush 16, 2) := by decide +kernel
theorem V.dX1_hasWhole_15 : decode cX1_hasWhole 15 = .ok (.if_icmp .eq 22, 3) := by decide +kernel
theorem V.dX1_hasWhole_18 : decode cX1_hasWhole 18 = .ok (.iload_n 0, 1) := by decide +kernel
theorem V.dX1_hasWhole_19 : decode cX1_hasWhole 19 = .ok (.bipush 31, 2) := by decide +kernel
theorem V.dX1_hasWhole_21 : decode cX1_hasWhole 21 = .ok (.if_icmp .le 9, 3) := by decide +kernel
theorem V.dX1_hasWhole_24 : decode cX1_hasWhole 24 = .ok (.iload_n 0, 1) := by decide +kernel
theorem V.dX1_hasWhole_25 : decode cX1_hasWhole 25 = .ok (.bipush 39, 2) := by decide +kernel
theorem V.dX1_hasWhole_27 : decode cX1_hasWhole 27 = .ok (.if_icmp .lt 10, 3) := by decide +kernel
theorem V.dX1_hasWhole_30 : decode cX1_hasWhole 30 = .ok (.iload_n 0, 1) := by decide +kernel
theorem V.dX1_hasWhole_31 : decode cX1_hasWhole 31 = .ok (.sipush 210, 3) := by decide +kernel
theorem V.dX1_hasWhole_34 : decode cX1_hasWhole 34 = .ok (.if_icmp .ne 7, 3) := by decide +kernel
theorem V.dX1_hasWhole_37 : decode cX1_hasWhole 37 = .ok (.iconst 1, 1) := by decide +kernel
theorem V.dX1_hasWhole_38 : decode cX1_hasWhole 38 = .ok (.goto 4, 3) := by decide +kernel
theorem V.dX1_hasWhole_41 : decode cX1_hasWhole 41 = .ok (.iconst 0, 1) := by decide +kernel
theorem V.dX1_hasWhole_42 : decode cX1_hasWhole 42 = .ok (.ireturn, 1) := by decide +kernel
/-! ModuleEngine$Bytes.hasWhole(I)Z -/
def V.Byt_hasWhole_p37  (σ : HS)  : Option (Int32 × HS) :=
  some ((1 : Int32), σ)
theorem V.gX1_hasWhole_p37 {X : CX}  (σ : HS)  : G X RX1 "hasWhole" cX1_hasWhole 1 (some .boolean) 0 0 enI 37 [] [] σ (Byt_hasWhole_p37 σ ) := by
  unfold Byt_hasWhole_p37
  refine g_iconst (v := 1) dX1_hasWhole_37 (by decide) ?_
  refine g_goto 42 dX1_hasWhole_38 (by decide) ?_
  exact g_zreturn rfl (by decide +kernel) dX1_hasWhole_42
def V.Byt_hasWhole_p30  (σ : HS) (x0 : Int32) : Option (Int32 × HS) :=
  if x0 = (210 : Int32) then (
    Byt_hasWhole_p37 σ)
  else (
    some ((0 : Int32), σ))
theorem V.gX1_hasWhole_p30 {X : CX}  (σ : HS) (x0 : Int32) : G X RX1 "hasWhole" cX1_hasWhole 1 (some .boolean) 0 0 enI 30 [(0, iv x0)] [] σ (Byt_hasWhole_p30 σ x0) := by
  unfold Byt_hasWhole_p30
  refine g_iload_n 0 0 dX1_hasWhole_30 rfl rfl ?_
  refine g_sipush (v := 210) dX1_hasWhole_31 (by decide) ?_
  refine g_icmp_ne 41 dX1_hasWhole_34 (by decide) ?_ ?_
  · refine g_iconst (v := 0) dX1_hasWhole_41 (by decide) ?_
    exact g_zreturn rfl (by decide +kernel) dX1_hasWhole_42
  · refine G.sub [] rfl ?_
    exact gX1_hasWhole_p37 _
def V.Byt_hasWhole (σ : HS) (x0 : Int32) : Option (Int32 × HS) :=
  if x0 = (12 : Int32) then (
    Byt_hasWhole_p37 σ)
  else (
    if x0 = (13 : Int32) then (
      Byt_hasWhole_p37 σ)
    else (
      if x0 = (16 : Int32) then (
        Byt_hasWhole_p37 σ)
      else (
        if x0 ≤ (31 : Int32) then (
          Byt_hasWhole_p30 σ x0)
        else (
          if x0 < (39 : Int32) then (
            Byt_hasWhole_p37 σ)
          else (
            Byt_hasWhole_p30 σ x0)))))
theorem V.ctX1_hasWhole (x0 : Int32) : Ct yX1_hasWhole  cX1_hasWhole 1 (some .boolean) 0 0 eI [iv x0] (fun σ => Byt_hasWhole σ x0) := by
  refine Ct.of (own := RX1) (nm := "hasWhole") (desc := "(I)Z") rfl (by decide) (Nat.le_of_ble_eq_true rfl) (by decide) (fun X σ => ?_)
  show G X RX1 "hasWhole" cX1_hasWhole 1 (some .boolean) 0 0 enI 0 [(0, iv x0)] [] σ (Byt_hasWhole σ x0)
  unfold Byt_hasWhole
  refine g_iload_n 0 0 dX1_hasWhole_0 rfl rfl ?_
  refine g_bipush (v := 12) dX1_hasWhole_1 (by decide) ?_
  refine g_icmp_eq 37 dX1_hasWhole_3 (by decide) ?_ ?_
  · refine G.sub [] rfl ?_
    exact gX1_hasWhole_p37 _
  · refine g_iload_n 0 0 dX1_hasWhole_6 rfl rfl ?_
    refine g_bipush (v := 13) dX1_hasWhole_7 (by decide) ?_
    refine g_icmp_eq 37 dX1_hasWhole_9 (by decide) ?_ ?_
    · refine G.sub [] rfl ?_
      exact gX1_hasWhole_p37 _
    · refine g_iload_n 0 0 dX1_hasWhole_12 rfl rfl ?_
      refine g_bipush (v := 16) dX1_hasWhole_13 (by decide) ?_
      refine g_icmp_eq 37 dX1_hasWhole_15 (by decide) ?_ ?_
      · refine G.sub [] rfl ?_
        exact gX1_hasWhole_p37 _
      · refine g_iload_n 0 0 dX1_hasWhole_18 rfl rfl ?_
        refine g_bipush (v := 31) dX1_hasWhole_19 (by decide) ?_
        refine g_icmp_le 30 dX1_hasWhole_21 (by decide) ?_ ?_
        · exact gX1_hasWhole_p30 _ _
        · refine g_iload_n 0 0 dX1_hasWhole_24 rfl rfl ?_
          refine g_bipush (v := 39) dX1_hasWhole_25 (by decide) ?_
          refine g_icmp_lt 37 dX1_hasWhole_27 (by decide) ?_ ?_
          · refine G.sub [] rfl ?_
            exact gX1_hasWhole_p37 _
          · exact gX1_hasWhole_p30 _ _
theorem V.dX1_wholes_0 : decode cX1_wholes 0 = .ok (.iconst 0, 1) := by decide +kernel
theorem V.dX1_wholes_1 : decode cX1_wholes 1 = .ok (.istore_n 2, 1) := by decide +kernel
theorem V.dX1_wholes_2 : decode cX1_wholes 2 = .ok (.iload_n 2, 1) := by decide +kernel
theorem V.dX1_wholes_3 : decode cX1_wholes 3 = .ok (.iload_n 1, 1) := by decide +kernel
theorem V.dX1_wholes_4 : decode cX1_wholes 4 = .ok (.if_icmp .ge 14, 3) := by decide +kernel
theorem V.dX1_wholes_7 : decode cX1_wholes 7 = .ok (.aload_n 0, 1) := by decide +kernel
theorem V.dX1_wholes_8 : decode cX1_wholes 8 = .ok (.invokevirtual 91, 3) := by decide +kernel
theorem V.dX1_wholes_11 : decode cX1_wholes 11 = .ok (.pop, 1) := by decide +kernel
theorem V.dX1_wholes_12 : decode cX1_wholes 12 = .ok (.iinc 2 1, 3) := by decide +kernel
theorem V.dX1_wholes_15 : decode cX1_wholes 15 = .ok (.goto (-13), 3) := by decide +kernel
theorem V.dX1_wholes_18 : decode cX1_wholes 18 = .ok (.return_, 1) := by decide +kernel
/-! ModuleEngine$Bytes.wholes(I)V -/
def V.Byt_wholes_p2  : Nat → HS → Nat → Int32 → Int32 → Option ((Nat ⊕ Unit) × HS)
  | 0, _, _, _, _ => none
  | n + 1, σ, x0, x1, x2 =>
    if x1 ≤ x2 then (
      some (.inr (), σ))
    else (
      ck (tg σ x0 = 2) <| clT (Byt_whole σ x0 ) fun r2 σ1 =>
      bn (x2 + (1 : Int32)) fun y3 =>
      Byt_wholes_p2 n σ1 x0 x1 y3)
theorem V.gX1_wholes_p2 {X : CX}  : ∀ (n : Nat) (σ : HS) (x0 : Nat) (x1 : Int32) (x2 : Int32), G X RX1 "wholes" cX1_wholes 3 none 10 176 (enX enV (cxz X)) 2 [(0, av x0), (1, iv x1), (2, iv x2)] [] σ (Byt_wholes_p2 n σ x0 x1 x2)
  | 0, σ, x0, x1, x2 => by rw [Byt_wholes_p2]; exact G.nul
  | n + 1, σ, x0, x1, x2 => by
    rw [Byt_wholes_p2]
    refine g_iload_n 2 2 dX1_wholes_2 rfl rfl ?_
    refine g_iload_n 1 1 dX1_wholes_3 rfl rfl ?_
    refine g_icmp_ge 18 dX1_wholes_4 (by decide) ?_ ?_
    · exact g_return rfl dX1_wholes_18
    · refine g_aload_n 0 0 dX1_wholes_7 rfl rfl ?_
      refine g_callVT (fc := fun sς => Byt_whole sς x0 ) (ci := 1) (as := []) rfl rfl rfl q1365 qs5 q1363 mdX1_91 (ctX1_whole x0 ) rfl (Nat.le_of_ble_eq_true rfl) (Nat.le_of_ble_eq_true rfl) (Nat.le_of_ble_eq_true rfl) pu_I (by decide) dX1_wholes_8 (fun r2 σ1 => ?_)
      refine g_pop dX1_wholes_11 rfl ?_
      refine g_iincB (w := 1) 2 dX1_wholes_12 rfl (by decide) (by decide) (fun _ => rfl) (fun y3 => ?_)
      refine g_goto 2 dX1_wholes_15 (by decide) ?_
      refine G.sub [1, 2, 0] rfl ?_
      exact gX1_wholes_p2 n _ _ _ _
def V.Byt_wholes (σ : HS) (x0 : Nat) (x1 : Int32) : Option ((Nat ⊕ Unit) × HS) :=
  Byt_wholes_p2 FU σ x0 x1 (0 : Int32)
theorem V.ctX1_wholes (x0 : Nat) (x1 : Int32) : Ct yX1_wholes  cX1_wholes 3 none 10 176 eXV [av x0, iv x1] (fun σ => Byt_wholes σ x0 x1) := by
  refine Ct.of (own := RX1) (nm := "wholes") (desc := "(I)V") rfl (by decide) (Nat.le_of_ble_eq_true rfl) (by decide) (fun X σ => ?_)
  show G X RX1 "wholes" cX1_wholes 3 none 10 176 (enX enV (cxz X)) 0 [(0, av x0), (1, iv x1)] [] σ (Byt_wholes σ x0 x1)
  unfold Byt_wholes
  refine g_iconst (v := 0) dX1_wholes_0 (by decide) ?_
  refine g_istore_n 2 dX1_wholes_1 rfl (by decide) rfl ?_
  refine G.sub [1, 2, 0] rfl ?_
  exact gX1_wholes_p2 FU _ _ _ _
theorem V.dX1_blockType_0 : decode cX1_blockType 0 = .ok (.aload_n 0, 1) := by decide +kernel
theorem V.dX1_blockType_1 : decode cX1_blockType 1 = .ok (.getfield 56, 3) := by decide +kernel
theorem V.dX1_blockType_4 : decode cX1_blockType 4 = .ok (.istore_n 1, 1) := by decide +kernel
theorem V.dX1_blockType_5 : decode cX1_blockType 5 = .ok (.aload_n 0, 1) := by decide +kernel
theorem V.dX1_blockType_6 : decode cX1_blockType 6 = .ok (.bipush 33, 2) := by decide +kernel
theorem V.dX1_blockType_8 : decode cX1_blockType 8 = .ok (.iconst 1, 1) := by decide +kernel
theorem V.dX1_blockType_9 : decode cX1_blockType 9 = .ok (.invokevirtual 83, 3) := by decide +kernel
theorem V.dX1_blockType_12 : decode cX1_blockType 12 = .ok (.lstore_n 2, 1) := by decide +kernel
theorem V.dX1_blockType_13 : decode cX1_blockType 13 = .ok (.aload_n 0, 1) := by decide +kernel
theorem V.dX1_blockType_14 : decode cX1_blockType 14 = .ok (.getfield 56, 3) := by decide +kernel
theorem V.dX1_blockType_17 : decode cX1_blockType 17 = .ok (.iload_n 1, 1) := by decide +kernel
theorem V.dX1_blockType_18 : decode cX1_blockType 18 = .ok (.iconst 1, 1) := by decide +kernel
theorem V.dX1_blockType_19 : decode cX1_blockType 19 = .ok (.iadd, 1) := by decide +kernel
theorem V.dX1_blockType_20 : decode cX1_blockType 20 = .ok (.if_icmp .ne 7, 3) := by decide +kernel
theorem V.dX1_blockType_23 : decode cX1_blockType 23 = .ok (.iconst 1, 1) := by decide +kernel
theorem V.dX1_blockType_24 : decode cX1_blockType 24 = .ok (.goto 4, 3) := by decide +kernel
theorem V.dX1_blockType_27 : decode cX1_blockType 27 = .ok (.iconst 0, 1) := by decide +kernel
theorem V.dX1_blockType_28 : decode cX1_blockType 28 = .ok (.istore 4, 2) := by decide +kernel
theorem V.dX1_blockType_30 : decode cX1_blockType 30 = .ok (.lload_n 2, 1) := by decide +kernel
theorem V.dX1_blockType_31 : decode cX1_blockType 31 = .ok (.ldc2_w 137, 3) := by decide +kernel
theorem V.dX1_blockType_34 : decode cX1_blockType 34 = .ok (.lcmp, 1) := by decide +kernel
theorem V.dX1_blockType_35 : decode cX1_blockType 35 = .ok (.ifCond .eq 15, 3) := by decide +kernel
theorem V.dX1_blockType_38 : decode cX1_blockType 38 = .ok (.lload_n 2, 1) := by decide +kernel
theorem V.dX1_blockType_39 : decode cX1_blockType 39 = .ok (.l2i, 1) := by decide +kernel
theorem V.dX1_blockType_40 : decode cX1_blockType 40 = .ok (.sipush 128, 3) := by decide +kernel
theorem V.dX1_blockType_43 : decode cX1_blockType 43 = .ok (.iadd, 1) := by decide +kernel
theorem V.dX1_blockType_44 : decode cX1_blockType 44 = .ok (.invokestatic 113, 3) := by decide +kernel
theorem V.dX1_blockType_47 : decode cX1_blockType 47 = .ok (.ifCond .eq 7, 3) := by decide +kernel
theorem V.dX1_blockType_50 : decode cX1_blockType 50 = .ok (.iconst 1, 1) := by decide +kernel
theorem V.dX1_blockType_51 : decode cX1_blockType 51 = .ok (.goto 4, 3) := by decide +kernel
theorem V.dX1_blockType_54 : decode cX1_blockType 54 = .ok (.iconst 0, 1) := by decide +kernel
theorem V.dX1_blockType_55 : decode cX1_blockType 55 = .ok (.istore 5, 2) := by decide +kernel
theorem V.dX1_blockType_57 : decode cX1_blockType 57 = .ok (.lload_n 2, 1) := by decide +kernel
theorem V.dX1_blockType_58 : decode cX1_blockType 58 = .ok (.lconst 0, 1) := by decide +kernel
theorem V.dX1_blockType_59 : decode cX1_blockType 59 = .ok (.lcmp, 1) := by decide +kernel
theorem V.dX1_blockType_60 : decode cX1_blockType 60 = .ok (.ifCond .ge 20, 3) := by decide +kernel
theorem V.dX1_blockType_63 : decode cX1_blockType 63 = .ok (.iload 4, 2) := by decide +kernel
theorem V.dX1_blockType_65 : decode cX1_blockType 65 = .ok (.ifCond .eq 8, 3) := by decide +kernel
theorem V.dX1_blockType_68 : decode cX1_blockType 68 = .ok (.iload 5, 2) := by decide +kernel
theorem V.dX1_blockType_70 : decode cX1_blockType 70 = .ok (.ifCond .ne 10, 3) := by decide +kernel
theorem V.dX1_blockType_73 : decode cX1_blockType 73 = .ok (.aload_n 0, 1) := by decide +kernel
theorem V.dX1_blockType_74 : decode cX1_blockType 74 = .ok (.bipush 8, 2) := by decide +kernel
theorem V.dX1_blockType_76 : decode cX1_blockType 76 = .ok (.iload_n 1, 1) := by decide +kernel
theorem V.dX1_blockType_77 : decode cX1_blockType 77 = .ok (.invokevirtual 68, 3) := by decide +kernel
theorem V.dX1_blockType_80 : decode cX1_blockType 80 = .ok (.return_, 1) := by decide +kernel
/-! ModuleEngine$Bytes.blockType()V -/
def V.Byt_blockType_p73  (σ : HS) (x0 : Nat) (x1 : Int32) : Option ((Nat ⊕ Unit) × HS) :=
  ck (tg σ x0 = 2) <| clT (Byt_stop σ x0 (8 : Int32) x1) fun _ σ1 =>
  some (.inr (), σ1)
theorem V.gX1_blockType_p73 {X : CX}  (σ : HS) (x0 : Nat) (x1 : Int32) : G X RX1 "blockType" cX1_blockType 6 none 9 156 (enX enV (cxz X)) 73 [(0, av x0), (1, iv x1)] [] σ (Byt_blockType_p73 σ x0 x1) := by
  unfold Byt_blockType_p73
  refine g_aload_n 0 0 dX1_blockType_73 rfl rfl ?_
  refine g_bipush (v := 8) dX1_blockType_74 (by decide) ?_
  refine g_iload_n 1 1 dX1_blockType_76 rfl rfl ?_
  refine g_callVT (fc := fun sς => Byt_stop sς x0 (8 : Int32) x1) (ci := 1) (as := [iv (8 : Int32), iv x1]) rfl rfl rfl q1295 qs3 q1293 mdX1_68 (ctX1_stop x0 (8 : Int32) x1) rfl (Nat.le_of_ble_eq_true rfl) (Nat.le_of_ble_eq_true rfl) (Nat.le_of_ble_eq_true rfl) pu_V (by decide) dX1_blockType_77 (fun _ σ1 => ?_)
  exact g_return rfl dX1_blockType_80
def V.Byt_blockType_p55  (σ : HS) (x0 : Nat) (x1 : Int32) (x2 : Int64) (x4 : Int32) (s0 : Int32) : Option ((Nat ⊕ Unit) × HS) :=
  if (0 : Int64) ≤ x2 then (
    some (.inr (), σ))
  else (
    if x4 = 0 then (
      Byt_blockType_p73 σ x0 x1)
    else (
      if s0 = 0 then (
        Byt_blockType_p73 σ x0 x1)
      else (
        some (.inr (), σ))))
theorem V.gX1_blockType_p55 {X : CX}  (σ : HS) (x0 : Nat) (x1 : Int32) (x2 : Int64) (x4 : Int32) (s0 : Int32) : G X RX1 "blockType" cX1_blockType 6 none 9 156 (enX enV (cxz X)) 55 [(0, av x0), (1, iv x1), (2, jv x2), (4, iv x4)] [iv s0] σ (Byt_blockType_p55 σ x0 x1 x2 x4 s0) := by
  unfold Byt_blockType_p55
  refine g_istore dX1_blockType_55 (by decide) rfl ?_
  refine g_lload_n 2 3 dX1_blockType_57 rfl rfl ?_
  refine g_lconst (v := 0) dX1_blockType_58 (by decide) ?_
  refine g_lcmp_ge 80 dX1_blockType_59 dX1_blockType_60 (by decide) ?_ ?_
  · exact g_return rfl dX1_blockType_80
  · refine g_iload 4 dX1_blockType_63 rfl ?_
    refine g_if_eq 73 dX1_blockType_65 (by decide) ?_ ?_
    · refine G.sub [1, 2] rfl ?_
      exact gX1_blockType_p73 _ _ _
    · refine g_iload 0 dX1_blockType_68 rfl ?_
      refine g_if_ne 80 dX1_blockType_70 (by decide) ?_ ?_
      · exact g_return rfl dX1_blockType_80
      · refine G.sub [1, 2] rfl ?_
        exact gX1_blockType_p73 _ _ _
def V.Byt_blockType_p50  (σ : HS) (x0 : Nat) (x1 : Int32) (x2 : Int64) (x4 : Int32) : Option ((Nat ⊕ Unit) × HS) :=
  Byt_blockType_p55 σ x0 x1 x2 x4 (1 : Int32)
theorem V.gX1_blockType_p50 {X : CX}  (σ : HS) (x0 : Nat) (x1 : Int32) (x2 : Int64) (x4 : Int32) : G X RX1 "blockType" cX1_blockType 6 none 9 156 (enX enV (cxz X)) 50 [(0, av x0), (1, iv x1), (2, jv x2), (4, iv x4)] [] σ (Byt_blockType_p50 σ x0 x1 x2 x4) := by
  unfold Byt_blockType_p50
  refine g_iconst (v := 1) dX1_blockType_50 (by decide) ?_
  refine g_goto 55 dX1_blockType_51 (by decide) ?_
  exact gX1_blockType_p55 _ _ _ _ _ _
def V.Byt_blockType_p28  (σ : HS) (x0 : Nat) (x1 : Int32) (x2 : Int64) (s0 : Int32) : Option ((Nat ⊕ Unit) × HS) :=
  if x2 = (-64 : Int64) then (
    Byt_blockType_p50 σ x0 x1 x2 s0)
  else (
    cl (Byt_isValue σ (x2.toInt32 + (128 : Int32))) fun r2 σ1 =>
    if r2 = 0 then (
      Byt_blockType_p55 σ1 x0 x1 x2 s0 (0 : Int32))
    else (
      Byt_blockType_p50 σ1 x0 x1 x2 s0))
theorem V.gX1_blockType_p28 {X : CX}  (σ : HS) (x0 : Nat) (x1 : Int32) (x2 : Int64) (s0 : Int32) : G X RX1 "blockType" cX1_blockType 6 none 9 156 (enX enV (cxz X)) 28 [(0, av x0), (1, iv x1), (2, jv x2)] [iv s0] σ (Byt_blockType_p28 σ x0 x1 x2 s0) := by
  unfold Byt_blockType_p28
  refine g_istore dX1_blockType_28 (by decide) rfl ?_
  refine g_lload_n 2 3 dX1_blockType_30 rfl rfl ?_
  refine g_ldc2 q1492 dX1_blockType_31 ?_
  refine g_lcmp_eq 50 dX1_blockType_34 dX1_blockType_35 (by decide) ?_ ?_
  · refine G.sub [1, 2, 3, 0] rfl ?_
    exact gX1_blockType_p50 _ _ _ _ _
  · refine g_lload_n 2 3 dX1_blockType_38 rfl rfl ?_
    refine g_l2i dX1_blockType_39 ?_
    refine g_sipush (v := 128) dX1_blockType_40 (by decide) ?_
    refine g_iadd dX1_blockType_43 ?_
    refine g_callS (fc := fun sς => Byt_isValue sς (x2.toInt32 + (128 : Int32))) (as := [iv (x2.toInt32 + (128 : Int32))]) q1429 mdX1_113 (ctX1_isValue (x2.toInt32 + (128 : Int32))) rfl (Nat.le_of_ble_eq_true rfl) (Nat.le_of_ble_eq_true rfl) (Nat.le_of_ble_eq_true rfl) pu_I dX1_blockType_44 (fun r2 σ1 => ?_)
    refine g_if_eq 54 dX1_blockType_47 (by decide) ?_ ?_
    · refine g_iconst (v := 0) dX1_blockType_54 (by decide) ?_
      refine G.sub [1, 2, 3, 0] rfl ?_
      exact gX1_blockType_p55 _ _ _ _ _ _
    · refine G.sub [1, 2, 3, 0] rfl ?_
      exact gX1_blockType_p50 _ _ _ _ _
def V.Byt_blockType (σ : HS) (x0 : Nat) : Option ((Nat ⊕ Unit) × HS) :=
  ck (tg σ x0 = 2) <|
  bn (gI σ x0 6) fun y1 =>
  ck (tg σ x0 = 2) <| clT (Byt_number σ x0 (33 : Int32) (1 : Int32)) fun r3 σ2 =>
  ck (tg σ2 x0 = 2) <|
  if (gI σ2 x0 6) = (y1 + (1 : Int32)) then (
    Byt_blockType_p28 σ2 x0 y1 r3 (1 : Int32))
  else (
    Byt_blockType_p28 σ2 x0 y1 r3 (0 : Int32))
theorem V.ctX1_blockType (x0 : Nat) : Ct yX1_blockType  cX1_blockType 6 none 9 156 eXV [av x0] (fun σ => Byt_blockType σ x0) := by
  refine Ct.of (own := RX1) (nm := "blockType") (desc := "()V") rfl (by decide) (Nat.le_of_ble_eq_true rfl) (by decide) (fun X σ => ?_)
  show G X RX1 "blockType" cX1_blockType 6 none 9 156 (enX enV (cxz X)) 0 [(0, av x0)] [] σ (Byt_blockType σ x0)
  unfold Byt_blockType
  refine g_aload_n 0 0 dX1_blockType_0 rfl rfl ?_
  refine g_getI fdX1_56 dX1_blockType_1 ?_
  refine g_nmI (fun y1 => ?_)
  refine g_istore_n 1 dX1_blockType_4 rfl (by decide) rfl ?_
  refine g_aload_n 0 1 dX1_blockType_5 rfl rfl ?_
  refine g_bipush (v := 33) dX1_blockType_6 (by decide) ?_
  refine g_iconst (v := 1) dX1_blockType_8 (by decide) ?_
  refine g_callVT (fc := fun sς => Byt_number sς x0 (33 : Int32) (1 : Int32)) (ci := 1) (as := [iv (33 : Int32), iv (1 : Int32)]) rfl rfl rfl q1369 qs6 q1367 mdX1_83 (ctX1_number x0 (33 : Int32) (1 : Int32)) rfl (Nat.le_of_ble_eq_true rfl) (Nat.le_of_ble_eq_true rfl) (Nat.le_of_ble_eq_true rfl) pu_J (by decide) dX1_blockType_9 (fun r3 σ2 => ?_)
  refine g_lstore_n 2 dX1_blockType_12 rfl (by decide) rfl ?_
  refine g_aload_n 0 2 dX1_blockType_13 rfl rfl ?_
  refine g_getI fdX1_56 dX1_blockType_14 ?_
  refine g_iload_n 1 1 dX1_blockType_17 rfl rfl ?_
  refine g_iconst (v := 1) dX1_blockType_18 (by decide) ?_
  refine g_iadd dX1_blockType_19 ?_
  refine g_icmp_ne 27 dX1_blockType_20 (by decide) ?_ ?_
  · refine g_iconst (v := 0) dX1_blockType_27 (by decide) ?_
    refine G.sub [2, 1, 0] rfl ?_
    exact gX1_blockType_p28 _ _ _ _ _
  · refine g_iconst (v := 1) dX1_blockType_23 (by decide) ?_
    refine g_goto 28 dX1_blockType_24 (by decide) ?_
    refine G.sub [2, 1, 0] rfl ?_
    exact gX1_blockType_p28 _ _ _ _ _
theorem V.dX1_open_0 : decode cX1_open 0 = .ok (.aload_n 0, 1) := by decide +kernel
theorem V.dX1_open_1 : decode cX1_open 1 = .ok (.invokevirtual 139, 3) := by decide +kernel
theorem V.dX1_open_4 : decode cX1_open 4 = .ok (.aload_n 0, 1) := by decide +kernel
theorem V.dX1_open_5 : decode cX1_open 5 = .ok (.getfield 27, 3) := by decide +kernel
theorem V.dX1_open_8 : decode cX1_open 8 = .ok (.iload_n 1, 1) := by decide +kernel
theorem V.dX1_open_9 : decode cX1_open 9 = .ok (.ifCond .eq 7, 3) := by decide +kernel
theorem V.dX1_open_12 : decode cX1_open 12 = .ok (.iconst 1, 1) := by decide +kernel
theorem V.dX1_open_13 : decode cX1_open 13 = .ok (.goto 4, 3) := by decide +kernel
theorem V.dX1_open_16 : decode cX1_open 16 = .ok (.iconst 0, 1) := by decide +kernel
theorem V.dX1_open_17 : decode cX1_open 17 = .ok (.invokevirtual 101, 3) := by decide +kernel
theorem V.dX1_open_20 : decode cX1_open 20 = .ok (.return_, 1) := by decide +kernel
theorem V.mdX1_139 : MD RX1 139 yX1_blockType cX1_blockType 6 none 0 := ⟨Or.inl q1488, q361, q1491, by decide, by decide, by decide +kernel⟩
theorem V.fdX1_27 : FD RX1 27 1 8 2 := ⟨(RX1, TX1, 10), tyX1, rfl, rfl, in_X1, by decide, Or.inl q548, rfl⟩
/-! ModuleEngine$Bytes.open(Z)V -/
def V.Byt_open_p17  (σ : HS) (s0 : Int32) (s1 : Nat) : Option ((Nat ⊕ Unit) × HS) :=
  ck (tg σ s1 = 4) <| cl (Row_add σ s1 s0) fun _ σ1 =>
  some (.inr (), σ1)
theorem V.gX1_open_p17 {X : CX}  (σ : HS) (s0 : Int32) (s1 : Nat) : G X RX1 "open" cX1_open 2 none 10 181 (enX enV (cxz X)) 17 [] [iv s0, av s1] σ (Byt_open_p17 σ s0 s1) := by
  unfold Byt_open_p17
  refine g_callV (fc := fun sς => Row_add sς s1 s0) (ci := 3) (as := [iv s0]) rfl rfl rfl q1405 q1406 mdX1_101 (ctX3_add s1 s0) rfl (Nat.le_of_ble_eq_true rfl) (Nat.le_of_ble_eq_true rfl) (Nat.le_of_ble_eq_true rfl) pu_V dX1_open_17 (fun _ σ1 => ?_)
  exact g_return rfl dX1_open_20
def V.Byt_open (σ : HS) (x0 : Nat) (x1 : Int32) : Option ((Nat ⊕ Unit) × HS) :=
  ck (tg σ x0 = 2) <| clT (Byt_blockType σ x0 ) fun _ σ1 =>
  ck (tg σ1 x0 = 2) <|
  if x1 = 0 then (
    Byt_open_p17 σ1 (0 : Int32) (gR σ1 x0 8))
  else (
    Byt_open_p17 σ1 (1 : Int32) (gR σ1 x0 8))
theorem V.ctX1_open (x0 : Nat) (x1 : Int32) : Ct yX1_open  cX1_open 2 none 10 181 eXV [av x0, iv x1] (fun σ => Byt_open σ x0 x1) := by
  refine Ct.of (own := RX1) (nm := "open") (desc := "(Z)V") rfl (by decide) (Nat.le_of_ble_eq_true rfl) (by decide) (fun X σ => ?_)
  show G X RX1 "open" cX1_open 2 none 10 181 (enX enV (cxz X)) 0 [(0, av x0), (1, iv x1)] [] σ (Byt_open σ x0 x1)
  unfold Byt_open
  refine g_aload_n 0 0 dX1_open_0 rfl rfl ?_
  refine g_callVT (fc := fun sς => Byt_blockType sς x0 ) (ci := 1) (as := []) rfl rfl rfl q1490 qs26 q1488 mdX1_139 (ctX1_blockType x0 ) rfl (Nat.le_of_ble_eq_true rfl) (Nat.le_of_ble_eq_true rfl) (Nat.le_of_ble_eq_true rfl) pu_V (by decide) dX1_open_1 (fun _ σ1 => ?_)
  refine g_aload_n 0 0 dX1_open_4 rfl rfl ?_
  refine g_getR fdX1_27 dX1_open_5 ?_
  refine g_iload_n 1 1 dX1_open_8 rfl rfl ?_
  refine g_if_eq 16 dX1_open_9 (by decide) ?_ ?_
  · refine g_iconst (v := 0) dX1_open_16 (by decide) ?_
    refine G.sub [] rfl ?_
    exact gX1_open_p17 _ _ _
  · refine g_iconst (v := 1) dX1_open_12 (by decide) ?_
    refine g_goto 17 dX1_open_13 (by decide) ?_
    refine G.sub [] rfl ?_
    exact gX1_open_p17 _ _ _
theorem V.dX1_elseHere_0 : decode cX1_elseHere 0 = .ok (.aload_n 0, 1) := by decide +kernel
theorem V.dX1_elseHere_1 : decode cX1_elseHere 1 = .ok (.getfield 27, 3) := by decide +kernel
theorem V.dX1_elseHere_4 : decode cX1_elseHere 4 = .ok (.invokevirtual 122, 3) := by decide +kernel
theorem V.dX1_elseHere_7 : decode cX1_elseHere 7 = .ok (.iconst 1, 1) := by decide +kernel
theorem V.dX1_elseHere_8 : decode cX1_elseHere 8 = .ok (.isub, 1) := by decide +kernel
theorem V.dX1_elseHere_9 : decode cX1_elseHere 9 = .ok (.istore_n 2, 1) := by decide +kernel
theorem V.dX1_elseHere_10 : decode cX1_elseHere 10 = .ok (.aload_n 0, 1) := by decide +kernel
theorem V.dX1_elseHere_11 : decode cX1_elseHere 11 = .ok (.getfield 27, 3) := by decide +kernel
theorem V.dX1_elseHere_14 : decode cX1_elseHere 14 = .ok (.iload_n 2, 1) := by decide +kernel
theorem V.dX1_elseHere_15 : decode cX1_elseHere 15 = .ok (.invokevirtual 149, 3) := by decide +kernel
theorem V.dX1_elseHere_18 : decode cX1_elseHere 18 = .ok (.ifCond .ne 10, 3) := by decide +kernel
theorem V.dX1_elseHere_21 : decode cX1_elseHere 21 = .ok (.aload_n 0, 1) := by decide +kernel
theorem V.dX1_elseHere_22 : decode cX1_elseHere 22 = .ok (.bipush 10, 2) := by decide +kernel
theorem V.dX1_elseHere_24 : decode cX1_elseHere 24 = .ok (.iload_n 1, 1) := by decide +kernel
theorem V.dX1_elseHere_25 : decode cX1_elseHere 25 = .ok (.invokevirtual 68, 3) := by decide +kernel
theorem V.dX1_elseHere_28 : decode cX1_elseHere 28 = .ok (.aload_n 0, 1) := by decide +kernel
theorem V.dX1_elseHere_29 : decode cX1_elseHere 29 = .ok (.getfield 27, 3) := by decide +kernel
theorem V.dX1_elseHere_32 : decode cX1_elseHere 32 = .ok (.iload_n 2, 1) := by decide +kernel
theorem V.dX1_elseHere_33 : decode cX1_elseHere 33 = .ok (.iconst 0, 1) := by decide +kernel
theorem V.dX1_elseHere_34 : decode cX1_elseHere 34 = .ok (.invokevirtual 151, 3) := by decide +kernel
theorem V.dX1_elseHere_37 : decode cX1_elseHere 37 = .ok (.return_, 1) := by decide +kernel
/-! ModuleEngine$Bytes.elseHere(I)V -/
def V.Byt_elseHere_p28  (σ : HS) (x0 : Nat) (x2 : Int32) : Option ((Nat ⊕ Unit) × HS) :=
  ck (tg σ x0 = 2) <|
  ck (tg σ (gR σ x0 8) = 4) <| cl (Row_set σ (gR σ x0 8) x2 (0 : Int32)) fun _ σ1 =>
  some (.inr (), σ1)
theorem V.gX1_elseHere_p28 {X : CX}  (σ : HS) (x0 : Nat) (x2 : Int32) : G X RX1 "elseHere" cX1_elseHere 3 none 7 107 (enX enV (cxz X)) 28 [(0, av x0), (2, iv x2)] [] σ (Byt_elseHere_p28 σ x0 x2) := by
  unfold Byt_elseHere_p28
  refine g_aload_n 0 0 dX1_elseHere_28 rfl rfl ?_
  refine g_getR fdX1_27 dX1_elseHere_29 ?_
  refine g_iload_n 2 1 dX1_elseHere_32 rfl rfl ?_
  refine g_iconst (v := 0) dX1_elseHere_33 (by decide) ?_
  refine g_callV (fc := fun sς => Row_set sς (gR σ x0 8) x2 (0 : Int32)) (ci := 3) (as := [iv x2, iv (0 : Int32)]) rfl rfl rfl q1439 q1440 mdX1_151 (ctX3_set (gR σ x0 8) x2 (0 : Int32)) rfl (Nat.le_of_ble_eq_true rfl) (Nat.le_of_ble_eq_true rfl) (Nat.le_of_ble_eq_true rfl) pu_V dX1_elseHere_34 (fun _ σ1 => ?_)
  exact g_return rfl dX1_elseHere_37
def V.Byt_elseHere (σ : HS) (x0 : Nat) (x1 : Int32) : Option ((Nat ⊕ Unit) × HS) :=
  ck (tg σ x0 = 2) <|
  ck (tg σ (gR σ x0 8) = 4) <| cl (Row_size σ (gR σ x0 8) ) fun r2 σ1 =>
  bn (r2 - (1 : Int32)) fun y3 =>
  ck (tg σ1 x0 = 2) <|
  ck (tg σ1 (gR σ1 x0 8) = 4) <| cl (Row_at σ1 (gR σ1 x0 8) y3) fun r5 σ4 =>
  if r5 = 0 then (
    ck (tg σ4 x0 = 2) <| clT (Byt_stop σ4 x0 (10 : Int32) x1) fun _ σ6 =>
    Byt_elseHere_p28 σ6 x0 y3)
  else (
    Byt_elseHere_p28 σ4 x0 y3)
theorem V.ctX1_elseHere (x0 : Nat) (x1 : Int32) : Ct yX1_elseHere  cX1_elseHere 3 none 7 107 eXV [av x0, iv x1] (fun σ => Byt_elseHere σ x0 x1) := by
  refine Ct.of (own := RX1) (nm := "elseHere") (desc := "(I)V") rfl (by decide) (Nat.le_of_ble_eq_true rfl) (by decide) (fun X σ => ?_)
  show G X RX1 "elseHere" cX1_elseHere 3 none 7 107 (enX enV (cxz X)) 0 [(0, av x0), (1, iv x1)] [] σ (Byt_elseHere σ x0 x1)
  unfold Byt_elseHere
  refine g_aload_n 0 0 dX1_elseHere_0 rfl rfl ?_
  refine g_getR fdX1_27 dX1_elseHere_1 ?_
  refine g_callV (fc := fun sς => Row_size sς (gR σ x0 8) ) (ci := 3) (as := []) rfl rfl rfl q1421 q1422 mdX1_122 (ctX3_size (gR σ x0 8) ) rfl (Nat.le_of_ble_eq_true rfl) (Nat.le_of_ble_eq_true rfl) (Nat.le_of_ble_eq_true rfl) pu_I dX1_elseHere_4 (fun r2 σ1 => ?_)
  refine g_iconst (v := 1) dX1_elseHere_7 (by decide) ?_
  refine g_isub dX1_elseHere_8 ?_
  refine g_nmI (fun y3 => ?_)
  refine g_istore_n 2 dX1_elseHere_9 rfl (by decide) rfl ?_
  refine g_aload_n 0 1 dX1_elseHere_10 rfl rfl ?_
  refine g_getR fdX1_27 dX1_elseHere_11 ?_
  refine g_iload_n 2 0 dX1_elseHere_14 rfl rfl ?_
  refine g_callV (fc := fun sς => Row_at sς (gR σ1 x0 8) y3) (ci := 3) (as := [iv y3]) rfl rfl rfl q1409 q1410 mdX1_149 (ctX3_at (gR σ1 x0 8) y3) rfl (Nat.le_of_ble_eq_true rfl) (Nat.le_of_ble_eq_true rfl) (Nat.le_of_ble_eq_true rfl) pu_I dX1_elseHere_15 (fun r5 σ4 => ?_)
  refine g_if_ne 28 dX1_elseHere_18 (by decide) ?_ ?_
  · refine G.sub [1, 0] rfl ?_
    exact gX1_elseHere_p28 _ _ _
  · refine g_aload_n 0 1 dX1_elseHere_21 rfl rfl ?_
    refine g_bipush (v := 10) dX1_elseHere_22 (by decide) ?_
    refine g_iload_n 1 2 dX1_elseHere_24 rfl rfl ?_
    refine g_callVT (fc := fun sς => Byt_stop sς x0 (10 : Int32) x1) (ci := 1) (as := [iv (10 : Int32), iv x1]) rfl rfl rfl q1295 qs3 q1293 mdX1_68 (ctX1_stop x0 (10 : Int32) x1) rfl (Nat.le_of_ble_eq_true rfl) (Nat.le_of_ble_eq_true rfl) (Nat.le_of_ble_eq_true rfl) pu_V (by decide) dX1_elseHere_25 (fun _ σ6 => ?_)
    refine G.sub [1, 0] rfl ?_
    exact gX1_elseHere_p28 _ _ _
theorem V.dX1_prefixed_0 : decode cX1_prefixed 0 = .ok (.aload_n 0, 1) := by decide +kernel
theorem V.dX1_prefixed_1 : decode cX1_prefixed 1 = .ok (.invokevirtual 91, 3) := by decide +kernel
theorem V.dX1_prefixed_4 : decode cX1_prefixed 4 = .ok (.istore_n 2, 1) := by decide +kernel
theorem V.dX1_prefixed_5 : decode cX1_prefixed 5 = .ok (.iload_n 2, 1) := by decide +kernel
theorem V.dX1_prefixed_6 : decode cX1_prefixed 6 = .ok (.ifCond .lt 9, 3) := by decide +kernel
theorem V.dX1_prefixed_9 : decode cX1_prefixed 9 = .ok (.iload_n 2, 1) := by decide +kernel
theorem V.dX1_prefixed_10 : decode cX1_prefixed 10 = .ok (.bipush 17, 2) := by decide +kernel
theorem V.dX1_prefixed_12 : decode cX1_prefixed 12 = .ok (.if_icmp .le 10, 3) := by decide +kernel
theorem V.dX1_prefixed_15 : decode cX1_prefixed 15 = .ok (.aload_n 0, 1) := by decide +kernel
theorem V.dX1_prefixed_16 : decode cX1_prefixed 16 = .ok (.bipush 10, 2) := by decide +kernel
theorem V.dX1_prefixed_18 : decode cX1_prefixed 18 = .ok (.iload_n 1, 1) := by decide +kernel
theorem V.dX1_prefixed_19 : decode cX1_prefixed 19 = .ok (.invokevirtual 68, 3) := by decide +kernel
theorem V.dX1_prefixed_22 : decode cX1_prefixed 22 = .ok (.iload_n 2, 1) := by decide +kernel
theorem V.dX1_prefixed_23 : decode cX1_prefixed 23 = .ok (.bipush 8, 2) := by decide +kernel
theorem V.dX1_prefixed_25 : decode cX1_prefixed 25 = .ok (.if_icmp .eq 9, 3) := by decide +kernel
theorem V.dX1_prefixed_28 : decode cX1_prefixed 28 = .ok (.iload_n 2, 1) := by decide +kernel
theorem V.dX1_prefixed_29 : decode cX1_prefixed 29 = .ok (.bipush 9, 2) := by decide +kernel
theorem V.dX1_prefixed_31 : decode cX1_prefixed 31 = .ok (.if_icmp .ne 22, 3) := by decide +kernel
theorem V.dX1_prefixed_34 : decode cX1_prefixed 34 = .ok (.aload_n 0, 1) := by decide +kernel
theorem V.dX1_prefixed_35 : decode cX1_prefixed 35 = .ok (.getfield 16, 3) := by decide +kernel
theorem V.dX1_prefixed_38 : decode cX1_prefixed 38 = .ok (.getfield 142, 3) := by decide +kernel
theorem V.dX1_prefixed_41 : decode cX1_prefixed 41 = .ok (.lconst 0, 1) := by decide +kernel
theorem V.dX1_prefixed_42 : decode cX1_prefixed 42 = .ok (.lcmp, 1) := by decide +kernel
theorem V.dX1_prefixed_43 : decode cX1_prefixed 43 = .ok (.ifCond .ge 10, 3) := by decide +kernel
theorem V.dX1_prefixed_46 : decode cX1_prefixed 46 = .ok (.aload_n 0, 1) := by decide +kernel
theorem V.dX1_prefixed_47 : decode cX1_prefixed 47 = .ok (.bipush 11, 2) := by decide +kernel
theorem V.dX1_prefixed_49 : decode cX1_prefixed 49 = .ok (.iload_n 1, 1) := by decide +kernel
theorem V.dX1_prefixed_50 : decode cX1_prefixed 50 = .ok (.invokevirtual 68, 3) := by decide +kernel
theorem V.dX1_prefixed_53 : decode cX1_prefixed 53 = .ok (.iload_n 2, 1) := by decide +kernel
theorem V.dX1_prefixed_54 : decode cX1_prefixed 54 = .ok (.bipush 7, 2) := by decide +kernel
theorem V.dX1_prefixed_56 : decode cX1_prefixed 56 = .ok (.if_icmp .le 36, 3) := by decide +kernel
theorem V.dX1_prefixed_59 : decode cX1_prefixed 59 = .ok (.iload_n 2, 1) := by decide +kernel
theorem V.dX1_prefixed_60 : decode cX1_prefixed 60 = .ok (.bipush 10, 2) := by decide +kernel
theorem V.dX1_prefixed_62 : decode cX1_prefixed 62 = .ok (.if_icmp .eq 30, 3) := by decide +kernel
theorem V.dX1_prefixed_65 : decode cX1_prefixed 65 = .ok (.iload_n 2, 1) := by decide +kernel
theorem V.dX1_prefixed_66 : decode cX1_prefixed 66 = .ok (.bipush 11, 2) := by decide +kernel
theorem V.dX1_prefixed_68 : decode cX1_prefixed 68 = .ok (.if_icmp .eq 24, 3) := by decide +kernel
theorem V.dX1_prefixed_71 : decode cX1_prefixed 71 = .ok (.aload_n 0, 1) := by decide +kernel
theorem V.dX1_prefixed_72 : decode cX1_prefixed 72 = .ok (.iload_n 2, 1) := by decide +kernel
theorem V.dX1_prefixed_73 : decode cX1_prefixed 73 = .ok (.bipush 12, 2) := by decide +kernel
theorem V.dX1_prefixed_75 : decode cX1_prefixed 75 = .ok (.if_icmp .eq 9, 3) := by decide +kernel
theorem V.dX1_prefixed_78 : decode cX1_prefixed 78 = .ok (.iload_n 2, 1) := by decide +kernel
theorem V.dX1_prefixed_79 : decode cX1_prefixed 79 = .ok (.bipush 14, 2) := by decide +kernel
theorem V.dX1_prefixed_81 : decode cX1_prefixed 81 = .ok (.if_icmp .ne 7, 3) := by decide +kernel
theorem V.dX1_prefixed_84 : decode cX1_prefixed 84 = .ok (.iconst 2, 1) := by decide +kernel
theorem V.dX1_prefixed_85 : decode cX1_prefixed 85 = .ok (.goto 4, 3) := by decide +kernel
theorem V.dX1_prefixed_88 : decode cX1_prefixed 88 = .ok (.iconst 1, 1) := by decide +kernel
theorem V.dX1_prefixed_89 : decode cX1_prefixed 89 = .ok (.invokevirtual 146, 3) := by decide +kernel
theorem V.dX1_prefixed_92 : decode cX1_prefixed 92 = .ok (.iload_n 2, 1) := by decide +kernel
theorem V.dX1_prefixed_93 : decode cX1_prefixed 93 = .ok (.bipush 8, 2) := by decide +kernel
theorem V.dX1_prefixed_95 : decode cX1_prefixed 95 = .ok (.if_icmp .eq 9, 3) := by decide +kernel
theorem V.dX1_prefixed_98 : decode cX1_prefixed 98 = .ok (.iload_n 2, 1) := by decide +kernel
theorem V.dX1_prefixed_99 : decode cX1_prefixed 99 = .ok (.bipush 11, 2) := by decide +kernel
theorem V.dX1_prefixed_101 : decode cX1_prefixed 101 = .ok (.if_icmp .ne 9, 3) := by decide +kernel
theorem V.dX1_prefixed_104 : decode cX1_prefixed 104 = .ok (.aload_n 0, 1) := by decide +kernel
theorem V.dX1_prefixed_105 : decode cX1_prefixed 105 = .ok (.iconst 0, 1) := by decide +kernel
theorem V.dX1_prefixed_106 : decode cX1_prefixed 106 = .ok (.invokevirtual 127, 3) := by decide +kernel
theorem V.dX1_prefixed_109 : decode cX1_prefixed 109 = .ok (.pop, 1) := by decide +kernel
theorem V.dX1_prefixed_110 : decode cX1_prefixed 110 = .ok (.iload_n 2, 1) := by decide +kernel
theorem V.dX1_prefixed_111 : decode cX1_prefixed 111 = .ok (.bipush 10, 2) := by decide +kernel
theorem V.dX1_prefixed_113 : decode cX1_prefixed 113 = .ok (.if_icmp .ne 15, 3) := by decide +kernel
theorem V.dX1_prefixed_116 : decode cX1_prefixed 116 = .ok (.aload_n 0, 1) := by decide +kernel
theorem V.dX1_prefixed_117 : decode cX1_prefixed 117 = .ok (.iconst 0, 1) := by decide +kernel
theorem V.dX1_prefixed_118 : decode cX1_prefixed 118 = .ok (.invokevirtual 127, 3) := by decide +kernel
theorem V.dX1_prefixed_121 : decode cX1_prefixed 121 = .ok (.pop, 1) := by decide +kernel
theorem V.dX1_prefixed_122 : decode cX1_prefixed 122 = .ok (.aload_n 0, 1) := by decide +kernel
theorem V.dX1_prefixed_123 : decode cX1_prefixed 123 = .ok (.iconst 0, 1) := by decide +kernel
theorem V.dX1_prefixed_124 : decode cX1_prefixed 124 = .ok (.invokevirtual 127, 3) := by decide +kernel
theorem V.dX1_prefixed_127 : decode cX1_prefixed 127 = .ok (.pop, 1) := by decide +kernel
theorem V.dX1_prefixed_128 : decode cX1_prefixed 128 = .ok (.return_, 1) := by decide +kernel
theorem V.fdX1_142 : FD RX1 142 2 20 1 := ⟨(RX2, TX2, 21), tyX2, rfl, rfl, in_X2, by decide, Or.inr ⟨_, q491⟩, rfl⟩
theorem V.mdX1_146 : MD RX1 146 yX1_wholes cX1_wholes 3 none 1 := ⟨Or.inl q1480, q361, q1483, by decide, by decide, by decide +kernel⟩
/-! ModuleEngine$Bytes.prefixed(I)V -/
def V.Byt_prefixed_p110  (σ : HS) (x0 : Nat) (x2 : Int32) : Option ((Nat ⊕ Unit) × HS) :=
  if x2 = (10 : Int32) then (
    ck (tg σ x0 = 2) <| clT (Byt_form σ x0 (0 : Int32)) fun r2 σ1 =>
    ck (tg σ1 x0 = 2) <| clT (Byt_form σ1 x0 (0 : Int32)) fun r4 σ3 =>
    some (.inr (), σ3))
  else (
    some (.inr (), σ))
theorem V.gX1_prefixed_p110 {X : CX}  (σ : HS) (x0 : Nat) (x2 : Int32) : G X RX1 "prefixed" cX1_prefixed 3 none 11 198 (enX enV (cxz X)) 110 [(0, av x0), (2, iv x2)] [] σ (Byt_prefixed_p110 σ x0 x2) := by
  unfold Byt_prefixed_p110
  refine g_iload_n 2 1 dX1_prefixed_110 rfl rfl ?_
  refine g_bipush (v := 10) dX1_prefixed_111 (by decide) ?_
  refine g_icmp_ne 128 dX1_prefixed_113 (by decide) ?_ ?_
  · exact g_return rfl dX1_prefixed_128
  · refine g_aload_n 0 0 dX1_prefixed_116 rfl rfl ?_
    refine g_iconst (v := 0) dX1_prefixed_117 (by decide) ?_
    refine g_callVT (fc := fun sς => Byt_form sς x0 (0 : Int32)) (ci := 1) (as := [iv (0 : Int32)]) rfl rfl rfl q1444 qs16 q1442 mdX1_127 (ctX1_form x0 (0 : Int32)) rfl (Nat.le_of_ble_eq_true rfl) (Nat.le_of_ble_eq_true rfl) (Nat.le_of_ble_eq_true rfl) pu_I (by decide) dX1_prefixed_118 (fun r2 σ1 => ?_)
    refine g_pop dX1_prefixed_121 rfl ?_
    refine g_aload_n 0 0 dX1_prefixed_122 rfl rfl ?_
    refine g_iconst (v := 0) dX1_prefixed_123 (by decide) ?_
    refine g_callVT (fc := fun sς => Byt_form sς x0 (0 : Int32)) (ci := 1) (as := [iv (0 : Int32)]) rfl rfl rfl q1444 qs16 q1442 mdX1_127 (ctX1_form x0 (0 : Int32)) rfl (Nat.le_of_ble_eq_true rfl) (Nat.le_of_ble_eq_true rfl) (Nat.le_of_ble_eq_true rfl) pu_I (by decide) dX1_prefixed_124 (fun r4 σ3 => ?_)
    refine g_pop dX1_prefixed_127 rfl ?_
    exact g_return rfl dX1_prefixed_128
def V.Byt_prefixed_p104  (σ : HS) (x0 : Nat) (x2 : Int32) : Option ((Nat ⊕ Unit) × HS) :=
  ck (tg σ x0 = 2) <| clT (Byt_form σ x0 (0 : Int32)) fun r2 σ1 =>
  Byt_prefixed_p110 σ1 x0 x2
theorem V.gX1_prefixed_p104 {X : CX}  (σ : HS) (x0 : Nat) (x2 : Int32) : G X RX1 "prefixed" cX1_prefixed 3 none 11 198 (enX enV (cxz X)) 104 [(0, av x0), (2, iv x2)] [] σ (Byt_prefixed_p104 σ x0 x2) := by
  unfold Byt_prefixed_p104
  refine g_aload_n 0 0 dX1_prefixed_104 rfl rfl ?_
  refine g_iconst (v := 0) dX1_prefixed_105 (by decide) ?_
  refine g_callVT (fc := fun sς => Byt_form sς x0 (0 : Int32)) (ci := 1) (as := [iv (0 : Int32)]) rfl rfl rfl q1444 qs16 q1442 mdX1_127 (ctX1_form x0 (0 : Int32)) rfl (Nat.le_of_ble_eq_true rfl) (Nat.le_of_ble_eq_true rfl) (Nat.le_of_ble_eq_true rfl) pu_I (by decide) dX1_prefixed_106 (fun r2 σ1 => ?_)
  refine g_pop dX1_prefixed_109 rfl ?_
  exact gX1_prefixed_p110 _ _ _
def V.Byt_prefixed_p92  (σ : HS) (x0 : Nat) (x2 : Int32) : Option ((Nat ⊕ Unit) × HS) :=
  if x2 = (8 : Int32) then (
    Byt_prefixed_p104 σ x0 x2)
  else (
    if x2 = (11 : Int32) then (
      Byt_prefixed_p104 σ x0 x2)
    else (
      Byt_prefixed_p110 σ x0 x2))
theorem V.gX1_prefixed_p92 {X : CX}  (σ : HS) (x0 : Nat) (x2 : Int32) : G X RX1 "prefixed" cX1_prefixed 3 none 11 198 (enX enV (cxz X)) 92 [(0, av x0), (2, iv x2)] [] σ (Byt_prefixed_p92 σ x0 x2) := by
  unfold Byt_prefixed_p92
  refine g_iload_n 2 1 dX1_prefixed_92 rfl rfl ?_
  refine g_bipush (v := 8) dX1_prefixed_93 (by decide) ?_
  refine g_icmp_eq 104 dX1_prefixed_95 (by decide) ?_ ?_
  · exact gX1_prefixed_p104 _ _ _
  · refine g_iload_n 2 1 dX1_prefixed_98 rfl rfl ?_
    refine g_bipush (v := 11) dX1_prefixed_99 (by decide) ?_
    refine g_icmp_ne 110 dX1_prefixed_101 (by decide) ?_ ?_
    · exact gX1_prefixed_p110 _ _ _
    · exact gX1_prefixed_p104 _ _ _
def V.Byt_prefixed_p89  (σ : HS) (x0 : Nat) (x2 : Int32) (s0 : Int32) (s1 : Nat) : Option ((Nat ⊕ Unit) × HS) :=
  ck (tg σ s1 = 2) <| clT (Byt_wholes σ s1 s0) fun _ σ1 =>
  Byt_prefixed_p92 σ1 x0 x2
theorem V.gX1_prefixed_p89 {X : CX}  (σ : HS) (x0 : Nat) (x2 : Int32) (s0 : Int32) (s1 : Nat) : G X RX1 "prefixed" cX1_prefixed 3 none 11 198 (enX enV (cxz X)) 89 [(0, av x0), (2, iv x2)] [iv s0, av s1] σ (Byt_prefixed_p89 σ x0 x2 s0 s1) := by
  unfold Byt_prefixed_p89
  refine g_callVT (fc := fun sς => Byt_wholes sς s1 s0) (ci := 1) (as := [iv s0]) rfl rfl rfl q1482 qs24 q1480 mdX1_146 (ctX1_wholes s1 s0) rfl (Nat.le_of_ble_eq_true rfl) (Nat.le_of_ble_eq_true rfl) (Nat.le_of_ble_eq_true rfl) pu_V (by decide) dX1_prefixed_89 (fun _ σ1 => ?_)
  exact gX1_prefixed_p92 _ _ _
def V.Byt_prefixed_p84  (σ : HS) (x0 : Nat) (x2 : Int32) (s0 : Nat) : Option ((Nat ⊕ Unit) × HS) :=
  Byt_prefixed_p89 σ x0 x2 (2 : Int32) s0
theorem V.gX1_prefixed_p84 {X : CX}  (σ : HS) (x0 : Nat) (x2 : Int32) (s0 : Nat) : G X RX1 "prefixed" cX1_prefixed 3 none 11 198 (enX enV (cxz X)) 84 [(0, av x0), (2, iv x2)] [av s0] σ (Byt_prefixed_p84 σ x0 x2 s0) := by
  unfold Byt_prefixed_p84
  refine g_iconst (v := 2) dX1_prefixed_84 (by decide) ?_
  refine g_goto 89 dX1_prefixed_85 (by decide) ?_
  exact gX1_prefixed_p89 _ _ _ _ _
def V.Byt_prefixed_p53  (σ : HS) (x0 : Nat) (x2 : Int32) : Option ((Nat ⊕ Unit) × HS) :=
  if x2 ≤ (7 : Int32) then (
    Byt_prefixed_p92 σ x0 x2)
  else (
    if x2 = (10 : Int32) then (
      Byt_prefixed_p92 σ x0 x2)
    else (
      if x2 = (11 : Int32) then (
        Byt_prefixed_p92 σ x0 x2)
      else (
        if x2 = (12 : Int32) then (
          Byt_prefixed_p84 σ x0 x2 x0)
        else (
          if x2 = (14 : Int32) then (
            Byt_prefixed_p84 σ x0 x2 x0)
          else (
            Byt_prefixed_p89 σ x0 x2 (1 : Int32) x0)))))
theorem V.gX1_prefixed_p53 {X : CX}  (σ : HS) (x0 : Nat) (x2 : Int32) : G X RX1 "prefixed" cX1_prefixed 3 none 11 198 (enX enV (cxz X)) 53 [(0, av x0), (2, iv x2)] [] σ (Byt_prefixed_p53 σ x0 x2) := by
  unfold Byt_prefixed_p53
  refine g_iload_n 2 1 dX1_prefixed_53 rfl rfl ?_
  refine g_bipush (v := 7) dX1_prefixed_54 (by decide) ?_
  refine g_icmp_le 92 dX1_prefixed_56 (by decide) ?_ ?_
  · exact gX1_prefixed_p92 _ _ _
  · refine g_iload_n 2 1 dX1_prefixed_59 rfl rfl ?_
    refine g_bipush (v := 10) dX1_prefixed_60 (by decide) ?_
    refine g_icmp_eq 92 dX1_prefixed_62 (by decide) ?_ ?_
    · exact gX1_prefixed_p92 _ _ _
    · refine g_iload_n 2 1 dX1_prefixed_65 rfl rfl ?_
      refine g_bipush (v := 11) dX1_prefixed_66 (by decide) ?_
      refine g_icmp_eq 92 dX1_prefixed_68 (by decide) ?_ ?_
      · exact gX1_prefixed_p92 _ _ _
      · refine g_aload_n 0 0 dX1_prefixed_71 rfl rfl ?_
        refine g_iload_n 2 1 dX1_prefixed_72 rfl rfl ?_
        refine g_bipush (v := 12) dX1_prefixed_73 (by decide) ?_
        refine g_icmp_eq 84 dX1_prefixed_75 (by decide) ?_ ?_
        · exact gX1_prefixed_p84 _ _ _ _
        · refine g_iload_n 2 1 dX1_prefixed_78 rfl rfl ?_
          refine g_bipush (v := 14) dX1_prefixed_79 (by decide) ?_
          refine g_icmp_ne 88 dX1_prefixed_81 (by decide) ?_ ?_
          · refine g_iconst (v := 1) dX1_prefixed_88 (by decide) ?_
            exact gX1_prefixed_p89 _ _ _ _ _
          · exact gX1_prefixed_p84 _ _ _ _
def V.Byt_prefixed_p34  (σ : HS) (x0 : Nat) (x1 : Int32) (x2 : Int32) : Option ((Nat ⊕ Unit) × HS) :=
  ck (tg σ x0 = 2) <|
  ck (tg σ (gR σ x0 3) = 3) <|
  if (0 : Int64) ≤ (gJ σ (gR σ x0 3) 20) then (
    Byt_prefixed_p53 σ x0 x2)
  else (
    ck (tg σ x0 = 2) <| clT (Byt_stop σ x0 (11 : Int32) x1) fun _ σ1 =>
    Byt_prefixed_p53 σ1 x0 x2)
theorem V.gX1_prefixed_p34 {X : CX}  (σ : HS) (x0 : Nat) (x1 : Int32) (x2 : Int32) : G X RX1 "prefixed" cX1_prefixed 3 none 11 198 (enX enV (cxz X)) 34 [(0, av x0), (1, iv x1), (2, iv x2)] [] σ (Byt_prefixed_p34 σ x0 x1 x2) := by
  unfold Byt_prefixed_p34
  refine g_aload_n 0 0 dX1_prefixed_34 rfl rfl ?_
  refine g_getR fdX1_16 dX1_prefixed_35 ?_
  refine g_getJ fdX1_142 dX1_prefixed_38 ?_
  refine g_lconst (v := 0) dX1_prefixed_41 (by decide) ?_
  refine g_lcmp_ge 53 dX1_prefixed_42 dX1_prefixed_43 (by decide) ?_ ?_
  · refine G.sub [0, 2] rfl ?_
    exact gX1_prefixed_p53 _ _ _
  · refine g_aload_n 0 0 dX1_prefixed_46 rfl rfl ?_
    refine g_bipush (v := 11) dX1_prefixed_47 (by decide) ?_
    refine g_iload_n 1 1 dX1_prefixed_49 rfl rfl ?_
    refine g_callVT (fc := fun sς => Byt_stop sς x0 (11 : Int32) x1) (ci := 1) (as := [iv (11 : Int32), iv x1]) rfl rfl rfl q1295 qs3 q1293 mdX1_68 (ctX1_stop x0 (11 : Int32) x1) rfl (Nat.le_of_ble_eq_true rfl) (Nat.le_of_ble_eq_true rfl) (Nat.le_of_ble_eq_true rfl) pu_V (by decide) dX1_prefixed_50 (fun _ σ1 => ?_)
    refine G.sub [0, 2] rfl ?_
    exact gX1_prefixed_p53 _ _ _
def V.Byt_prefixed_p22  (σ : HS) (x0 : Nat) (x1 : Int32) (x2 : Int32) : Option ((Nat ⊕ Unit) × HS) :=
  if x2 = (8 : Int32) then (
    Byt_prefixed_p34 σ x0 x1 x2)
  else (
    if x2 = (9 : Int32) then (
      Byt_prefixed_p34 σ x0 x1 x2)
    else (
      Byt_prefixed_p53 σ x0 x2))
theorem V.gX1_prefixed_p22 {X : CX}  (σ : HS) (x0 : Nat) (x1 : Int32) (x2 : Int32) : G X RX1 "prefixed" cX1_prefixed 3 none 11 198 (enX enV (cxz X)) 22 [(0, av x0), (1, iv x1), (2, iv x2)] [] σ (Byt_prefixed_p22 σ x0 x1 x2) := by
  unfold Byt_prefixed_p22
  refine g_iload_n 2 2 dX1_prefixed_22 rfl rfl ?_
  refine g_bipush (v := 8) dX1_prefixed_23 (by decide) ?_
  refine g_icmp_eq 34 dX1_prefixed_25 (by decide) ?_ ?_
  · exact gX1_prefixed_p34 _ _ _ _
  · refine g_iload_n 2 2 dX1_prefixed_28 rfl rfl ?_
    refine g_bipush (v := 9) dX1_prefixed_29 (by decide) ?_
    refine g_icmp_ne 53 dX1_prefixed_31 (by decide) ?_ ?_
    · refine G.sub [0, 2] rfl ?_
      exact gX1_prefixed_p53 _ _ _
    · exact gX1_prefixed_p34 _ _ _ _
def V.Byt_prefixed_p15  (σ : HS) (x0 : Nat) (x1 : Int32) (x2 : Int32) : Option ((Nat ⊕ Unit) × HS) :=
  ck (tg σ x0 = 2) <| clT (Byt_stop σ x0 (10 : Int32) x1) fun _ σ1 =>
  Byt_prefixed_p22 σ1 x0 x1 x2
theorem V.gX1_prefixed_p15 {X : CX}  (σ : HS) (x0 : Nat) (x1 : Int32) (x2 : Int32) : G X RX1 "prefixed" cX1_prefixed 3 none 11 198 (enX enV (cxz X)) 15 [(0, av x0), (1, iv x1), (2, iv x2)] [] σ (Byt_prefixed_p15 σ x0 x1 x2) := by
  unfold Byt_prefixed_p15
  refine g_aload_n 0 0 dX1_prefixed_15 rfl rfl ?_
  refine g_bipush (v := 10) dX1_prefixed_16 (by decide) ?_
  refine g_iload_n 1 1 dX1_prefixed_18 rfl rfl ?_
  refine g_callVT (fc := fun sς => Byt_stop sς x0 (10 : Int32) x1) (ci := 1) (as := [iv (10 : Int32), iv x1]) rfl rfl rfl q1295 qs3 q1293 mdX1_68 (ctX1_stop x0 (10 : Int32) x1) rfl (Nat.le_of_ble_eq_true rfl) (Nat.le_of_ble_eq_true rfl) (Nat.le_of_ble_eq_true rfl) pu_V (by decide) dX1_prefixed_19 (fun _ σ1 => ?_)
  exact gX1_prefixed_p22 _ _ _ _
def V.Byt_prefixed (σ : HS) (x0 : Nat) (x1 : Int32) : Option ((Nat ⊕ Unit) × HS) :=
  ck (tg σ x0 = 2) <| clT (Byt_whole σ x0 ) fun r2 σ1 =>
  if r2 < 0 then (
    Byt_prefixed_p15 σ1 x0 x1 r2)
  else (
    if r2 ≤ (17 : Int32) then (
      Byt_prefixed_p22 σ1 x0 x1 r2)
    else (
      Byt_prefixed_p15 σ1 x0 x1 r2))
theorem V.ctX1_prefixed (x0 : Nat) (x1 : Int32) : Ct yX1_prefixed  cX1_prefixed 3 none 11 198 eXV [av x0, iv x1] (fun σ => Byt_prefixed σ x0 x1) := by
  refine Ct.of (own := RX1) (nm := "prefixed") (desc := "(I)V") rfl (by decide) (Nat.le_of_ble_eq_true rfl) (by decide) (fun X σ => ?_)
  show G X RX1 "prefixed" cX1_prefixed 3 none 11 198 (enX enV (cxz X)) 0 [(0, av x0), (1, iv x1)] [] σ (Byt_prefixed σ x0 x1)
  unfold Byt_prefixed
  refine g_aload_n 0 0 dX1_prefixed_0 rfl rfl ?_
  refine g_callVT (fc := fun sς => Byt_whole sς x0 ) (ci := 1) (as := []) rfl rfl rfl q1365 qs5 q1363 mdX1_91 (ctX1_whole x0 ) rfl (Nat.le_of_ble_eq_true rfl) (Nat.le_of_ble_eq_true rfl) (Nat.le_of_ble_eq_true rfl) pu_I (by decide) dX1_prefixed_1 (fun r2 σ1 => ?_)
  refine g_istore_n 2 dX1_prefixed_4 rfl (by decide) rfl ?_
  refine g_iload_n 2 0 dX1_prefixed_5 rfl rfl ?_
  refine g_if_lt 15 dX1_prefixed_6 (by decide) ?_ ?_
  · refine G.sub [1, 2, 0] rfl ?_
    exact gX1_prefixed_p15 _ _ _ _
  · refine g_iload_n 2 0 dX1_prefixed_9 rfl rfl ?_
    refine g_bipush (v := 17) dX1_prefixed_10 (by decide) ?_
    refine g_icmp_le 22 dX1_prefixed_12 (by decide) ?_ ?_
    · refine G.sub [1, 2, 0] rfl ?_
      exact gX1_prefixed_p22 _ _ _ _
    · refine G.sub [1, 2, 0] rfl ?_
      exact gX1_prefixed_p15 _ _ _ _
theorem V.dX1_other_0 : decode cX1_other 0 = .ok (.iload_n 1, 1) := by decide +kernel
theorem V.dX1_other_1 : decode cX1_other 1 = .ok (.lookupswitch 237 #[(14, 99), (17, 132), (28, 140), (63, 170), (64, 170), (65, 179), (66, 190), (67, 201), (68, 201), (208, 221), (252, 229)], 99) := by decide +kernel
theorem V.dX1_other_100 : decode cX1_other 100 = .ok (.aload_n 0, 1) := by decide +kernel
theorem V.dX1_other_101 : decode cX1_other 101 = .ok (.invokevirtual 91, 3) := by decide +kernel
theorem V.dX1_other_104 : decode cX1_other 104 = .ok (.istore_n 3, 1) := by decide +kernel
theorem V.dX1_other_105 : decode cX1_other 105 = .ok (.iconst 0, 1) := by decide +kernel
theorem V.dX1_other_106 : decode cX1_other 106 = .ok (.istore 4, 2) := by decide +kernel
theorem V.dX1_other_108 : decode cX1_other 108 = .ok (.iload 4, 2) := by decide +kernel
theorem V.dX1_other_110 : decode cX1_other 110 = .ok (.iload_n 3, 1) := by decide +kernel
theorem V.dX1_other_111 : decode cX1_other 111 = .ok (.if_icmp .eq 14, 3) := by decide +kernel
theorem V.dX1_other_114 : decode cX1_other 114 = .ok (.aload_n 0, 1) := by decide +kernel
theorem V.dX1_other_115 : decode cX1_other 115 = .ok (.invokevirtual 91, 3) := by decide +kernel
theorem V.dX1_other_118 : decode cX1_other 118 = .ok (.pop, 1) := by decide +kernel
theorem V.dX1_other_119 : decode cX1_other 119 = .ok (.iinc 4 1, 3) := by decide +kernel
theorem V.dX1_other_122 : decode cX1_other 122 = .ok (.goto (-14), 3) := by decide +kernel
theorem V.dX1_other_125 : decode cX1_other 125 = .ok (.aload_n 0, 1) := by decide +kernel
theorem V.dX1_other_126 : decode cX1_other 126 = .ok (.invokevirtual 91, 3) := by decide +kernel
theorem V.dX1_other_129 : decode cX1_other 129 = .ok (.pop, 1) := by decide +kernel
theorem V.dX1_other_130 : decode cX1_other 130 = .ok (.goto 115, 3) := by decide +kernel
theorem V.dX1_other_133 : decode cX1_other 133 = .ok (.aload_n 0, 1) := by decide +kernel
theorem V.dX1_other_134 : decode cX1_other 134 = .ok (.iconst 2, 1) := by decide +kernel
theorem V.dX1_other_135 : decode cX1_other 135 = .ok (.invokevirtual 146, 3) := by decide +kernel
theorem V.dX1_other_138 : decode cX1_other 138 = .ok (.goto 107, 3) := by decide +kernel
theorem V.dX1_other_141 : decode cX1_other 141 = .ok (.aload_n 0, 1) := by decide +kernel
theorem V.dX1_other_142 : decode cX1_other 142 = .ok (.invokevirtual 91, 3) := by decide +kernel
theorem V.dX1_other_145 : decode cX1_other 145 = .ok (.istore 4, 2) := by decide +kernel
theorem V.dX1_other_147 : decode cX1_other 147 = .ok (.iconst 0, 1) := by decide +kernel
theorem V.dX1_other_148 : decode cX1_other 148 = .ok (.istore 5, 2) := by decide +kernel
theorem V.dX1_other_150 : decode cX1_other 150 = .ok (.iload 5, 2) := by decide +kernel
theorem V.dX1_other_152 : decode cX1_other 152 = .ok (.iload 4, 2) := by decide +kernel
theorem V.dX1_other_154 : decode cX1_other 154 = .ok (.if_icmp .eq 14, 3) := by decide +kernel
theorem V.dX1_other_157 : decode cX1_other 157 = .ok (.aload_n 0, 1) := by decide +kernel
theorem V.dX1_other_158 : decode cX1_other 158 = .ok (.invokevirtual 124, 3) := by decide +kernel
theorem V.dX1_other_161 : decode cX1_other 161 = .ok (.pop, 1) := by decide +kernel
theorem V.dX1_other_162 : decode cX1_other 162 = .ok (.iinc 5 1, 3) := by decide +kernel
theorem V.dX1_other_165 : decode cX1_other 165 = .ok (.goto (-15), 3) := by decide +kernel
theorem V.dX1_other_168 : decode cX1_other 168 = .ok (.goto 77, 3) := by decide +kernel
theorem V.dX1_other_171 : decode cX1_other 171 = .ok (.aload_n 0, 1) := by decide +kernel
theorem V.dX1_other_172 : decode cX1_other 172 = .ok (.iconst 0, 1) := by decide +kernel
theorem V.dX1_other_173 : decode cX1_other 173 = .ok (.invokevirtual 127, 3) := by decide +kernel
theorem V.dX1_other_176 : decode cX1_other 176 = .ok (.pop, 1) := by decide +kernel
theorem V.dX1_other_177 : decode cX1_other 177 = .ok (.goto 68, 3) := by decide +kernel
theorem V.dX1_other_180 : decode cX1_other 180 = .ok (.aload_n 0, 1) := by decide +kernel
theorem V.dX1_other_181 : decode cX1_other 181 = .ok (.bipush 32, 2) := by decide +kernel
theorem V.dX1_other_183 : decode cX1_other 183 = .ok (.iconst 1, 1) := by decide +kernel
theorem V.dX1_other_184 : decode cX1_other 184 = .ok (.invokevirtual 83, 3) := by decide +kernel
theorem V.dX1_other_187 : decode cX1_other 187 = .ok (.pop2, 1) := by decide +kernel
theorem V.dX1_other_188 : decode cX1_other 188 = .ok (.goto 57, 3) := by decide +kernel
theorem V.dX1_other_191 : decode cX1_other 191 = .ok (.aload_n 0, 1) := by decide +kernel
theorem V.dX1_other_192 : decode cX1_other 192 = .ok (.bipush 64, 2) := by decide +kernel
theorem V.dX1_other_194 : decode cX1_other 194 = .ok (.iconst 1, 1) := by decide +kernel
theorem V.dX1_other_195 : decode cX1_other 195 = .ok (.invokevirtual 83, 3) := by decide +kernel
theorem V.dX1_other_198 : decode cX1_other 198 = .ok (.pop2, 1) := by decide +kernel
theorem V.dX1_other_199 : decode cX1_other 199 = .ok (.goto 46, 3) := by decide +kernel
theorem V.dX1_other_202 : decode cX1_other 202 = .ok (.aload_n 0, 1) := by decide +kernel
theorem V.dX1_other_203 : decode cX1_other 203 = .ok (.iload_n 1, 1) := by decide +kernel
theorem V.dX1_other_204 : decode cX1_other 204 = .ok (.bipush 67, 2) := by decide +kernel
theorem V.dX1_other_206 : decode cX1_other 206 = .ok (.if_icmp .ne 7, 3) := by decide +kernel
theorem V.dX1_other_209 : decode cX1_other 209 = .ok (.iconst 4, 1) := by decide +kernel
theorem V.dX1_other_210 : decode cX1_other 210 = .ok (.goto 5, 3) := by decide +kernel
theorem V.dX1_other_213 : decode cX1_other 213 = .ok (.bipush 8, 2) := by decide +kernel
theorem V.dX1_other_215 : decode cX1_other 215 = .ok (.invokevirtual 94, 3) := by decide +kernel
theorem V.dX1_other_218 : decode cX1_other 218 = .ok (.pop, 1) := by decide +kernel
theorem V.dX1_other_219 : decode cX1_other 219 = .ok (.goto 26, 3) := by decide +kernel
theorem V.dX1_other_222 : decode cX1_other 222 = .ok (.aload_n 0, 1) := by decide +kernel
theorem V.dX1_other_223 : decode cX1_other 223 = .ok (.invokevirtual 130, 3) := by decide +kernel
theorem V.dX1_other_226 : decode cX1_other 226 = .ok (.pop, 1) := by decide +kernel
theorem V.dX1_other_227 : decode cX1_other 227 = .ok (.goto 18, 3) := by decide +kernel
theorem V.dX1_other_230 : decode cX1_other 230 = .ok (.aload_n 0, 1) := by decide +kernel
theorem V.dX1_other_231 : decode cX1_other 231 = .ok (.iload_n 2, 1) := by decide +kernel
theorem V.dX1_other_232 : decode cX1_other 232 = .ok (.invokevirtual 154, 3) := by decide +kernel
theorem V.dX1_other_235 : decode cX1_other 235 = .ok (.goto 10, 3) := by decide +kernel
theorem V.dX1_other_238 : decode cX1_other 238 = .ok (.aload_n 0, 1) := by decide +kernel
theorem V.dX1_other_239 : decode cX1_other 239 = .ok (.bipush 10, 2) := by decide +kernel
theorem V.dX1_other_241 : decode cX1_other 241 = .ok (.iload_n 2, 1) := by decide +kernel
theorem V.dX1_other_242 : decode cX1_other 242 = .ok (.invokevirtual 68, 3) := by decide +kernel
theorem V.dX1_other_245 : decode cX1_other 245 = .ok (.return_, 1) := by decide +kernel
theorem V.mdX1_154 : MD RX1 154 yX1_prefixed cX1_prefixed 3 none 1 := ⟨Or.inl q1501, q361, q1504, by decide, by decide, by decide +kernel⟩
/-! ModuleEngine$Bytes.other(II)V -/
def V.Byt_other_p108  : Nat → HS → Nat → Int32 → Int32 → Option ((Nat ⊕ Unit) × HS)
  | 0, _, _, _, _ => none
  | n + 1, σ, x0, x3, x4 =>
    if x4 = x3 then (
      ck (tg σ x0 = 2) <| clT (Byt_whole σ x0 ) fun r2 σ1 =>
      some (.inr (), σ1))
    else (
      ck (tg σ x0 = 2) <| clT (Byt_whole σ x0 ) fun r4 σ3 =>
      bn (x4 + (1 : Int32)) fun y5 =>
      Byt_other_p108 n σ3 x0 x3 y5)
theorem V.gX1_other_p108 {X : CX}  : ∀ (n : Nat) (σ : HS) (x0 : Nat) (x3 : Int32) (x4 : Int32), G X RX1 "other" cX1_other 6 none 12 220 (enX enV (cxz X)) 108 [(0, av x0), (3, iv x3), (4, iv x4)] [] σ (Byt_other_p108 n σ x0 x3 x4)
  | 0, σ, x0, x3, x4 => by rw [Byt_other_p108]; exact G.nul
  | n + 1, σ, x0, x3, x4 => by
    rw [Byt_other_p108]
    refine g_iload 2 dX1_other_108 rfl ?_
    refine g_iload_n 3 1 dX1_other_110 rfl rfl ?_
    refine g_icmp_eq 125 dX1_other_111 (by decide) ?_ ?_
    · refine g_aload_n 0 0 dX1_other_125 rfl rfl ?_
      refine g_callVT (fc := fun sς => Byt_whole sς x0 ) (ci := 1) (as := []) rfl rfl rfl q1365 qs5 q1363 mdX1_91 (ctX1_whole x0 ) rfl (Nat.le_of_ble_eq_true rfl) (Nat.le_of_ble_eq_true rfl) (Nat.le_of_ble_eq_true rfl) pu_I (by decide) dX1_other_126 (fun r2 σ1 => ?_)
      refine g_pop dX1_other_129 rfl ?_
      refine g_goto 245 dX1_other_130 (by decide) ?_
      exact g_return rfl dX1_other_245
    · refine g_aload_n 0 0 dX1_other_114 rfl rfl ?_
      refine g_callVT (fc := fun sς => Byt_whole sς x0 ) (ci := 1) (as := []) rfl rfl rfl q1365 qs5 q1363 mdX1_91 (ctX1_whole x0 ) rfl (Nat.le_of_ble_eq_true rfl) (Nat.le_of_ble_eq_true rfl) (Nat.le_of_ble_eq_true rfl) pu_I (by decide) dX1_other_115 (fun r4 σ3 => ?_)
      refine g_pop dX1_other_118 rfl ?_
      refine g_iincB (w := 1) 2 dX1_other_119 rfl (by decide) (by decide) (fun _ => rfl) (fun y5 => ?_)
      refine g_goto 108 dX1_other_122 (by decide) ?_
      refine G.sub [1, 2, 0] rfl ?_
      exact gX1_other_p108 n _ _ _ _
def V.Byt_other_p150  : Nat → HS → Nat → Int32 → Int32 → Option ((Nat ⊕ Unit) × HS)
  | 0, _, _, _, _ => none
  | n + 1, σ, x0, x4, x5 =>
    if x5 = x4 then (
      some (.inr (), σ))
    else (
      ck (tg σ x0 = 2) <| clT (Byt_valueType σ x0 ) fun r2 σ1 =>
      bn (x5 + (1 : Int32)) fun y3 =>
      Byt_other_p150 n σ1 x0 x4 y3)
theorem V.gX1_other_p150 {X : CX}  : ∀ (n : Nat) (σ : HS) (x0 : Nat) (x4 : Int32) (x5 : Int32), G X RX1 "other" cX1_other 6 none 12 220 (enX enV (cxz X)) 150 [(0, av x0), (4, iv x4), (5, iv x5)] [] σ (Byt_other_p150 n σ x0 x4 x5)
  | 0, σ, x0, x4, x5 => by rw [Byt_other_p150]; exact G.nul
  | n + 1, σ, x0, x4, x5 => by
    rw [Byt_other_p150]
    refine g_iload 2 dX1_other_150 rfl ?_
    refine g_iload 1 dX1_other_152 rfl ?_
    refine g_icmp_eq 168 dX1_other_154 (by decide) ?_ ?_
    · refine g_goto 245 dX1_other_168 (by decide) ?_
      exact g_return rfl dX1_other_245
    · refine g_aload_n 0 0 dX1_other_157 rfl rfl ?_
      refine g_callVT (fc := fun sς => Byt_valueType sς x0 ) (ci := 1) (as := []) rfl rfl rfl q1426 qs14 q1424 mdX1_124 (ctX1_valueType x0 ) rfl (Nat.le_of_ble_eq_true rfl) (Nat.le_of_ble_eq_true rfl) (Nat.le_of_ble_eq_true rfl) pu_I (by decide) dX1_other_158 (fun r2 σ1 => ?_)
      refine g_pop dX1_other_161 rfl ?_
      refine g_iincB (w := 1) 2 dX1_other_162 rfl (by decide) (by decide) (fun _ => rfl) (fun y3 => ?_)
      refine g_goto 150 dX1_other_165 (by decide) ?_
      refine G.sub [1, 2, 0] rfl ?_
      exact gX1_other_p150 n _ _ _ _
def V.Byt_other_p171  (σ : HS) (x0 : Nat) : Option ((Nat ⊕ Unit) × HS) :=
  ck (tg σ x0 = 2) <| clT (Byt_form σ x0 (0 : Int32)) fun r2 σ1 =>
  some (.inr (), σ1)
theorem V.gX1_other_p171 {X : CX}  (σ : HS) (x0 : Nat) : G X RX1 "other" cX1_other 6 none 12 220 (enX enV (cxz X)) 171 [(0, av x0)] [] σ (Byt_other_p171 σ x0) := by
  unfold Byt_other_p171
  refine g_aload_n 0 0 dX1_other_171 rfl rfl ?_
  refine g_iconst (v := 0) dX1_other_172 (by decide) ?_
  refine g_callVT (fc := fun sς => Byt_form sς x0 (0 : Int32)) (ci := 1) (as := [iv (0 : Int32)]) rfl rfl rfl q1444 qs16 q1442 mdX1_127 (ctX1_form x0 (0 : Int32)) rfl (Nat.le_of_ble_eq_true rfl) (Nat.le_of_ble_eq_true rfl) (Nat.le_of_ble_eq_true rfl) pu_I (by decide) dX1_other_173 (fun r2 σ1 => ?_)
  refine g_pop dX1_other_176 rfl ?_
  refine g_goto 245 dX1_other_177 (by decide) ?_
  exact g_return rfl dX1_other_245
def V.Byt_other_p215  (σ : HS) (s0 : Int32) (s1 : Nat) : Option ((Nat ⊕ Unit) × HS) :=
  ck (tg σ s1 = 2) <| clT (Byt_pass σ s1 s0) fun r2 σ1 =>
  some (.inr (), σ1)
theorem V.gX1_other_p215 {X : CX}  (σ : HS) (s0 : Int32) (s1 : Nat) : G X RX1 "other" cX1_other 6 none 12 220 (enX enV (cxz X)) 215 [] [iv s0, av s1] σ (Byt_other_p215 σ s0 s1) := by
  unfold Byt_other_p215
  refine g_callVT (fc := fun sς => Byt_pass sς s1 s0) (ci := 1) (as := [iv s0]) rfl rfl rfl q1394 qs10 q1392 mdX1_94 (ctX1_pass s1 s0) rfl (Nat.le_of_ble_eq_true rfl) (Nat.le_of_ble_eq_true rfl) (Nat.le_of_ble_eq_true rfl) pu_I (by decide) dX1_other_215 (fun r2 σ1 => ?_)
  refine g_pop dX1_other_218 rfl ?_
  refine g_goto 245 dX1_other_219 (by decide) ?_
  exact g_return rfl dX1_other_245
def V.Byt_other_p202  (σ : HS) (x0 : Nat) (x1 : Int32) : Option ((Nat ⊕ Unit) × HS) :=
  if x1 = (67 : Int32) then (
    Byt_other_p215 σ (4 : Int32) x0)
  else (
    Byt_other_p215 σ (8 : Int32) x0)
theorem V.gX1_other_p202 {X : CX}  (σ : HS) (x0 : Nat) (x1 : Int32) : G X RX1 "other" cX1_other 6 none 12 220 (enX enV (cxz X)) 202 [(0, av x0), (1, iv x1)] [] σ (Byt_other_p202 σ x0 x1) := by
  unfold Byt_other_p202
  refine g_aload_n 0 0 dX1_other_202 rfl rfl ?_
  refine g_iload_n 1 1 dX1_other_203 rfl rfl ?_
  refine g_bipush (v := 67) dX1_other_204 (by decide) ?_
  refine g_icmp_ne 213 dX1_other_206 (by decide) ?_ ?_
  · refine g_bipush (v := 8) dX1_other_213 (by decide) ?_
    refine G.sub [] rfl ?_
    exact gX1_other_p215 _ _ _
  · refine g_iconst (v := 4) dX1_other_209 (by decide) ?_
    refine g_goto 215 dX1_other_210 (by decide) ?_
    refine G.sub [] rfl ?_
    exact gX1_other_p215 _ _ _
def V.Byt_other (σ : HS) (x0 : Nat) (x1 : Int32) (x2 : Int32) : Option ((Nat ⊕ Unit) × HS) :=
  swx x1 [
    (14, (
      ck (tg σ x0 = 2) <| clT (Byt_whole σ x0 ) fun r2 σ1 =>
      Byt_other_p108 FU σ1 x0 r2 (0 : Int32))),
    (17, (
      ck (tg σ x0 = 2) <| clT (Byt_wholes σ x0 (2 : Int32)) fun _ σ3 =>
      some (.inr (), σ3))),
    (28, (
      ck (tg σ x0 = 2) <| clT (Byt_whole σ x0 ) fun r5 σ4 =>
      Byt_other_p150 FU σ4 x0 r5 (0 : Int32))),
    (63, (
      Byt_other_p171 σ x0)),
    (64, (
      Byt_other_p171 σ x0)),
    (65, (
      ck (tg σ x0 = 2) <| clT (Byt_number σ x0 (32 : Int32) (1 : Int32)) fun r7 σ6 =>
      some (.inr (), σ6))),
    (66, (
      ck (tg σ x0 = 2) <| clT (Byt_number σ x0 (64 : Int32) (1 : Int32)) fun r9 σ8 =>
      some (.inr (), σ8))),
    (67, (
      Byt_other_p202 σ x0 x1)),
    (68, (
      Byt_other_p202 σ x0 x1)),
    (208, (
      ck (tg σ x0 = 2) <| clT (Byt_referenceType σ x0 ) fun r11 σ10 =>
      some (.inr (), σ10))),
    (252, (
      ck (tg σ x0 = 2) <| clT (Byt_prefixed σ x0 x2) fun _ σ12 =>
      some (.inr (), σ12)))
    ] (
    ck (tg σ x0 = 2) <| clT (Byt_stop σ x0 (10 : Int32) x2) fun _ σ13 =>
    some (.inr (), σ13))
theorem V.ctX1_other (x0 : Nat) (x1 : Int32) (x2 : Int32) : Ct yX1_other  cX1_other 6 none 12 220 eXV [av x0, iv x1, iv x2] (fun σ => Byt_other σ x0 x1 x2) := by
  refine Ct.of (own := RX1) (nm := "other") (desc := "(II)V") rfl (by decide) (Nat.le_of_ble_eq_true rfl) (by decide) (fun X σ => ?_)
  show G X RX1 "other" cX1_other 6 none 12 220 (enX enV (cxz X)) 0 [(0, av x0), (1, iv x1), (2, iv x2)] [] σ (Byt_other σ x0 x1 x2)
  unfold Byt_other
  refine g_iload_n 1 1 dX1_other_0 rfl rfl ?_
  refine g_lsw dX1_other_1 (by decide +kernel) ?_
  refine g_case ex0 (t := 100) (by decide +kernel) ?_ (fun hx => ?_)
  · refine g_aload_n 0 0 dX1_other_100 rfl rfl ?_
    refine g_callVT (fc := fun sς => Byt_whole sς x0 ) (ci := 1) (as := []) rfl rfl rfl q1365 qs5 q1363 mdX1_91 (ctX1_whole x0 ) rfl (Nat.le_of_ble_eq_true rfl) (Nat.le_of_ble_eq_true rfl) (Nat.le_of_ble_eq_true rfl) pu_I (by decide) dX1_other_101 (fun r2 σ1 => ?_)
    refine g_istore_n 3 dX1_other_104 rfl (by decide) rfl ?_
    refine g_iconst (v := 0) dX1_other_105 (by decide) ?_
    refine g_istore dX1_other_106 (by decide) rfl ?_
    refine G.sub [2, 1, 0] rfl ?_
    exact gX1_other_p108 FU _ _ _ _
  refine g_case hx (t := 133) (by decide +kernel) ?_ (fun hx => ?_)
  · refine g_aload_n 0 0 dX1_other_133 rfl rfl ?_
    refine g_iconst (v := 2) dX1_other_134 (by decide) ?_
    refine g_callVT (fc := fun sς => Byt_wholes sς x0 (2 : Int32)) (ci := 1) (as := [iv (2 : Int32)]) rfl rfl rfl q1482 qs24 q1480 mdX1_146 (ctX1_wholes x0 (2 : Int32)) rfl (Nat.le_of_ble_eq_true rfl) (Nat.le_of_ble_eq_true rfl) (Nat.le_of_ble_eq_true rfl) pu_V (by decide) dX1_other_135 (fun _ σ3 => ?_)
    refine g_goto 245 dX1_other_138 (by decide) ?_
    exact g_return rfl dX1_other_245
  refine g_case hx (t := 141) (by decide +kernel) ?_ (fun hx => ?_)
  · refine g_aload_n 0 0 dX1_other_141 rfl rfl ?_
    refine g_callVT (fc := fun sς => Byt_whole sς x0 ) (ci := 1) (as := []) rfl rfl rfl q1365 qs5 q1363 mdX1_91 (ctX1_whole x0 ) rfl (Nat.le_of_ble_eq_true rfl) (Nat.le_of_ble_eq_true rfl) (Nat.le_of_ble_eq_true rfl) pu_I (by decide) dX1_other_142 (fun r5 σ4 => ?_)
    refine g_istore dX1_other_145 (by decide) rfl ?_
    refine g_iconst (v := 0) dX1_other_147 (by decide) ?_
    refine g_istore dX1_other_148 (by decide) rfl ?_
    refine G.sub [2, 1, 0] rfl ?_
    exact gX1_other_p150 FU _ _ _ _
  refine g_case hx (t := 171) (by decide +kernel) ?_ (fun hx => ?_)
  · refine G.sub [0] rfl ?_
    exact gX1_other_p171 _ _
  refine g_case hx (t := 171) (by decide +kernel) ?_ (fun hx => ?_)
  · refine G.sub [0] rfl ?_
    exact gX1_other_p171 _ _
  refine g_case hx (t := 180) (by decide +kernel) ?_ (fun hx => ?_)
  · refine g_aload_n 0 0 dX1_other_180 rfl rfl ?_
    refine g_bipush (v := 32) dX1_other_181 (by decide) ?_
    refine g_iconst (v := 1) dX1_other_183 (by decide) ?_
    refine g_callVT (fc := fun sς => Byt_number sς x0 (32 : Int32) (1 : Int32)) (ci := 1) (as := [iv (32 : Int32), iv (1 : Int32)]) rfl rfl rfl q1369 qs6 q1367 mdX1_83 (ctX1_number x0 (32 : Int32) (1 : Int32)) rfl (Nat.le_of_ble_eq_true rfl) (Nat.le_of_ble_eq_true rfl) (Nat.le_of_ble_eq_true rfl) pu_J (by decide) dX1_other_184 (fun r7 σ6 => ?_)
    refine g_pop2_2 dX1_other_187 rfl ?_
    refine g_goto 245 dX1_other_188 (by decide) ?_
    exact g_return rfl dX1_other_245
  refine g_case hx (t := 191) (by decide +kernel) ?_ (fun hx => ?_)
  · refine g_aload_n 0 0 dX1_other_191 rfl rfl ?_
    refine g_bipush (v := 64) dX1_other_192 (by decide) ?_
    refine g_iconst (v := 1) dX1_other_194 (by decide) ?_
    refine g_callVT (fc := fun sς => Byt_number sς x0 (64 : Int32) (1 : Int32)) (ci := 1) (as := [iv (64 : Int32), iv (1 : Int32)]) rfl rfl rfl q1369 qs6 q1367 mdX1_83 (ctX1_number x0 (64 : Int32) (1 : Int32)) rfl (Nat.le_of_ble_eq_true rfl) (Nat.le_of_ble_eq_true rfl) (Nat.le_of_ble_eq_true rfl) pu_J (by decide) dX1_other_195 (fun r9 σ8 => ?_)
    refine g_pop2_2 dX1_other_198 rfl ?_
    refine g_goto 245 dX1_other_199 (by decide) ?_
    exact g_return rfl dX1_other_245
  refine g_case hx (t := 202) (by decide +kernel) ?_ (fun hx => ?_)
  · refine G.sub [0, 1] rfl ?_
    exact gX1_other_p202 _ _ _
  refine g_case hx (t := 202) (by decide +kernel) ?_ (fun hx => ?_)
  · refine G.sub [0, 1] rfl ?_
    exact gX1_other_p202 _ _ _
  refine g_case hx (t := 222) (by decide +kernel) ?_ (fun hx => ?_)
  · refine g_aload_n 0 0 dX1_other_222 rfl rfl ?_
    refine g_callVT (fc := fun sς => Byt_referenceType sς x0 ) (ci := 1) (as := []) rfl rfl rfl q1452 qs18 q1450 mdX1_130 (ctX1_referenceType x0 ) rfl (Nat.le_of_ble_eq_true rfl) (Nat.le_of_ble_eq_true rfl) (Nat.le_of_ble_eq_true rfl) pu_I (by decide) dX1_other_223 (fun r11 σ10 => ?_)
    refine g_pop dX1_other_226 rfl ?_
    refine g_goto 245 dX1_other_227 (by decide) ?_
    exact g_return rfl dX1_other_245
  refine g_case hx (t := 230) (by decide +kernel) ?_ (fun hx => ?_)
  · refine g_aload_n 0 0 dX1_other_230 rfl rfl ?_
    refine g_iload_n 2 2 dX1_other_231 rfl rfl ?_
    refine g_callVT (fc := fun sς => Byt_prefixed sς x0 x2) (ci := 1) (as := [iv x2]) rfl rfl rfl q1503 qs29 q1501 mdX1_154 (ctX1_prefixed x0 x2) rfl (Nat.le_of_ble_eq_true rfl) (Nat.le_of_ble_eq_true rfl) (Nat.le_of_ble_eq_true rfl) pu_V (by decide) dX1_other_232 (fun _ σ12 => ?_)
    refine g_goto 245 dX1_other_235 (by decide) ?_
    exact g_return rfl dX1_other_245
  refine g_dflt (t := 238) (lswT_d (by decide +kernel) hx) ?_
  refine g_aload_n 0 0 dX1_other_238 rfl rfl ?_
  refine g_bipush (v := 10) dX1_other_239 (by decide) ?_
  refine g_iload_n 2 2 dX1_other_241 rfl rfl ?_
  refine g_callVT (fc := fun sς => Byt_stop sς x0 (10 : Int32) x2) (ci := 1) (as := [iv (10 : Int32), iv x2]) rfl rfl rfl q1295 qs3 q1293 mdX1_68 (ctX1_stop x0 (10 : Int32) x2) rfl (Nat.le_of_ble_eq_true rfl) (Nat.le_of_ble_eq_true rfl) (Nat.le_of_ble_eq_true rfl) pu_V (by decide) dX1_other_242 (fun _ σ13 => ?_)
  exact g_return rfl dX1_other_245
theorem V.dX1_instruction_0 : decode cX1_instruction 0 = .ok (.aload_n 0, 1) := by decide +kernel
theorem V.dX1_instruction_1 : decode cX1_instruction 1 = .ok (.getfield 56, 3) := by decide +kernel
theorem V.dX1_instruction_4 : decode cX1_instruction 4 = .ok (.istore_n 1, 1) := by decide +kernel
theorem V.dX1_instruction_5 : decode cX1_instruction 5 = .ok (.aload_n 0, 1) := by decide +kernel
theorem V.dX1_instruction_6 : decode cX1_instruction 6 = .ok (.invokevirtual 73, 3) := by decide +kernel
theorem V.dX1_instruction_9 : decode cX1_instruction 9 = .ok (.istore_n 2, 1) := by decide +kernel
theorem V.dX1_instruction_10 : decode cX1_instruction 10 = .ok (.iload_n 2, 1) := by decide +kernel
theorem V.dX1_instruction_11 : decode cX1_instruction 11 = .ok (.invokestatic 157, 3) := by decide +kernel
theorem V.dX1_instruction_14 : decode cX1_instruction 14 = .ok (.ifCond .eq 4, 3) := by decide +kernel
theorem V.dX1_instruction_17 : decode cX1_instruction 17 = .ok (.return_, 1) := by decide +kernel
theorem V.dX1_instruction_18 : decode cX1_instruction 18 = .ok (.iload_n 2, 1) := by decide +kernel
theorem V.dX1_instruction_19 : decode cX1_instruction 19 = .ok (.invokestatic 160, 3) := by decide +kernel
theorem V.dX1_instruction_22 : decode cX1_instruction 22 = .ok (.ifCond .eq 11, 3) := by decide +kernel
theorem V.dX1_instruction_25 : decode cX1_instruction 25 = .ok (.aload_n 0, 1) := by decide +kernel
theorem V.dX1_instruction_26 : decode cX1_instruction 26 = .ok (.invokevirtual 91, 3) := by decide +kernel
theorem V.dX1_instruction_29 : decode cX1_instruction 29 = .ok (.pop, 1) := by decide +kernel
theorem V.dX1_instruction_30 : decode cX1_instruction 30 = .ok (.goto 99, 3) := by decide +kernel
theorem V.dX1_instruction_33 : decode cX1_instruction 33 = .ok (.iload_n 2, 1) := by decide +kernel
theorem V.dX1_instruction_34 : decode cX1_instruction 34 = .ok (.bipush 39, 2) := by decide +kernel
theorem V.dX1_instruction_36 : decode cX1_instruction 36 = .ok (.if_icmp .le 17, 3) := by decide +kernel
theorem V.dX1_instruction_39 : decode cX1_instruction 39 = .ok (.iload_n 2, 1) := by decide +kernel
theorem V.dX1_instruction_40 : decode cX1_instruction 40 = .ok (.bipush 63, 2) := by decide +kernel
theorem V.dX1_instruction_42 : decode cX1_instruction 42 = .ok (.if_icmp .ge 11, 3) := by decide +kernel
theorem V.dX1_instruction_45 : decode cX1_instruction 45 = .ok (.aload_n 0, 1) := by decide +kernel
theorem V.dX1_instruction_46 : decode cX1_instruction 46 = .ok (.iconst 2, 1) := by decide +kernel
theorem V.dX1_instruction_47 : decode cX1_instruction 47 = .ok (.invokevirtual 146, 3) := by decide +kernel
theorem V.dX1_instruction_50 : decode cX1_instruction 50 = .ok (.goto 79, 3) := by decide +kernel
theorem V.dX1_instruction_53 : decode cX1_instruction 53 = .ok (.iload_n 2, 1) := by decide +kernel
theorem V.dX1_instruction_54 : decode cX1_instruction 54 = .ok (.iconst 2, 1) := by decide +kernel
theorem V.dX1_instruction_55 : decode cX1_instruction 55 = .ok (.if_icmp .eq 13, 3) := by decide +kernel
theorem V.dX1_instruction_58 : decode cX1_instruction 58 = .ok (.iload_n 2, 1) := by decide +kernel
theorem V.dX1_instruction_59 : decode cX1_instruction 59 = .ok (.iconst 3, 1) := by decide +kernel
theorem V.dX1_instruction_60 : decode cX1_instruction 60 = .ok (.if_icmp .eq 8, 3) := by decide +kernel
theorem V.dX1_instruction_63 : decode cX1_instruction 63 = .ok (.iload_n 2, 1) := by decide +kernel
theorem V.dX1_instruction_64 : decode cX1_instruction 64 = .ok (.iconst 4, 1) := by decide +kernel
theorem V.dX1_instruction_65 : decode cX1_instruction 65 = .ok (.if_icmp .ne 20, 3) := by decide +kernel
theorem V.dX1_instruction_68 : decode cX1_instruction 68 = .ok (.aload_n 0, 1) := by decide +kernel
theorem V.dX1_instruction_69 : decode cX1_instruction 69 = .ok (.iload_n 2, 1) := by decide +kernel
theorem V.dX1_instruction_70 : decode cX1_instruction 70 = .ok (.iconst 4, 1) := by decide +kernel
theorem V.dX1_instruction_71 : decode cX1_instruction 71 = .ok (.if_icmp .ne 7, 3) := by decide +kernel
theorem V.dX1_instruction_74 : decode cX1_instruction 74 = .ok (.iconst 1, 1) := by decide +kernel
theorem V.dX1_instruction_75 : decode cX1_instruction 75 = .ok (.goto 4, 3) := by decide +kernel
theorem V.dX1_instruction_78 : decode cX1_instruction 78 = .ok (.iconst 0, 1) := by decide +kernel
theorem V.dX1_instruction_79 : decode cX1_instruction 79 = .ok (.invokevirtual 163, 3) := by decide +kernel
theorem V.dX1_instruction_82 : decode cX1_instruction 82 = .ok (.goto 47, 3) := by decide +kernel
theorem V.dX1_instruction_85 : decode cX1_instruction 85 = .ok (.iload_n 2, 1) := by decide +kernel
theorem V.dX1_instruction_86 : decode cX1_instruction 86 = .ok (.iconst 5, 1) := by decide +kernel
theorem V.dX1_instruction_87 : decode cX1_instruction 87 = .ok (.if_icmp .ne 11, 3) := by decide +kernel
theorem V.dX1_instruction_90 : decode cX1_instruction 90 = .ok (.aload_n 0, 1) := by decide +kernel
theorem V.dX1_instruction_91 : decode cX1_instruction 91 = .ok (.iload_n 1, 1) := by decide +kernel
theorem V.dX1_instruction_92 : decode cX1_instruction 92 = .ok (.invokevirtual 167, 3) := by decide +kernel
theorem V.dX1_instruction_95 : decode cX1_instruction 95 = .ok (.goto 34, 3) := by decide +kernel
theorem V.dX1_instruction_98 : decode cX1_instruction 98 = .ok (.iload_n 2, 1) := by decide +kernel
theorem V.dX1_instruction_99 : decode cX1_instruction 99 = .ok (.bipush 11, 2) := by decide +kernel
theorem V.dX1_instruction_101 : decode cX1_instruction 101 = .ok (.if_icmp .ne 22, 3) := by decide +kernel
theorem V.dX1_instruction_104 : decode cX1_instruction 104 = .ok (.aload_n 0, 1) := by decide +kernel
theorem V.dX1_instruction_105 : decode cX1_instruction 105 = .ok (.getfield 27, 3) := by decide +kernel
theorem V.dX1_instruction_108 : decode cX1_instruction 108 = .ok (.aload_n 0, 1) := by decide +kernel
theorem V.dX1_instruction_109 : decode cX1_instruction 109 = .ok (.getfield 27, 3) := by decide +kernel
theorem V.dX1_instruction_112 : decode cX1_instruction 112 = .ok (.invokevirtual 122, 3) := by decide +kernel
theorem V.dX1_instruction_115 : decode cX1_instruction 115 = .ok (.iconst 1, 1) := by decide +kernel
theorem V.dX1_instruction_116 : decode cX1_instruction 116 = .ok (.isub, 1) := by decide +kernel
theorem V.dX1_instruction_117 : decode cX1_instruction 117 = .ok (.invokevirtual 170, 3) := by decide +kernel
theorem V.dX1_instruction_120 : decode cX1_instruction 120 = .ok (.goto 9, 3) := by decide +kernel
theorem V.dX1_instruction_123 : decode cX1_instruction 123 = .ok (.aload_n 0, 1) := by decide +kernel
theorem V.dX1_instruction_124 : decode cX1_instruction 124 = .ok (.iload_n 2, 1) := by decide +kernel
theorem V.dX1_instruction_125 : decode cX1_instruction 125 = .ok (.iload_n 1, 1) := by decide +kernel
theorem V.dX1_instruction_126 : decode cX1_instruction 126 = .ok (.invokevirtual 173, 3) := by decide +kernel
theorem V.dX1_instruction_129 : decode cX1_instruction 129 = .ok (.return_, 1) := by decide +kernel
theorem V.mdX1_157 : MD RX1 157 yX1_isAlone cX1_isAlone 1 (some .boolean) 1 := ⟨Or.inl q1474, q361, q1476, by decide, by decide, by decide +kernel⟩
theorem V.mdX1_160 : MD RX1 160 yX1_hasWhole cX1_hasWhole 1 (some .boolean) 1 := ⟨Or.inl q1477, q361, q1479, by decide, by decide, by decide +kernel⟩
theorem V.mdX1_173 : MD RX1 173 yX1_other cX1_other 6 none 2 := ⟨Or.inl q1497, q361, q1500, by decide, by decide, by decide +kernel⟩
theorem V.mdX1_167 : MD RX1 167 yX1_elseHere cX1_elseHere 3 none 1 := ⟨Or.inl q1493, q361, q1496, by decide, by decide, by decide +kernel⟩
theorem V.mdX1_163 : MD RX1 163 yX1_open cX1_open 2 none 1 := ⟨Or.inl q1484, q361, q1487, by decide, by decide, by decide +kernel⟩
/-! ModuleEngine$Bytes.instruction()V -/
def V.Byt_instruction_p79  (σ : HS) (s0 : Int32) (s1 : Nat) : Option ((Nat ⊕ Unit) × HS) :=
  ck (tg σ s1 = 2) <| clT (Byt_open σ s1 s0) fun _ σ1 =>
  some (.inr (), σ1)
theorem V.gX1_instruction_p79 {X : CX}  (σ : HS) (s0 : Int32) (s1 : Nat) : G X RX1 "instruction" cX1_instruction 3 none 13 245 (enX enV (cxz X)) 79 [] [iv s0, av s1] σ (Byt_instruction_p79 σ s0 s1) := by
  unfold Byt_instruction_p79
  refine g_callVT (fc := fun sς => Byt_open sς s1 s0) (ci := 1) (as := [iv s0]) rfl rfl rfl q1486 qs25 q1484 mdX1_163 (ctX1_open s1 s0) rfl (Nat.le_of_ble_eq_true rfl) (Nat.le_of_ble_eq_true rfl) (Nat.le_of_ble_eq_true rfl) pu_V (by decide) dX1_instruction_79 (fun _ σ1 => ?_)
  refine g_goto 129 dX1_instruction_82 (by decide) ?_
  exact g_return rfl dX1_instruction_129
def V.Byt_instruction_p68  (σ : HS) (x0 : Nat) (x2 : Int32) : Option ((Nat ⊕ Unit) × HS) :=
  if x2 = (4 : Int32) then (
    Byt_instruction_p79 σ (1 : Int32) x0)
  else (
    Byt_instruction_p79 σ (0 : Int32) x0)
theorem V.gX1_instruction_p68 {X : CX}  (σ : HS) (x0 : Nat) (x2 : Int32) : G X RX1 "instruction" cX1_instruction 3 none 13 245 (enX enV (cxz X)) 68 [(0, av x0), (2, iv x2)] [] σ (Byt_instruction_p68 σ x0 x2) := by
  unfold Byt_instruction_p68
  refine g_aload_n 0 0 dX1_instruction_68 rfl rfl ?_
  refine g_iload_n 2 1 dX1_instruction_69 rfl rfl ?_
  refine g_iconst (v := 4) dX1_instruction_70 (by decide) ?_
  refine g_icmp_ne 78 dX1_instruction_71 (by decide) ?_ ?_
  · refine g_iconst (v := 0) dX1_instruction_78 (by decide) ?_
    refine G.sub [] rfl ?_
    exact gX1_instruction_p79 _ _ _
  · refine g_iconst (v := 1) dX1_instruction_74 (by decide) ?_
    refine g_goto 79 dX1_instruction_75 (by decide) ?_
    refine G.sub [] rfl ?_
    exact gX1_instruction_p79 _ _ _
def V.Byt_instruction_p53  (σ : HS) (x0 : Nat) (x1 : Int32) (x2 : Int32) : Option ((Nat ⊕ Unit) × HS) :=
  if x2 = (2 : Int32) then (
    Byt_instruction_p68 σ x0 x2)
  else (
    if x2 = (3 : Int32) then (
      Byt_instruction_p68 σ x0 x2)
    else (
      if x2 = (4 : Int32) then (
        Byt_instruction_p68 σ x0 x2)
      else (
        if x2 = (5 : Int32) then (
          ck (tg σ x0 = 2) <| clT (Byt_elseHere σ x0 x1) fun _ σ5 =>
          some (.inr (), σ5))
        else (
          if x2 = (11 : Int32) then (
            ck (tg σ x0 = 2) <|
            ck (tg σ x0 = 2) <|
            ck (tg σ (gR σ x0 8) = 4) <| cl (Row_size σ (gR σ x0 8) ) fun r3 σ2 =>
            ck (tg σ2 (gR σ x0 8) = 4) <| cl (Row_cut σ2 (gR σ x0 8) (r3 - (1 : Int32))) fun _ σ4 =>
            some (.inr (), σ4))
          else (
            ck (tg σ x0 = 2) <| clT (Byt_other σ x0 x2 x1) fun _ σ1 =>
            some (.inr (), σ1))))))
theorem V.gX1_instruction_p53 {X : CX}  (σ : HS) (x0 : Nat) (x1 : Int32) (x2 : Int32) : G X RX1 "instruction" cX1_instruction 3 none 13 245 (enX enV (cxz X)) 53 [(0, av x0), (1, iv x1), (2, iv x2)] [] σ (Byt_instruction_p53 σ x0 x1 x2) := by
  unfold Byt_instruction_p53
  refine g_iload_n 2 2 dX1_instruction_53 rfl rfl ?_
  refine g_iconst (v := 2) dX1_instruction_54 (by decide) ?_
  refine g_icmp_eq 68 dX1_instruction_55 (by decide) ?_ ?_
  · refine G.sub [0, 2] rfl ?_
    exact gX1_instruction_p68 _ _ _
  · refine g_iload_n 2 2 dX1_instruction_58 rfl rfl ?_
    refine g_iconst (v := 3) dX1_instruction_59 (by decide) ?_
    refine g_icmp_eq 68 dX1_instruction_60 (by decide) ?_ ?_
    · refine G.sub [0, 2] rfl ?_
      exact gX1_instruction_p68 _ _ _
    · refine g_iload_n 2 2 dX1_instruction_63 rfl rfl ?_
      refine g_iconst (v := 4) dX1_instruction_64 (by decide) ?_
      refine g_icmp_ne 85 dX1_instruction_65 (by decide) ?_ ?_
      · refine g_iload_n 2 2 dX1_instruction_85 rfl rfl ?_
        refine g_iconst (v := 5) dX1_instruction_86 (by decide) ?_
        refine g_icmp_ne 98 dX1_instruction_87 (by decide) ?_ ?_
        · refine g_iload_n 2 2 dX1_instruction_98 rfl rfl ?_
          refine g_bipush (v := 11) dX1_instruction_99 (by decide) ?_
          refine g_icmp_ne 123 dX1_instruction_101 (by decide) ?_ ?_
          · refine g_aload_n 0 0 dX1_instruction_123 rfl rfl ?_
            refine g_iload_n 2 2 dX1_instruction_124 rfl rfl ?_
            refine g_iload_n 1 1 dX1_instruction_125 rfl rfl ?_
            refine g_callVT (fc := fun sς => Byt_other sς x0 x2 x1) (ci := 1) (as := [iv x2, iv x1]) rfl rfl rfl q1499 qs28 q1497 mdX1_173 (ctX1_other x0 x2 x1) rfl (Nat.le_of_ble_eq_true rfl) (Nat.le_of_ble_eq_true rfl) (Nat.le_of_ble_eq_true rfl) pu_V (by decide) dX1_instruction_126 (fun _ σ1 => ?_)
            exact g_return rfl dX1_instruction_129
          · refine g_aload_n 0 0 dX1_instruction_104 rfl rfl ?_
            refine g_getR fdX1_27 dX1_instruction_105 ?_
            refine g_aload_n 0 0 dX1_instruction_108 rfl rfl ?_
            refine g_getR fdX1_27 dX1_instruction_109 ?_
            refine g_callV (fc := fun sς => Row_size sς (gR σ x0 8) ) (ci := 3) (as := []) rfl rfl rfl q1421 q1422 mdX1_122 (ctX3_size (gR σ x0 8) ) rfl (Nat.le_of_ble_eq_true rfl) (Nat.le_of_ble_eq_true rfl) (Nat.le_of_ble_eq_true rfl) pu_I dX1_instruction_112 (fun r3 σ2 => ?_)
            refine g_iconst (v := 1) dX1_instruction_115 (by decide) ?_
            refine g_isub dX1_instruction_116 ?_
            refine g_callV (fc := fun sς => Row_cut sς (gR σ x0 8) (r3 - (1 : Int32))) (ci := 3) (as := [iv (r3 - (1 : Int32))]) rfl rfl rfl q1281 q1282 mdX1_170 (ctX3_cut (gR σ x0 8) (r3 - (1 : Int32))) rfl (Nat.le_of_ble_eq_true rfl) (Nat.le_of_ble_eq_true rfl) (Nat.le_of_ble_eq_true rfl) pu_V dX1_instruction_117 (fun _ σ4 => ?_)
            refine g_goto 129 dX1_instruction_120 (by decide) ?_
            exact g_return rfl dX1_instruction_129
        · refine g_aload_n 0 0 dX1_instruction_90 rfl rfl ?_
          refine g_iload_n 1 1 dX1_instruction_91 rfl rfl ?_
          refine g_callVT (fc := fun sς => Byt_elseHere sς x0 x1) (ci := 1) (as := [iv x1]) rfl rfl rfl q1495 qs27 q1493 mdX1_167 (ctX1_elseHere x0 x1) rfl (Nat.le_of_ble_eq_true rfl) (Nat.le_of_ble_eq_true rfl) (Nat.le_of_ble_eq_true rfl) pu_V (by decide) dX1_instruction_92 (fun _ σ5 => ?_)
          refine g_goto 129 dX1_instruction_95 (by decide) ?_
          exact g_return rfl dX1_instruction_129
      · refine G.sub [0, 2] rfl ?_
        exact gX1_instruction_p68 _ _ _
def V.Byt_instruction (σ : HS) (x0 : Nat) : Option ((Nat ⊕ Unit) × HS) :=
  ck (tg σ x0 = 2) <|
  bn (gI σ x0 6) fun y1 =>
  ck (tg σ x0 = 2) <| clT (Byt_take σ x0 ) fun r3 σ2 =>
  cl (Byt_isAlone σ2 r3) fun r5 σ4 =>
  if r5 = 0 then (
    cl (Byt_hasWhole σ4 r3) fun r7 σ6 =>
    if r7 = 0 then (
      if r3 ≤ (39 : Int32) then (
        Byt_instruction_p53 σ6 x0 y1 r3)
      else (
        if (63 : Int32) ≤ r3 then (
          Byt_instruction_p53 σ6 x0 y1 r3)
        else (
          ck (tg σ6 x0 = 2) <| clT (Byt_wholes σ6 x0 (2 : Int32)) fun _ σ8 =>
          some (.inr (), σ8))))
    else (
      ck (tg σ6 x0 = 2) <| clT (Byt_whole σ6 x0 ) fun r10 σ9 =>
      some (.inr (), σ9)))
  else (
    some (.inr (), σ4))
theorem V.ctX1_instruction (x0 : Nat) : Ct yX1_instruction  cX1_instruction 3 none 13 245 eXV [av x0] (fun σ => Byt_instruction σ x0) := by
  refine Ct.of (own := RX1) (nm := "instruction") (desc := "()V") rfl (by decide) (Nat.le_of_ble_eq_true rfl) (by decide) (fun X σ => ?_)
  show G X RX1 "instruction" cX1_instruction 3 none 13 245 (enX enV (cxz X)) 0 [(0, av x0)] [] σ (Byt_instruction σ x0)
  unfold Byt_instruction
  refine g_aload_n 0 0 dX1_instruction_0 rfl rfl ?_
  refine g_getI fdX1_56 dX1_instruction_1 ?_
  refine g_nmI (fun y1 => ?_)
  refine g_istore_n 1 dX1_instruction_4 rfl (by decide) rfl ?_
  refine g_aload_n 0 1 dX1_instruction_5 rfl rfl ?_
  refine g_callVT (fc := fun sς => Byt_take sς x0 ) (ci := 1) (as := []) rfl rfl rfl q1291 qs2 q1289 mdX1_73 (ctX1_take x0 ) rfl (Nat.le_of_ble_eq_true rfl) (Nat.le_of_ble_eq_true rfl) (Nat.le_of_ble_eq_true rfl) pu_I (by decide) dX1_instruction_6 (fun r3 σ2 => ?_)
  refine g_istore_n 2 dX1_instruction_9 rfl (by decide) rfl ?_
  refine g_iload_n 2 0 dX1_instruction_10 rfl rfl ?_
  refine g_callS (fc := fun sς => Byt_isAlone sς r3) (as := [iv r3]) q1475 mdX1_157 (ctX1_isAlone r3) rfl (Nat.le_of_ble_eq_true rfl) (Nat.le_of_ble_eq_true rfl) (Nat.le_of_ble_eq_true rfl) pu_I dX1_instruction_11 (fun r5 σ4 => ?_)
  refine g_if_eq 18 dX1_instruction_14 (by decide) ?_ ?_
  · refine g_iload_n 2 0 dX1_instruction_18 rfl rfl ?_
    refine g_callS (fc := fun sς => Byt_hasWhole sς r3) (as := [iv r3]) q1478 mdX1_160 (ctX1_hasWhole r3) rfl (Nat.le_of_ble_eq_true rfl) (Nat.le_of_ble_eq_true rfl) (Nat.le_of_ble_eq_true rfl) pu_I dX1_instruction_19 (fun r7 σ6 => ?_)
    refine g_if_eq 33 dX1_instruction_22 (by decide) ?_ ?_
    · refine g_iload_n 2 0 dX1_instruction_33 rfl rfl ?_
      refine g_bipush (v := 39) dX1_instruction_34 (by decide) ?_
      refine g_icmp_le 53 dX1_instruction_36 (by decide) ?_ ?_
      · refine G.sub [2, 1, 0] rfl ?_
        exact gX1_instruction_p53 _ _ _ _
      · refine g_iload_n 2 0 dX1_instruction_39 rfl rfl ?_
        refine g_bipush (v := 63) dX1_instruction_40 (by decide) ?_
        refine g_icmp_ge 53 dX1_instruction_42 (by decide) ?_ ?_
        · refine G.sub [2, 1, 0] rfl ?_
          exact gX1_instruction_p53 _ _ _ _
        · refine g_aload_n 0 2 dX1_instruction_45 rfl rfl ?_
          refine g_iconst (v := 2) dX1_instruction_46 (by decide) ?_
          refine g_callVT (fc := fun sς => Byt_wholes sς x0 (2 : Int32)) (ci := 1) (as := [iv (2 : Int32)]) rfl rfl rfl q1482 qs24 q1480 mdX1_146 (ctX1_wholes x0 (2 : Int32)) rfl (Nat.le_of_ble_eq_true rfl) (Nat.le_of_ble_eq_true rfl) (Nat.le_of_ble_eq_true rfl) pu_V (by decide) dX1_instruction_47 (fun _ σ8 => ?_)
          refine g_goto 129 dX1_instruction_50 (by decide) ?_
          exact g_return rfl dX1_instruction_129
    · refine g_aload_n 0 2 dX1_instruction_25 rfl rfl ?_
      refine g_callVT (fc := fun sς => Byt_whole sς x0 ) (ci := 1) (as := []) rfl rfl rfl q1365 qs5 q1363 mdX1_91 (ctX1_whole x0 ) rfl (Nat.le_of_ble_eq_true rfl) (Nat.le_of_ble_eq_true rfl) (Nat.le_of_ble_eq_true rfl) pu_I (by decide) dX1_instruction_26 (fun r10 σ9 => ?_)
      refine g_pop dX1_instruction_29 rfl ?_
      refine g_goto 129 dX1_instruction_30 (by decide) ?_
      exact g_return rfl dX1_instruction_129
  · exact g_return rfl dX1_instruction_17
theorem V.dX1_expression_0 : decode cX1_expression 0 = .ok (.aload_n 1, 1) := by decide +kernel
theorem V.dX1_expression_1 : decode cX1_expression 1 = .ok (.aload_n 0, 1) := by decide +kernel
theorem V.dX1_expression_2 : decode cX1_expression 2 = .ok (.getfield 56, 3) := by decide +kernel
theorem V.dX1_expression_5 : decode cX1_expression 5 = .ok (.invokevirtual 101, 3) := by decide +kernel
theorem V.dX1_expression_8 : decode cX1_expression 8 = .ok (.aload_n 0, 1) := by decide +kernel
theorem V.dX1_expression_9 : decode cX1_expression 9 = .ok (.getfield 27, 3) := by decide +kernel
theorem V.dX1_expression_12 : decode cX1_expression 12 = .ok (.iconst 0, 1) := by decide +kernel
theorem V.dX1_expression_13 : decode cX1_expression 13 = .ok (.invokevirtual 170, 3) := by decide +kernel
theorem V.dX1_expression_16 : decode cX1_expression 16 = .ok (.aload_n 0, 1) := by decide +kernel
theorem V.dX1_expression_17 : decode cX1_expression 17 = .ok (.getfield 27, 3) := by decide +kernel
theorem V.dX1_expression_20 : decode cX1_expression 20 = .ok (.iconst 0, 1) := by decide +kernel
theorem V.dX1_expression_21 : decode cX1_expression 21 = .ok (.invokevirtual 101, 3) := by decide +kernel
theorem V.dX1_expression_24 : decode cX1_expression 24 = .ok (.aload_n 0, 1) := by decide +kernel
theorem V.dX1_expression_25 : decode cX1_expression 25 = .ok (.getfield 27, 3) := by decide +kernel
theorem V.dX1_expression_28 : decode cX1_expression 28 = .ok (.invokevirtual 122, 3) := by decide +kernel
theorem V.dX1_expression_31 : decode cX1_expression 31 = .ok (.ifCond .le 10, 3) := by decide +kernel
theorem V.dX1_expression_34 : decode cX1_expression 34 = .ok (.aload_n 0, 1) := by decide +kernel
theorem V.dX1_expression_35 : decode cX1_expression 35 = .ok (.invokevirtual 176, 3) := by decide +kernel
theorem V.dX1_expression_38 : decode cX1_expression 38 = .ok (.goto (-14), 3) := by decide +kernel
theorem V.dX1_expression_41 : decode cX1_expression 41 = .ok (.aload_n 1, 1) := by decide +kernel
theorem V.dX1_expression_42 : decode cX1_expression 42 = .ok (.aload_n 0, 1) := by decide +kernel
theorem V.dX1_expression_43 : decode cX1_expression 43 = .ok (.getfield 56, 3) := by decide +kernel
theorem V.dX1_expression_46 : decode cX1_expression 46 = .ok (.invokevirtual 101, 3) := by decide +kernel
theorem V.dX1_expression_49 : decode cX1_expression 49 = .ok (.return_, 1) := by decide +kernel
theorem V.mdX1_176 : MD RX1 176 yX1_instruction cX1_instruction 3 none 0 := ⟨Or.inl q1470, q361, q1473, by decide, by decide, by decide +kernel⟩
/-! ModuleEngine$Bytes.expression(LModuleEngine$Row;)V -/
def V.Byt_expression_p24  : Nat → HS → Nat → Nat → Option ((Nat ⊕ Unit) × HS)
  | 0, _, _, _ => none
  | n + 1, σ, x0, x1 =>
    ck (tg σ x0 = 2) <|
    ck (tg σ (gR σ x0 8) = 4) <| cl (Row_size σ (gR σ x0 8) ) fun r2 σ1 =>
    if r2 ≤ 0 then (
      ck (tg σ1 x0 = 2) <|
      ck (tg σ1 x1 = 4) <| cl (Row_add σ1 x1 (gI σ1 x0 6)) fun _ σ3 =>
      some (.inr (), σ3))
    else (
      ck (tg σ1 x0 = 2) <| clT (Byt_instruction σ1 x0 ) fun _ σ4 =>
      Byt_expression_p24 n σ4 x0 x1)
theorem V.gX1_expression_p24 {X : CX}  : ∀ (n : Nat) (σ : HS) (x0 : Nat) (x1 : Nat), G X RX1 "expression" cX1_expression 2 none 14 267 (enX enV (cxz X)) 24 [(0, av x0), (1, av x1)] [] σ (Byt_expression_p24 n σ x0 x1)
  | 0, σ, x0, x1 => by rw [Byt_expression_p24]; exact G.nul
  | n + 1, σ, x0, x1 => by
    rw [Byt_expression_p24]
    refine g_aload_n 0 0 dX1_expression_24 rfl rfl ?_
    refine g_getR fdX1_27 dX1_expression_25 ?_
    refine g_callV (fc := fun sς => Row_size sς (gR σ x0 8) ) (ci := 3) (as := []) rfl rfl rfl q1421 q1422 mdX1_122 (ctX3_size (gR σ x0 8) ) rfl (Nat.le_of_ble_eq_true rfl) (Nat.le_of_ble_eq_true rfl) (Nat.le_of_ble_eq_true rfl) pu_I dX1_expression_28 (fun r2 σ1 => ?_)
    refine g_if_le 41 dX1_expression_31 (by decide) ?_ ?_
    · refine g_aload_n 1 1 dX1_expression_41 rfl rfl ?_
      refine g_aload_n 0 0 dX1_expression_42 rfl rfl ?_
      refine g_getI fdX1_56 dX1_expression_43 ?_
      refine g_callV (fc := fun sς => Row_add sς x1 (gI σ1 x0 6)) (ci := 3) (as := [iv (gI σ1 x0 6)]) rfl rfl rfl q1405 q1406 mdX1_101 (ctX3_add x1 (gI σ1 x0 6)) rfl (Nat.le_of_ble_eq_true rfl) (Nat.le_of_ble_eq_true rfl) (Nat.le_of_ble_eq_true rfl) pu_V dX1_expression_46 (fun _ σ3 => ?_)
      exact g_return rfl dX1_expression_49
    · refine g_aload_n 0 0 dX1_expression_34 rfl rfl ?_
      refine g_callVT (fc := fun sς => Byt_instruction sς x0 ) (ci := 1) (as := []) rfl rfl rfl q1472 qs23 q1470 mdX1_176 (ctX1_instruction x0 ) rfl (Nat.le_of_ble_eq_true rfl) (Nat.le_of_ble_eq_true rfl) (Nat.le_of_ble_eq_true rfl) pu_V (by decide) dX1_expression_35 (fun _ σ4 => ?_)
      refine g_goto 24 dX1_expression_38 (by decide) ?_
      exact gX1_expression_p24 n _ _ _
def V.Byt_expression (σ : HS) (x0 : Nat) (x1 : Nat) : Option ((Nat ⊕ Unit) × HS) :=
  ck (tg σ x0 = 2) <|
  ck (tg σ x1 = 4) <| cl (Row_add σ x1 (gI σ x0 6)) fun _ σ1 =>
  ck (tg σ1 x0 = 2) <|
  ck (tg σ1 (gR σ1 x0 8) = 4) <| cl (Row_cut σ1 (gR σ1 x0 8) (0 : Int32)) fun _ σ2 =>
  ck (tg σ2 x0 = 2) <|
  ck (tg σ2 (gR σ2 x0 8) = 4) <| cl (Row_add σ2 (gR σ2 x0 8) (0 : Int32)) fun _ σ3 =>
  Byt_expression_p24 FU σ3 x0 x1
theorem V.ctX1_expression (x0 : Nat) (x1 : Nat) : Ct yX1_expression  cX1_expression 2 none 14 267 eXV [av x0, av x1] (fun σ => Byt_expression σ x0 x1) := by
  refine Ct.of (own := RX1) (nm := "expression") (desc := "(LModuleEngine$Row;)V") rfl (by decide) (Nat.le_of_ble_eq_true rfl) (by decide) (fun X σ => ?_)
  show G X RX1 "expression" cX1_expression 2 none 14 267 (enX enV (cxz X)) 0 [(0, av x0), (1, av x1)] [] σ (Byt_expression σ x0 x1)
  unfold Byt_expression
  refine g_aload_n 1 1 dX1_expression_0 rfl rfl ?_
  refine g_aload_n 0 0 dX1_expression_1 rfl rfl ?_
  refine g_getI fdX1_56 dX1_expression_2 ?_
  refine g_callV (fc := fun sς => Row_add sς x1 (gI σ x0 6)) (ci := 3) (as := [iv (gI σ x0 6)]) rfl rfl rfl q1405 q1406 mdX1_101 (ctX3_add x1 (gI σ x0 6)) rfl (Nat.le_of_ble_eq_true rfl) (Nat.le_of_ble_eq_true rfl) (Nat.le_of_ble_eq_true rfl) pu_V dX1_expression_5 (fun _ σ1 => ?_)
  refine g_aload_n 0 0 dX1_expression_8 rfl rfl ?_
  refine g_getR fdX1_27 dX1_expression_9 ?_
  refine g_iconst (v := 0) dX1_expression_12 (by decide) ?_
  refine g_callV (fc := fun sς => Row_cut sς (gR σ1 x0 8) (0 : Int32)) (ci := 3) (as := [iv (0 : Int32)]) rfl rfl rfl q1281 q1282 mdX1_170 (ctX3_cut (gR σ1 x0 8) (0 : Int32)) rfl (Nat.le_of_ble_eq_true rfl) (Nat.le_of_ble_eq_true rfl) (Nat.le_of_ble_eq_true rfl) pu_V dX1_expression_13 (fun _ σ2 => ?_)
  refine g_aload_n 0 0 dX1_expression_16 rfl rfl ?_
  refine g_getR fdX1_27 dX1_expression_17 ?_
  refine g_iconst (v := 0) dX1_expression_20 (by decide) ?_
  refine g_callV (fc := fun sς => Row_add sς (gR σ2 x0 8) (0 : Int32)) (ci := 3) (as := [iv (0 : Int32)]) rfl rfl rfl q1405 q1406 mdX1_101 (ctX3_add (gR σ2 x0 8) (0 : Int32)) rfl (Nat.le_of_ble_eq_true rfl) (Nat.le_of_ble_eq_true rfl) (Nat.le_of_ble_eq_true rfl) pu_V dX1_expression_21 (fun _ σ3 => ?_)
  exact gX1_expression_p24 FU _ _ _
theorem V.dX1_export_0 : decode cX1_export 0 = .ok (.aload_n 0, 1) := by decide +kernel
theorem V.dX1_export_1 : decode cX1_export 1 = .ok (.getfield 31, 3) := by decide +kernel
theorem V.dX1_export_4 : decode cX1_export 4 = .ok (.astore_n 1, 1) := by decide +kernel
theorem V.dX1_export_5 : decode cX1_export 5 = .ok (.aload_n 1, 1) := by decide +kernel
theorem V.dX1_export_6 : decode cX1_export 6 = .ok (.iconst 0, 1) := by decide +kernel
theorem V.dX1_export_7 : decode cX1_export 7 = .ok (.invokevirtual 170, 3) := by decide +kernel
theorem V.dX1_export_10 : decode cX1_export 10 = .ok (.aload_n 0, 1) := by decide +kernel
theorem V.dX1_export_11 : decode cX1_export 11 = .ok (.aload_n 1, 1) := by decide +kernel
theorem V.dX1_export_12 : decode cX1_export 12 = .ok (.invokevirtual 182, 3) := by decide +kernel
theorem V.dX1_export_15 : decode cX1_export 15 = .ok (.aload_n 0, 1) := by decide +kernel
theorem V.dX1_export_16 : decode cX1_export 16 = .ok (.getfield 16, 3) := by decide +kernel
theorem V.dX1_export_19 : decode cX1_export 19 = .ok (.getfield 194, 3) := by decide +kernel
theorem V.dX1_export_22 : decode cX1_export 22 = .ok (.aload_n 0, 1) := by decide +kernel
theorem V.dX1_export_23 : decode cX1_export 23 = .ok (.iconst 3, 1) := by decide +kernel
theorem V.dX1_export_24 : decode cX1_export 24 = .ok (.invokevirtual 127, 3) := by decide +kernel
theorem V.dX1_export_27 : decode cX1_export 27 = .ok (.invokevirtual 101, 3) := by decide +kernel
theorem V.dX1_export_30 : decode cX1_export 30 = .ok (.aload_n 0, 1) := by decide +kernel
theorem V.dX1_export_31 : decode cX1_export 31 = .ok (.getfield 16, 3) := by decide +kernel
theorem V.dX1_export_34 : decode cX1_export 34 = .ok (.getfield 194, 3) := by decide +kernel
theorem V.dX1_export_37 : decode cX1_export 37 = .ok (.aload_n 0, 1) := by decide +kernel
theorem V.dX1_export_38 : decode cX1_export 38 = .ok (.invokevirtual 91, 3) := by decide +kernel
theorem V.dX1_export_41 : decode cX1_export 41 = .ok (.invokevirtual 101, 3) := by decide +kernel
theorem V.dX1_export_44 : decode cX1_export 44 = .ok (.aload_n 0, 1) := by decide +kernel
theorem V.dX1_export_45 : decode cX1_export 45 = .ok (.getfield 16, 3) := by decide +kernel
theorem V.dX1_export_48 : decode cX1_export 48 = .ok (.getfield 194, 3) := by decide +kernel
theorem V.dX1_export_51 : decode cX1_export 51 = .ok (.aload_n 1, 1) := by decide +kernel
theorem V.dX1_export_52 : decode cX1_export 52 = .ok (.iconst 0, 1) := by decide +kernel
theorem V.dX1_export_53 : decode cX1_export 53 = .ok (.invokevirtual 149, 3) := by decide +kernel
theorem V.dX1_export_56 : decode cX1_export 56 = .ok (.invokevirtual 101, 3) := by decide +kernel
theorem V.dX1_export_59 : decode cX1_export 59 = .ok (.aload_n 0, 1) := by decide +kernel
theorem V.dX1_export_60 : decode cX1_export 60 = .ok (.getfield 16, 3) := by decide +kernel
theorem V.dX1_export_63 : decode cX1_export 63 = .ok (.getfield 194, 3) := by decide +kernel
theorem V.dX1_export_66 : decode cX1_export 66 = .ok (.aload_n 1, 1) := by decide +kernel
theorem V.dX1_export_67 : decode cX1_export 67 = .ok (.iconst 1, 1) := by decide +kernel
theorem V.dX1_export_68 : decode cX1_export 68 = .ok (.invokevirtual 149, 3) := by decide +kernel
theorem V.dX1_export_71 : decode cX1_export 71 = .ok (.invokevirtual 101, 3) := by decide +kernel
theorem V.dX1_export_74 : decode cX1_export 74 = .ok (.return_, 1) := by decide +kernel
theorem V.fdX1_194 : FD RX1 194 2 8 2 := ⟨(RX2, TX2, 21), tyX2, rfl, rfl, in_X2, by decide, Or.inr ⟨_, q455⟩, rfl⟩
/-! ModuleEngine$Bytes.export()V -/
def V.Byt_export (σ : HS) (x0 : Nat) : Option ((Nat ⊕ Unit) × HS) :=
  ck (tg σ x0 = 2) <|
  bn (gR σ x0 9) fun y1 =>
  ck (tg σ y1 = 4) <| cl (Row_cut σ y1 (0 : Int32)) fun _ σ2 =>
  ck (tg σ2 x0 = 2) <| clT (Byt_text σ2 x0 y1) fun _ σ3 =>
  ck (tg σ3 x0 = 2) <|
  ck (tg σ3 (gR σ3 x0 3) = 3) <|
  ck (tg σ3 x0 = 2) <| clT (Byt_form σ3 x0 (3 : Int32)) fun r5 σ4 =>
  ck (tg σ4 (gR σ3 (gR σ3 x0 3) 8) = 4) <| cl (Row_add σ4 (gR σ3 (gR σ3 x0 3) 8) r5) fun _ σ6 =>
  ck (tg σ6 x0 = 2) <|
  ck (tg σ6 (gR σ6 x0 3) = 3) <|
  ck (tg σ6 x0 = 2) <| clT (Byt_whole σ6 x0 ) fun r8 σ7 =>
  ck (tg σ7 (gR σ6 (gR σ6 x0 3) 8) = 4) <| cl (Row_add σ7 (gR σ6 (gR σ6 x0 3) 8) r8) fun _ σ9 =>
  ck (tg σ9 x0 = 2) <|
  ck (tg σ9 (gR σ9 x0 3) = 3) <|
  ck (tg σ9 y1 = 4) <| cl (Row_at σ9 y1 (0 : Int32)) fun r11 σ10 =>
  ck (tg σ10 (gR σ9 (gR σ9 x0 3) 8) = 4) <| cl (Row_add σ10 (gR σ9 (gR σ9 x0 3) 8) r11) fun _ σ12 =>
  ck (tg σ12 x0 = 2) <|
  ck (tg σ12 (gR σ12 x0 3) = 3) <|
  ck (tg σ12 y1 = 4) <| cl (Row_at σ12 y1 (1 : Int32)) fun r14 σ13 =>
  ck (tg σ13 (gR σ12 (gR σ12 x0 3) 8) = 4) <| cl (Row_add σ13 (gR σ12 (gR σ12 x0 3) 8) r14) fun _ σ15 =>
  some (.inr (), σ15)
theorem V.ctX1_export (x0 : Nat) : Ct yX1_export  cX1_export 2 none 11 201 eXV [av x0] (fun σ => Byt_export σ x0) := by
  refine Ct.of (own := RX1) (nm := "export") (desc := "()V") rfl (by decide) (Nat.le_of_ble_eq_true rfl) (by decide) (fun X σ => ?_)
  show G X RX1 "export" cX1_export 2 none 11 201 (enX enV (cxz X)) 0 [(0, av x0)] [] σ (Byt_export σ x0)
  unfold Byt_export
  refine g_aload_n 0 0 dX1_export_0 rfl rfl ?_
  refine g_getR fdX1_31 dX1_export_1 ?_
  refine g_nmA (fun y1 => ?_)
  refine g_astore_n 1 dX1_export_4 rfl (by decide) rfl ?_
  refine g_aload_n 1 0 dX1_export_5 rfl rfl ?_
  refine g_iconst (v := 0) dX1_export_6 (by decide) ?_
  refine g_callV (fc := fun sς => Row_cut sς y1 (0 : Int32)) (ci := 3) (as := [iv (0 : Int32)]) rfl rfl rfl q1281 q1282 mdX1_170 (ctX3_cut y1 (0 : Int32)) rfl (Nat.le_of_ble_eq_true rfl) (Nat.le_of_ble_eq_true rfl) (Nat.le_of_ble_eq_true rfl) pu_V dX1_export_7 (fun _ σ2 => ?_)
  refine g_aload_n 0 1 dX1_export_10 rfl rfl ?_
  refine g_aload_n 1 0 dX1_export_11 rfl rfl ?_
  refine g_callVT (fc := fun sς => Byt_text sς x0 y1) (ci := 1) (as := [av y1]) rfl rfl rfl q1390 qs9 q1388 mdX1_182 (ctX1_text x0 y1) rfl (Nat.le_of_ble_eq_true rfl) (Nat.le_of_ble_eq_true rfl) (Nat.le_of_ble_eq_true rfl) pu_V (by decide) dX1_export_12 (fun _ σ3 => ?_)
  refine g_aload_n 0 1 dX1_export_15 rfl rfl ?_
  refine g_getR fdX1_16 dX1_export_16 ?_
  refine g_getR fdX1_194 dX1_export_19 ?_
  refine g_aload_n 0 1 dX1_export_22 rfl rfl ?_
  refine g_iconst (v := 3) dX1_export_23 (by decide) ?_
  refine g_callVT (fc := fun sς => Byt_form sς x0 (3 : Int32)) (ci := 1) (as := [iv (3 : Int32)]) rfl rfl rfl q1444 qs16 q1442 mdX1_127 (ctX1_form x0 (3 : Int32)) rfl (Nat.le_of_ble_eq_true rfl) (Nat.le_of_ble_eq_true rfl) (Nat.le_of_ble_eq_true rfl) pu_I (by decide) dX1_export_24 (fun r5 σ4 => ?_)
  refine g_callV (fc := fun sς => Row_add sς (gR σ3 (gR σ3 x0 3) 8) r5) (ci := 3) (as := [iv r5]) rfl rfl rfl q1405 q1406 mdX1_101 (ctX3_add (gR σ3 (gR σ3 x0 3) 8) r5) rfl (Nat.le_of_ble_eq_true rfl) (Nat.le_of_ble_eq_true rfl) (Nat.le_of_ble_eq_true rfl) pu_V dX1_export_27 (fun _ σ6 => ?_)
  refine g_aload_n 0 1 dX1_export_30 rfl rfl ?_
  refine g_getR fdX1_16 dX1_export_31 ?_
  refine g_getR fdX1_194 dX1_export_34 ?_
  refine g_aload_n 0 1 dX1_export_37 rfl rfl ?_
  refine g_callVT (fc := fun sς => Byt_whole sς x0 ) (ci := 1) (as := []) rfl rfl rfl q1365 qs5 q1363 mdX1_91 (ctX1_whole x0 ) rfl (Nat.le_of_ble_eq_true rfl) (Nat.le_of_ble_eq_true rfl) (Nat.le_of_ble_eq_true rfl) pu_I (by decide) dX1_export_38 (fun r8 σ7 => ?_)
  refine g_callV (fc := fun sς => Row_add sς (gR σ6 (gR σ6 x0 3) 8) r8) (ci := 3) (as := [iv r8]) rfl rfl rfl q1405 q1406 mdX1_101 (ctX3_add (gR σ6 (gR σ6 x0 3) 8) r8) rfl (Nat.le_of_ble_eq_true rfl) (Nat.le_of_ble_eq_true rfl) (Nat.le_of_ble_eq_true rfl) pu_V dX1_export_41 (fun _ σ9 => ?_)
  refine g_aload_n 0 1 dX1_export_44 rfl rfl ?_
  refine g_getR fdX1_16 dX1_export_45 ?_
  refine g_getR fdX1_194 dX1_export_48 ?_
  refine g_aload_n 1 0 dX1_export_51 rfl rfl ?_
  refine g_iconst (v := 0) dX1_export_52 (by decide) ?_
  refine g_callV (fc := fun sς => Row_at sς y1 (0 : Int32)) (ci := 3) (as := [iv (0 : Int32)]) rfl rfl rfl q1409 q1410 mdX1_149 (ctX3_at y1 (0 : Int32)) rfl (Nat.le_of_ble_eq_true rfl) (Nat.le_of_ble_eq_true rfl) (Nat.le_of_ble_eq_true rfl) pu_I dX1_export_53 (fun r11 σ10 => ?_)
  refine g_callV (fc := fun sς => Row_add sς (gR σ9 (gR σ9 x0 3) 8) r11) (ci := 3) (as := [iv r11]) rfl rfl rfl q1405 q1406 mdX1_101 (ctX3_add (gR σ9 (gR σ9 x0 3) 8) r11) rfl (Nat.le_of_ble_eq_true rfl) (Nat.le_of_ble_eq_true rfl) (Nat.le_of_ble_eq_true rfl) pu_V dX1_export_56 (fun _ σ12 => ?_)
  refine g_aload_n 0 1 dX1_export_59 rfl rfl ?_
  refine g_getR fdX1_16 dX1_export_60 ?_
  refine g_getR fdX1_194 dX1_export_63 ?_
  refine g_aload_n 1 0 dX1_export_66 rfl rfl ?_
  refine g_iconst (v := 1) dX1_export_67 (by decide) ?_
  refine g_callV (fc := fun sς => Row_at sς y1 (1 : Int32)) (ci := 3) (as := [iv (1 : Int32)]) rfl rfl rfl q1409 q1410 mdX1_149 (ctX3_at y1 (1 : Int32)) rfl (Nat.le_of_ble_eq_true rfl) (Nat.le_of_ble_eq_true rfl) (Nat.le_of_ble_eq_true rfl) pu_I dX1_export_68 (fun r14 σ13 => ?_)
  refine g_callV (fc := fun sς => Row_add sς (gR σ12 (gR σ12 x0 3) 8) r14) (ci := 3) (as := [iv r14]) rfl rfl rfl q1405 q1406 mdX1_101 (ctX3_add (gR σ12 (gR σ12 x0 3) 8) r14) rfl (Nat.le_of_ble_eq_true rfl) (Nat.le_of_ble_eq_true rfl) (Nat.le_of_ble_eq_true rfl) pu_V dX1_export_71 (fun _ σ15 => ?_)
  exact g_return rfl dX1_export_74
theorem V.dX1_small_0 : decode cX1_small 0 = .ok (.aload_n 0, 1) := by decide +kernel
theorem V.dX1_small_1 : decode cX1_small 1 = .ok (.getfield 56, 3) := by decide +kernel
theorem V.dX1_small_4 : decode cX1_small 4 = .ok (.istore_n 2, 1) := by decide +kernel
theorem V.dX1_small_5 : decode cX1_small 5 = .ok (.aload_n 0, 1) := by decide +kernel
theorem V.dX1_small_6 : decode cX1_small 6 = .ok (.invokevirtual 91, 3) := by decide +kernel
theorem V.dX1_small_9 : decode cX1_small 9 = .ok (.istore_n 3, 1) := by decide +kernel
theorem V.dX1_small_10 : decode cX1_small 10 = .ok (.iload_n 3, 1) := by decide +kernel
theorem V.dX1_small_11 : decode cX1_small 11 = .ok (.ifCond .lt 8, 3) := by decide +kernel
theorem V.dX1_small_14 : decode cX1_small 14 = .ok (.iload_n 3, 1) := by decide +kernel
theorem V.dX1_small_15 : decode cX1_small 15 = .ok (.iload_n 1, 1) := by decide +kernel
theorem V.dX1_small_16 : decode cX1_small 16 = .ok (.if_icmp .le 10, 3) := by decide +kernel
theorem V.dX1_small_19 : decode cX1_small 19 = .ok (.aload_n 0, 1) := by decide +kernel
theorem V.dX1_small_20 : decode cX1_small 20 = .ok (.bipush 7, 2) := by decide +kernel
theorem V.dX1_small_22 : decode cX1_small 22 = .ok (.iload_n 2, 1) := by decide +kernel
theorem V.dX1_small_23 : decode cX1_small 23 = .ok (.invokevirtual 68, 3) := by decide +kernel
theorem V.dX1_small_26 : decode cX1_small 26 = .ok (.iload_n 3, 1) := by decide +kernel
theorem V.dX1_small_27 : decode cX1_small 27 = .ok (.ireturn, 1) := by decide +kernel
/-! ModuleEngine$Bytes.small(I)I -/
def V.Byt_small_p19  (σ : HS) (x0 : Nat) (x2 : Int32) (x3 : Int32) : Option ((Nat ⊕ Int32) × HS) :=
  ck (tg σ x0 = 2) <| clT (Byt_stop σ x0 (7 : Int32) x2) fun _ σ1 =>
  some (.inr x3, σ1)
theorem V.gX1_small_p19 {X : CX}  (σ : HS) (x0 : Nat) (x2 : Int32) (x3 : Int32) : G X RX1 "small" cX1_small 4 (some .int) 10 176 (enX enI (cxz X)) 19 [(0, av x0), (2, iv x2), (3, iv x3)] [] σ (Byt_small_p19 σ x0 x2 x3) := by
  unfold Byt_small_p19
  refine g_aload_n 0 0 dX1_small_19 rfl rfl ?_
  refine g_bipush (v := 7) dX1_small_20 (by decide) ?_
  refine g_iload_n 2 1 dX1_small_22 rfl rfl ?_
  refine g_callVT (fc := fun sς => Byt_stop sς x0 (7 : Int32) x2) (ci := 1) (as := [iv (7 : Int32), iv x2]) rfl rfl rfl q1295 qs3 q1293 mdX1_68 (ctX1_stop x0 (7 : Int32) x2) rfl (Nat.le_of_ble_eq_true rfl) (Nat.le_of_ble_eq_true rfl) (Nat.le_of_ble_eq_true rfl) pu_V (by decide) dX1_small_23 (fun _ σ1 => ?_)
  refine g_iload_n 3 2 dX1_small_26 rfl rfl ?_
  exact g_ireturn rfl dX1_small_27
def V.Byt_small (σ : HS) (x0 : Nat) (x1 : Int32) : Option ((Nat ⊕ Int32) × HS) :=
  ck (tg σ x0 = 2) <|
  bn (gI σ x0 6) fun y1 =>
  ck (tg σ x0 = 2) <| clT (Byt_whole σ x0 ) fun r3 σ2 =>
  if r3 < 0 then (
    Byt_small_p19 σ2 x0 y1 r3)
  else (
    if r3 ≤ x1 then (
      some (.inr r3, σ2))
    else (
      Byt_small_p19 σ2 x0 y1 r3))
theorem V.ctX1_small (x0 : Nat) (x1 : Int32) : Ct yX1_small  cX1_small 4 (some .int) 10 176 eXI [av x0, iv x1] (fun σ => Byt_small σ x0 x1) := by
  refine Ct.of (own := RX1) (nm := "small") (desc := "(I)I") rfl (by decide) (Nat.le_of_ble_eq_true rfl) (by decide) (fun X σ => ?_)
  show G X RX1 "small" cX1_small 4 (some .int) 10 176 (enX enI (cxz X)) 0 [(0, av x0), (1, iv x1)] [] σ (Byt_small σ x0 x1)
  unfold Byt_small
  refine g_aload_n 0 0 dX1_small_0 rfl rfl ?_
  refine g_getI fdX1_56 dX1_small_1 ?_
  refine g_nmI (fun y1 => ?_)
  refine g_istore_n 2 dX1_small_4 rfl (by decide) rfl ?_
  refine g_aload_n 0 1 dX1_small_5 rfl rfl ?_
  refine g_callVT (fc := fun sς => Byt_whole sς x0 ) (ci := 1) (as := []) rfl rfl rfl q1365 qs5 q1363 mdX1_91 (ctX1_whole x0 ) rfl (Nat.le_of_ble_eq_true rfl) (Nat.le_of_ble_eq_true rfl) (Nat.le_of_ble_eq_true rfl) pu_I (by decide) dX1_small_6 (fun r3 σ2 => ?_)
  refine g_istore_n 3 dX1_small_9 rfl (by decide) rfl ?_
  refine g_iload_n 3 0 dX1_small_10 rfl rfl ?_
  refine g_if_lt 19 dX1_small_11 (by decide) ?_ ?_
  · refine G.sub [2, 1, 0] rfl ?_
    exact gX1_small_p19 _ _ _ _
  · refine g_iload_n 3 0 dX1_small_14 rfl rfl ?_
    refine g_iload_n 1 3 dX1_small_15 rfl rfl ?_
    refine g_icmp_le 26 dX1_small_16 (by decide) ?_ ?_
    · refine g_iload_n 3 0 dX1_small_26 rfl rfl ?_
      exact g_ireturn rfl dX1_small_27
    · refine G.sub [2, 1, 0] rfl ?_
      exact gX1_small_p19 _ _ _ _
theorem V.dX1_element_0 : decode cX1_element 0 = .ok (.aload_n 0, 1) := by decide +kernel
theorem V.dX1_element_1 : decode cX1_element 1 = .ok (.bipush 7, 2) := by decide +kernel
theorem V.dX1_element_3 : decode cX1_element 3 = .ok (.invokevirtual 197, 3) := by decide +kernel
theorem V.dX1_element_6 : decode cX1_element 6 = .ok (.istore_n 1, 1) := by decide +kernel
theorem V.dX1_element_7 : decode cX1_element 7 = .ok (.iconst 0, 1) := by decide +kernel
theorem V.dX1_element_8 : decode cX1_element 8 = .ok (.istore_n 2, 1) := by decide +kernel
theorem V.dX1_element_9 : decode cX1_element 9 = .ok (.iload_n 1, 1) := by decide +kernel
theorem V.dX1_element_10 : decode cX1_element 10 = .ok (.iconst 1, 1) := by decide +kernel
theorem V.dX1_element_11 : decode cX1_element 11 = .ok (.iand, 1) := by decide +kernel
theorem V.dX1_element_12 : decode cX1_element 12 = .ok (.ifCond .ne 7, 3) := by decide +kernel
theorem V.dX1_element_15 : decode cX1_element 15 = .ok (.iconst 1, 1) := by decide +kernel
theorem V.dX1_element_16 : decode cX1_element 16 = .ok (.goto 4, 3) := by decide +kernel
theorem V.dX1_element_19 : decode cX1_element 19 = .ok (.iconst 0, 1) := by decide +kernel
theorem V.dX1_element_20 : decode cX1_element 20 = .ok (.istore_n 3, 1) := by decide +kernel
theorem V.dX1_element_21 : decode cX1_element 21 = .ok (.iload_n 1, 1) := by decide +kernel
theorem V.dX1_element_22 : decode cX1_element 22 = .ok (.iconst 4, 1) := by decide +kernel
theorem V.dX1_element_23 : decode cX1_element 23 = .ok (.iand, 1) := by decide +kernel
theorem V.dX1_element_24 : decode cX1_element 24 = .ok (.ifCond .eq 7, 3) := by decide +kernel
theorem V.dX1_element_27 : decode cX1_element 27 = .ok (.iconst 1, 1) := by decide +kernel
theorem V.dX1_element_28 : decode cX1_element 28 = .ok (.goto 4, 3) := by decide +kernel
theorem V.dX1_element_31 : decode cX1_element 31 = .ok (.iconst 0, 1) := by decide +kernel
theorem V.dX1_element_32 : decode cX1_element 32 = .ok (.istore 4, 2) := by decide +kernel
theorem V.dX1_element_34 : decode cX1_element 34 = .ok (.aload_n 0, 1) := by decide +kernel
theorem V.dX1_element_35 : decode cX1_element 35 = .ok (.getfield 31, 3) := by decide +kernel
theorem V.dX1_element_38 : decode cX1_element 38 = .ok (.astore 5, 2) := by decide +kernel
theorem V.dX1_element_40 : decode cX1_element 40 = .ok (.aload 5, 2) := by decide +kernel
theorem V.dX1_element_42 : decode cX1_element 42 = .ok (.iconst 0, 1) := by decide +kernel
theorem V.dX1_element_43 : decode cX1_element 43 = .ok (.invokevirtual 170, 3) := by decide +kernel
theorem V.dX1_element_46 : decode cX1_element 46 = .ok (.iload_n 3, 1) := by decide +kernel
theorem V.dX1_element_47 : decode cX1_element 47 = .ok (.ifCond .eq 14, 3) := by decide +kernel
theorem V.dX1_element_50 : decode cX1_element 50 = .ok (.iload_n 1, 1) := by decide +kernel
theorem V.dX1_element_51 : decode cX1_element 51 = .ok (.iconst 2, 1) := by decide +kernel
theorem V.dX1_element_52 : decode cX1_element 52 = .ok (.iand, 1) := by decide +kernel
theorem V.dX1_element_53 : decode cX1_element 53 = .ok (.ifCond .eq 8, 3) := by decide +kernel
theorem V.dX1_element_56 : decode cX1_element 56 = .ok (.aload_n 0, 1) := by decide +kernel
theorem V.dX1_element_57 : decode cX1_element 57 = .ok (.invokevirtual 91, 3) := by decide +kernel
theorem V.dX1_element_60 : decode cX1_element 60 = .ok (.istore_n 2, 1) := by decide +kernel
theorem V.dX1_element_61 : decode cX1_element 61 = .ok (.iload_n 3, 1) := by decide +kernel
theorem V.dX1_element_62 : decode cX1_element 62 = .ok (.ifCond .eq 9, 3) := by decide +kernel
theorem V.dX1_element_65 : decode cX1_element 65 = .ok (.aload_n 0, 1) := by decide +kernel
theorem V.dX1_element_66 : decode cX1_element 66 = .ok (.aload 5, 2) := by decide +kernel
theorem V.dX1_element_68 : decode cX1_element 68 = .ok (.invokevirtual 200, 3) := by decide +kernel
theorem V.dX1_element_71 : decode cX1_element 71 = .ok (.bipush 112, 2) := by decide +kernel
theorem V.dX1_element_73 : decode cX1_element 73 = .ok (.istore 6, 2) := by decide +kernel
theorem V.dX1_element_75 : decode cX1_element 75 = .ok (.iload_n 1, 1) := by decide +kernel
theorem V.dX1_element_76 : decode cX1_element 76 = .ok (.ifCond .eq 28, 3) := by decide +kernel
theorem V.dX1_element_79 : decode cX1_element 79 = .ok (.iload_n 1, 1) := by decide +kernel
theorem V.dX1_element_80 : decode cX1_element 80 = .ok (.iconst 4, 1) := by decide +kernel
theorem V.dX1_element_81 : decode cX1_element 81 = .ok (.if_icmp .eq 23, 3) := by decide +kernel
theorem V.dX1_element_84 : decode cX1_element 84 = .ok (.iload 4, 2) := by decide +kernel
theorem V.dX1_element_86 : decode cX1_element 86 = .ok (.ifCond .eq 12, 3) := by decide +kernel
theorem V.dX1_element_89 : decode cX1_element 89 = .ok (.aload_n 0, 1) := by decide +kernel
theorem V.dX1_element_90 : decode cX1_element 90 = .ok (.invokevirtual 130, 3) := by decide +kernel
theorem V.dX1_element_93 : decode cX1_element 93 = .ok (.istore 6, 2) := by decide +kernel
theorem V.dX1_element_95 : decode cX1_element 95 = .ok (.goto 9, 3) := by decide +kernel
theorem V.dX1_element_98 : decode cX1_element 98 = .ok (.aload_n 0, 1) := by decide +kernel
theorem V.dX1_element_99 : decode cX1_element 99 = .ok (.iconst 0, 1) := by decide +kernel
theorem V.dX1_element_100 : decode cX1_element 100 = .ok (.invokevirtual 127, 3) := by decide +kernel
theorem V.dX1_element_103 : decode cX1_element 103 = .ok (.pop, 1) := by decide +kernel
theorem V.dX1_element_104 : decode cX1_element 104 = .ok (.aload_n 0, 1) := by decide +kernel
theorem V.dX1_element_105 : decode cX1_element 105 = .ok (.invokevirtual 91, 3) := by decide +kernel
theorem V.dX1_element_108 : decode cX1_element 108 = .ok (.istore 7, 2) := by decide +kernel
theorem V.dX1_element_110 : decode cX1_element 110 = .ok (.aload_n 0, 1) := by decide +kernel
theorem V.dX1_element_111 : decode cX1_element 111 = .ok (.getfield 16, 3) := by decide +kernel
theorem V.dX1_element_114 : decode cX1_element 114 = .ok (.getfield 203, 3) := by decide +kernel
theorem V.dX1_element_117 : decode cX1_element 117 = .ok (.invokevirtual 122, 3) := by decide +kernel
theorem V.dX1_element_120 : decode cX1_element 120 = .ok (.istore 8, 2) := by decide +kernel
theorem V.dX1_element_122 : decode cX1_element 122 = .ok (.iconst 0, 1) := by decide +kernel
theorem V.dX1_element_123 : decode cX1_element 123 = .ok (.istore 9, 2) := by decide +kernel
theorem V.dX1_element_125 : decode cX1_element 125 = .ok (.iload 9, 2) := by decide +kernel
theorem V.dX1_element_127 : decode cX1_element 127 = .ok (.iload 7, 2) := by decide +kernel
theorem V.dX1_element_129 : decode cX1_element 129 = .ok (.if_icmp .eq 42, 3) := by decide +kernel
theorem V.dX1_element_132 : decode cX1_element 132 = .ok (.iload 4, 2) := by decide +kernel
theorem V.dX1_element_134 : decode cX1_element 134 = .ok (.ifCond .eq 17, 3) := by decide +kernel
theorem V.dX1_element_137 : decode cX1_element 137 = .ok (.aload_n 0, 1) := by decide +kernel
theorem V.dX1_element_138 : decode cX1_element 138 = .ok (.aload_n 0, 1) := by decide +kernel
theorem V.dX1_element_139 : decode cX1_element 139 = .ok (.getfield 16, 3) := by decide +kernel
theorem V.dX1_element_142 : decode cX1_element 142 = .ok (.getfield 203, 3) := by decide +kernel
theorem V.dX1_element_145 : decode cX1_element 145 = .ok (.invokevirtual 200, 3) := by decide +kernel
theorem V.dX1_element_148 : decode cX1_element 148 = .ok (.goto 17, 3) := by decide +kernel
theorem V.dX1_element_151 : decode cX1_element 151 = .ok (.aload_n 0, 1) := by decide +kernel
theorem V.dX1_element_152 : decode cX1_element 152 = .ok (.getfield 16, 3) := by decide +kernel
theorem V.dX1_element_155 : decode cX1_element 155 = .ok (.getfield 203, 3) := by decide +kernel
theorem V.dX1_element_158 : decode cX1_element 158 = .ok (.aload_n 0, 1) := by decide +kernel
theorem V.dX1_element_159 : decode cX1_element 159 = .ok (.invokevirtual 91, 3) := by decide +kernel
theorem V.dX1_element_162 : decode cX1_element 162 = .ok (.invokevirtual 101, 3) := by decide +kernel
theorem V.dX1_element_165 : decode cX1_element 165 = .ok (.iinc 9 1, 3) := by decide +kernel
theorem V.dX1_element_168 : decode cX1_element 168 = .ok (.goto (-43), 3) := by decide +kernel
theorem V.dX1_element_171 : decode cX1_element 171 = .ok (.aload_n 0, 1) := by decide +kernel
theorem V.dX1_element_172 : decode cX1_element 172 = .ok (.getfield 16, 3) := by decide +kernel
theorem V.dX1_element_175 : decode cX1_element 175 = .ok (.getfield 206, 3) := by decide +kernel
theorem V.dX1_element_178 : decode cX1_element 178 = .ok (.astore 9, 2) := by decide +kernel
theorem V.dX1_element_180 : decode cX1_element 180 = .ok (.aload 9, 2) := by decide +kernel
theorem V.dX1_element_182 : decode cX1_element 182 = .ok (.iload_n 3, 1) := by decide +kernel
theorem V.dX1_element_183 : decode cX1_element 183 = .ok (.ifCond .eq 7, 3) := by decide +kernel
theorem V.dX1_element_186 : decode cX1_element 186 = .ok (.iconst 1, 1) := by decide +kernel
theorem V.dX1_element_187 : decode cX1_element 187 = .ok (.goto 14, 3) := by decide +kernel
theorem V.dX1_element_190 : decode cX1_element 190 = .ok (.iload_n 1, 1) := by decide +kernel
theorem V.dX1_element_191 : decode cX1_element 191 = .ok (.iconst 2, 1) := by decide +kernel
theorem V.dX1_element_192 : decode cX1_element 192 = .ok (.iand, 1) := by decide +kernel
theorem V.dX1_element_193 : decode cX1_element 193 = .ok (.ifCond .eq 7, 3) := by decide +kernel
theorem V.dX1_element_196 : decode cX1_element 196 = .ok (.iconst 2, 1) := by decide +kernel
theorem V.dX1_element_197 : decode cX1_element 197 = .ok (.goto 4, 3) := by decide +kernel
theorem V.dX1_element_200 : decode cX1_element 200 = .ok (.iconst 0, 1) := by decide +kernel
theorem V.dX1_element_201 : decode cX1_element 201 = .ok (.invokevirtual 101, 3) := by decide +kernel
theorem V.dX1_element_204 : decode cX1_element 204 = .ok (.aload 9, 2) := by decide +kernel
theorem V.dX1_element_206 : decode cX1_element 206 = .ok (.iload 6, 2) := by decide +kernel
theorem V.dX1_element_208 : decode cX1_element 208 = .ok (.invokevirtual 101, 3) := by decide +kernel
theorem V.dX1_element_211 : decode cX1_element 211 = .ok (.aload 9, 2) := by decide +kernel
theorem V.dX1_element_213 : decode cX1_element 213 = .ok (.iload_n 2, 1) := by decide +kernel
theorem V.dX1_element_214 : decode cX1_element 214 = .ok (.invokevirtual 101, 3) := by decide +kernel
theorem V.dX1_element_217 : decode cX1_element 217 = .ok (.aload 9, 2) := by decide +kernel
theorem V.dX1_element_219 : decode cX1_element 219 = .ok (.iload 7, 2) := by decide +kernel
theorem V.dX1_element_221 : decode cX1_element 221 = .ok (.invokevirtual 101, 3) := by decide +kernel
theorem V.dX1_element_224 : decode cX1_element 224 = .ok (.aload 9, 2) := by decide +kernel
theorem V.dX1_element_226 : decode cX1_element 226 = .ok (.iload_n 3, 1) := by decide +kernel
theorem V.dX1_element_227 : decode cX1_element 227 = .ok (.ifCond .eq 12, 3) := by decide +kernel
theorem V.dX1_element_230 : decode cX1_element 230 = .ok (.aload 5, 2) := by decide +kernel
theorem V.dX1_element_232 : decode cX1_element 232 = .ok (.iconst 0, 1) := by decide +kernel
theorem V.dX1_element_233 : decode cX1_element 233 = .ok (.invokevirtual 149, 3) := by decide +kernel
theorem V.dX1_element_236 : decode cX1_element 236 = .ok (.goto 4, 3) := by decide +kernel
theorem V.dX1_element_239 : decode cX1_element 239 = .ok (.iconst (-1), 1) := by decide +kernel
theorem V.dX1_element_240 : decode cX1_element 240 = .ok (.invokevirtual 101, 3) := by decide +kernel
theorem V.dX1_element_243 : decode cX1_element 243 = .ok (.aload 9, 2) := by decide +kernel
theorem V.dX1_element_245 : decode cX1_element 245 = .ok (.iload_n 3, 1) := by decide +kernel
theorem V.dX1_element_246 : decode cX1_element 246 = .ok (.ifCond .eq 12, 3) := by decide +kernel
theorem V.dX1_element_249 : decode cX1_element 249 = .ok (.aload 5, 2) := by decide +kernel
theorem V.dX1_element_251 : decode cX1_element 251 = .ok (.iconst 1, 1) := by decide +kernel
theorem V.dX1_element_252 : decode cX1_element 252 = .ok (.invokevirtual 149, 3) := by decide +kernel
theorem V.dX1_element_255 : decode cX1_element 255 = .ok (.goto 4, 3) := by decide +kernel
theorem V.dX1_element_258 : decode cX1_element 258 = .ok (.iconst (-1), 1) := by decide +kernel
theorem V.dX1_element_259 : decode cX1_element 259 = .ok (.invokevirtual 101, 3) := by decide +kernel
theorem V.dX1_element_262 : decode cX1_element 262 = .ok (.aload 9, 2) := by decide +kernel
theorem V.dX1_element_264 : decode cX1_element 264 = .ok (.iload 4, 2) := by decide +kernel
theorem V.dX1_element_266 : decode cX1_element 266 = .ok (.ifCond .eq 7, 3) := by decide +kernel
theorem V.dX1_element_269 : decode cX1_element 269 = .ok (.iconst 1, 1) := by decide +kernel
theorem V.dX1_element_270 : decode cX1_element 270 = .ok (.goto 4, 3) := by decide +kernel
theorem V.dX1_element_273 : decode cX1_element 273 = .ok (.iconst 0, 1) := by decide +kernel
theorem V.dX1_element_274 : decode cX1_element 274 = .ok (.invokevirtual 101, 3) := by decide +kernel
theorem V.dX1_element_277 : decode cX1_element 277 = .ok (.aload 9, 2) := by decide +kernel
theorem V.dX1_element_279 : decode cX1_element 279 = .ok (.iload 8, 2) := by decide +kernel
theorem V.dX1_element_281 : decode cX1_element 281 = .ok (.invokevirtual 101, 3) := by decide +kernel
theorem V.dX1_element_284 : decode cX1_element 284 = .ok (.return_, 1) := by decide +kernel
theorem V.mdX1_197 : MD RX1 197 yX1_small cX1_small 4 (some .int) 1 := ⟨Or.inl q1513, q361, q1516, by decide, by decide, by decide +kernel⟩
theorem V.mdX1_200 : MD RX1 200 yX1_expression cX1_expression 2 none 1 := ⟨Or.inl q1466, q361, q1469, by decide, by decide, by decide +kernel⟩
theorem V.fdX1_203 : FD RX1 203 2 10 2 := ⟨(RX2, TX2, 21), tyX2, rfl, rfl, in_X2, by decide, Or.inr ⟨_, q463⟩, rfl⟩
theorem V.fdX1_206 : FD RX1 206 2 9 2 := ⟨(RX2, TX2, 21), tyX2, rfl, rfl, in_X2, by decide, Or.inr ⟨_, q459⟩, rfl⟩
/-! ModuleEngine$Bytes.element()V -/
def V.Byt_element_p274  (σ : HS) (x8 : Int32) (x9 : Nat) (s0 : Int32) (s1 : Nat) : Option ((Nat ⊕ Unit) × HS) :=
  ck (tg σ s1 = 4) <| cl (Row_add σ s1 s0) fun _ σ1 =>
  ck (tg σ1 x9 = 4) <| cl (Row_add σ1 x9 x8) fun _ σ2 =>
  some (.inr (), σ2)
theorem V.gX1_element_p274 {X : CX}  (σ : HS) (x8 : Int32) (x9 : Nat) (s0 : Int32) (s1 : Nat) : G X RX1 "element" cX1_element 10 none 15 288 (enX enV (cxz X)) 274 [(8, iv x8), (9, av x9)] [iv s0, av s1] σ (Byt_element_p274 σ x8 x9 s0 s1) := by
  unfold Byt_element_p274
  refine g_callV (fc := fun sς => Row_add sς s1 s0) (ci := 3) (as := [iv s0]) rfl rfl rfl q1405 q1406 mdX1_101 (ctX3_add s1 s0) rfl (Nat.le_of_ble_eq_true rfl) (Nat.le_of_ble_eq_true rfl) (Nat.le_of_ble_eq_true rfl) pu_V dX1_element_274 (fun _ σ1 => ?_)
  refine g_aload 1 dX1_element_277 rfl ?_
  refine g_iload 0 dX1_element_279 rfl ?_
  refine g_callV (fc := fun sς => Row_add sς x9 x8) (ci := 3) (as := [iv x8]) rfl rfl rfl q1405 q1406 mdX1_101 (ctX3_add x9 x8) rfl (Nat.le_of_ble_eq_true rfl) (Nat.le_of_ble_eq_true rfl) (Nat.le_of_ble_eq_true rfl) pu_V dX1_element_281 (fun _ σ2 => ?_)
  exact g_return rfl dX1_element_284
def V.Byt_element_p259  (σ : HS) (x4 : Int32) (x8 : Int32) (x9 : Nat) (s0 : Int32) (s1 : Nat) : Option ((Nat ⊕ Unit) × HS) :=
  ck (tg σ s1 = 4) <| cl (Row_add σ s1 s0) fun _ σ1 =>
  if x4 = 0 then (
    Byt_element_p274 σ1 x8 x9 (0 : Int32) x9)
  else (
    Byt_element_p274 σ1 x8 x9 (1 : Int32) x9)
theorem V.gX1_element_p259 {X : CX}  (σ : HS) (x4 : Int32) (x8 : Int32) (x9 : Nat) (s0 : Int32) (s1 : Nat) : G X RX1 "element" cX1_element 10 none 15 288 (enX enV (cxz X)) 259 [(4, iv x4), (8, iv x8), (9, av x9)] [iv s0, av s1] σ (Byt_element_p259 σ x4 x8 x9 s0 s1) := by
  unfold Byt_element_p259
  refine g_callV (fc := fun sς => Row_add sς s1 s0) (ci := 3) (as := [iv s0]) rfl rfl rfl q1405 q1406 mdX1_101 (ctX3_add s1 s0) rfl (Nat.le_of_ble_eq_true rfl) (Nat.le_of_ble_eq_true rfl) (Nat.le_of_ble_eq_true rfl) pu_V dX1_element_259 (fun _ σ1 => ?_)
  refine g_aload 2 dX1_element_262 rfl ?_
  refine g_iload 0 dX1_element_264 rfl ?_
  refine g_if_eq 273 dX1_element_266 (by decide) ?_ ?_
  · refine g_iconst (v := 0) dX1_element_273 (by decide) ?_
    refine G.sub [1, 2] rfl ?_
    exact gX1_element_p274 _ _ _ _ _
  · refine g_iconst (v := 1) dX1_element_269 (by decide) ?_
    refine g_goto 274 dX1_element_270 (by decide) ?_
    refine G.sub [1, 2] rfl ?_
    exact gX1_element_p274 _ _ _ _ _
def V.Byt_element_p240  (σ : HS) (x3 : Int32) (x4 : Int32) (x5 : Nat) (x8 : Int32) (x9 : Nat) (s0 : Int32) (s1 : Nat) : Option ((Nat ⊕ Unit) × HS) :=
  ck (tg σ s1 = 4) <| cl (Row_add σ s1 s0) fun _ σ1 =>
  if x3 = 0 then (
    Byt_element_p259 σ1 x4 x8 x9 (-1 : Int32) x9)
  else (
    ck (tg σ1 x5 = 4) <| cl (Row_at σ1 x5 (1 : Int32)) fun r3 σ2 =>
    Byt_element_p259 σ2 x4 x8 x9 r3 x9)
theorem V.gX1_element_p240 {X : CX}  (σ : HS) (x3 : Int32) (x4 : Int32) (x5 : Nat) (x8 : Int32) (x9 : Nat) (s0 : Int32) (s1 : Nat) : G X RX1 "element" cX1_element 10 none 15 288 (enX enV (cxz X)) 240 [(3, iv x3), (4, iv x4), (5, av x5), (8, iv x8), (9, av x9)] [iv s0, av s1] σ (Byt_element_p240 σ x3 x4 x5 x8 x9 s0 s1) := by
  unfold Byt_element_p240
  refine g_callV (fc := fun sς => Row_add sς s1 s0) (ci := 3) (as := [iv s0]) rfl rfl rfl q1405 q1406 mdX1_101 (ctX3_add s1 s0) rfl (Nat.le_of_ble_eq_true rfl) (Nat.le_of_ble_eq_true rfl) (Nat.le_of_ble_eq_true rfl) pu_V dX1_element_240 (fun _ σ1 => ?_)
  refine g_aload 4 dX1_element_243 rfl ?_
  refine g_iload_n 3 0 dX1_element_245 rfl rfl ?_
  refine g_if_eq 258 dX1_element_246 (by decide) ?_ ?_
  · refine g_iconst (v := (-1)) dX1_element_258 (by decide) ?_
    refine G.sub [1, 3, 4] rfl ?_
    exact gX1_element_p259 _ _ _ _ _ _
  · refine g_aload 2 dX1_element_249 rfl ?_
    refine g_iconst (v := 1) dX1_element_251 (by decide) ?_
    refine g_callV (fc := fun sς => Row_at sς x5 (1 : Int32)) (ci := 3) (as := [iv (1 : Int32)]) rfl rfl rfl q1409 q1410 mdX1_149 (ctX3_at x5 (1 : Int32)) rfl (Nat.le_of_ble_eq_true rfl) (Nat.le_of_ble_eq_true rfl) (Nat.le_of_ble_eq_true rfl) pu_I dX1_element_252 (fun r3 σ2 => ?_)
    refine g_goto 259 dX1_element_255 (by decide) ?_
    refine G.sub [1, 3, 4] rfl ?_
    exact gX1_element_p259 _ _ _ _ _ _
def V.Byt_element_p201  (σ : HS) (x2 : Int32) (x3 : Int32) (x4 : Int32) (x5 : Nat) (x6 : Int32) (x7 : Int32) (x8 : Int32) (x9 : Nat) (s0 : Int32) (s1 : Nat) : Option ((Nat ⊕ Unit) × HS) :=
  ck (tg σ s1 = 4) <| cl (Row_add σ s1 s0) fun _ σ1 =>
  ck (tg σ1 x9 = 4) <| cl (Row_add σ1 x9 x6) fun _ σ2 =>
  ck (tg σ2 x9 = 4) <| cl (Row_add σ2 x9 x2) fun _ σ3 =>
  ck (tg σ3 x9 = 4) <| cl (Row_add σ3 x9 x7) fun _ σ4 =>
  if x3 = 0 then (
    Byt_element_p240 σ4 x3 x4 x5 x8 x9 (-1 : Int32) x9)
  else (
    ck (tg σ4 x5 = 4) <| cl (Row_at σ4 x5 (0 : Int32)) fun r6 σ5 =>
    Byt_element_p240 σ5 x3 x4 x5 x8 x9 r6 x9)
theorem V.gX1_element_p201 {X : CX}  (σ : HS) (x2 : Int32) (x3 : Int32) (x4 : Int32) (x5 : Nat) (x6 : Int32) (x7 : Int32) (x8 : Int32) (x9 : Nat) (s0 : Int32) (s1 : Nat) : G X RX1 "element" cX1_element 10 none 15 288 (enX enV (cxz X)) 201 [(2, iv x2), (3, iv x3), (4, iv x4), (5, av x5), (6, iv x6), (7, iv x7), (8, iv x8), (9, av x9)] [iv s0, av s1] σ (Byt_element_p201 σ x2 x3 x4 x5 x6 x7 x8 x9 s0 s1) := by
  unfold Byt_element_p201
  refine g_callV (fc := fun sς => Row_add sς s1 s0) (ci := 3) (as := [iv s0]) rfl rfl rfl q1405 q1406 mdX1_101 (ctX3_add s1 s0) rfl (Nat.le_of_ble_eq_true rfl) (Nat.le_of_ble_eq_true rfl) (Nat.le_of_ble_eq_true rfl) pu_V dX1_element_201 (fun _ σ1 => ?_)
  refine g_aload 7 dX1_element_204 rfl ?_
  refine g_iload 4 dX1_element_206 rfl ?_
  refine g_callV (fc := fun sς => Row_add sς x9 x6) (ci := 3) (as := [iv x6]) rfl rfl rfl q1405 q1406 mdX1_101 (ctX3_add x9 x6) rfl (Nat.le_of_ble_eq_true rfl) (Nat.le_of_ble_eq_true rfl) (Nat.le_of_ble_eq_true rfl) pu_V dX1_element_208 (fun _ σ2 => ?_)
  refine g_aload 7 dX1_element_211 rfl ?_
  refine g_iload_n 2 0 dX1_element_213 rfl rfl ?_
  refine g_callV (fc := fun sς => Row_add sς x9 x2) (ci := 3) (as := [iv x2]) rfl rfl rfl q1405 q1406 mdX1_101 (ctX3_add x9 x2) rfl (Nat.le_of_ble_eq_true rfl) (Nat.le_of_ble_eq_true rfl) (Nat.le_of_ble_eq_true rfl) pu_V dX1_element_214 (fun _ σ3 => ?_)
  refine g_aload 7 dX1_element_217 rfl ?_
  refine g_iload 5 dX1_element_219 rfl ?_
  refine g_callV (fc := fun sς => Row_add sς x9 x7) (ci := 3) (as := [iv x7]) rfl rfl rfl q1405 q1406 mdX1_101 (ctX3_add x9 x7) rfl (Nat.le_of_ble_eq_true rfl) (Nat.le_of_ble_eq_true rfl) (Nat.le_of_ble_eq_true rfl) pu_V dX1_element_221 (fun _ σ4 => ?_)
  refine g_aload 7 dX1_element_224 rfl ?_
  refine g_iload_n 3 1 dX1_element_226 rfl rfl ?_
  refine g_if_eq 239 dX1_element_227 (by decide) ?_ ?_
  · refine g_iconst (v := (-1)) dX1_element_239 (by decide) ?_
    refine G.sub [1, 2, 3, 6, 7] rfl ?_
    exact gX1_element_p240 _ _ _ _ _ _ _ _
  · refine g_aload 3 dX1_element_230 rfl ?_
    refine g_iconst (v := 0) dX1_element_232 (by decide) ?_
    refine g_callV (fc := fun sς => Row_at sς x5 (0 : Int32)) (ci := 3) (as := [iv (0 : Int32)]) rfl rfl rfl q1409 q1410 mdX1_149 (ctX3_at x5 (0 : Int32)) rfl (Nat.le_of_ble_eq_true rfl) (Nat.le_of_ble_eq_true rfl) (Nat.le_of_ble_eq_true rfl) pu_I dX1_element_233 (fun r6 σ5 => ?_)
    refine g_goto 240 dX1_element_236 (by decide) ?_
    refine G.sub [1, 2, 3, 6, 7] rfl ?_
    exact gX1_element_p240 _ _ _ _ _ _ _ _
def V.Byt_element_p165 (rec125 : HS → Nat → Int32 → Int32 → Int32 → Int32 → Nat → Int32 → Int32 → Int32 → Int32 → Option ((Nat ⊕ Unit) × HS)) (σ : HS) (x0 : Nat) (x1 : Int32) (x2 : Int32) (x3 : Int32) (x4 : Int32) (x5 : Nat) (x6 : Int32) (x7 : Int32) (x8 : Int32) (x9 : Int32) : Option ((Nat ⊕ Unit) × HS) :=
  bn (x9 + (1 : Int32)) fun y1 =>
  rec125 σ x0 x1 x2 x3 x4 x5 x6 x7 x8 y1
theorem V.gX1_element_p165 {X : CX} (rec125 : HS → Nat → Int32 → Int32 → Int32 → Int32 → Nat → Int32 → Int32 → Int32 → Int32 → Option ((Nat ⊕ Unit) × HS)) (hrec125 : ∀ (σ : HS) (x0 : Nat) (x1 : Int32) (x2 : Int32) (x3 : Int32) (x4 : Int32) (x5 : Nat) (x6 : Int32) (x7 : Int32) (x8 : Int32) (x9 : Int32), G X RX1 "element" cX1_element 10 none 15 288 (enX enV (cxz X)) 125 [(0, av x0), (1, iv x1), (2, iv x2), (3, iv x3), (4, iv x4), (5, av x5), (6, iv x6), (7, iv x7), (8, iv x8), (9, iv x9)] [] σ (rec125 σ x0 x1 x2 x3 x4 x5 x6 x7 x8 x9)) (σ : HS) (x0 : Nat) (x1 : Int32) (x2 : Int32) (x3 : Int32) (x4 : Int32) (x5 : Nat) (x6 : Int32) (x7 : Int32) (x8 : Int32) (x9 : Int32) : G X RX1 "element" cX1_element 10 none 15 288 (enX enV (cxz X)) 165 [(0, av x0), (1, iv x1), (2, iv x2), (3, iv x3), (4, iv x4), (5, av x5), (6, iv x6), (7, iv x7), (8, iv x8), (9, iv x9)] [] σ (Byt_element_p165 rec125 σ x0 x1 x2 x3 x4 x5 x6 x7 x8 x9) := by
  unfold Byt_element_p165
  refine g_iincB (w := 1) 9 dX1_element_165 rfl (by decide) (by decide) (fun _ => rfl) (fun y1 => ?_)
  refine g_goto 125 dX1_element_168 (by decide) ?_
  refine G.sub [1, 2, 3, 4, 5, 6, 7, 8, 9, 0] rfl ?_
  exact hrec125 _ _ _ _ _ _ _ _ _ _ _
def V.Byt_element_p125  : Nat → HS → Nat → Int32 → Int32 → Int32 → Int32 → Nat → Int32 → Int32 → Int32 → Int32 → Option ((Nat ⊕ Unit) × HS)
  | 0, _, _, _, _, _, _, _, _, _, _, _ => none
  | n + 1, σ, x0, x1, x2, x3, x4, x5, x6, x7, x8, x9 =>
    if x9 = x7 then (
      ck (tg σ x0 = 2) <|
      ck (tg σ (gR σ x0 3) = 3) <|
      bn (gR σ (gR σ x0 3) 9) fun y1 =>
      if x3 = 0 then (
        if (x1 &&& (2 : Int32)) = 0 then (
          Byt_element_p201 σ x2 x3 x4 x5 x6 x7 x8 y1 (0 : Int32) y1)
        else (
          Byt_element_p201 σ x2 x3 x4 x5 x6 x7 x8 y1 (2 : Int32) y1))
      else (
        Byt_element_p201 σ x2 x3 x4 x5 x6 x7 x8 y1 (1 : Int32) y1))
    else (
      if x4 = 0 then (
        ck (tg σ x0 = 2) <|
        ck (tg σ (gR σ x0 3) = 3) <|
        ck (tg σ x0 = 2) <| clT (Byt_whole σ x0 ) fun r3 σ2 =>
        ck (tg σ2 (gR σ (gR σ x0 3) 10) = 4) <| cl (Row_add σ2 (gR σ (gR σ x0 3) 10) r3) fun _ σ4 =>
        Byt_element_p165 (Byt_element_p125 n) σ4 x0 x1 x2 x3 x4 x5 x6 x7 x8 x9)
      else (
        ck (tg σ x0 = 2) <|
        ck (tg σ (gR σ x0 3) = 3) <|
        ck (tg σ x0 = 2) <| clT (Byt_expression σ x0 (gR σ (gR σ x0 3) 10)) fun _ σ5 =>
        Byt_element_p165 (Byt_element_p125 n) σ5 x0 x1 x2 x3 x4 x5 x6 x7 x8 x9))
theorem V.gX1_element_p125 {X : CX}  : ∀ (n : Nat) (σ : HS) (x0 : Nat) (x1 : Int32) (x2 : Int32) (x3 : Int32) (x4 : Int32) (x5 : Nat) (x6 : Int32) (x7 : Int32) (x8 : Int32) (x9 : Int32), G X RX1 "element" cX1_element 10 none 15 288 (enX enV (cxz X)) 125 [(0, av x0), (1, iv x1), (2, iv x2), (3, iv x3), (4, iv x4), (5, av x5), (6, iv x6), (7, iv x7), (8, iv x8), (9, iv x9)] [] σ (Byt_element_p125 n σ x0 x1 x2 x3 x4 x5 x6 x7 x8 x9)
  | 0, σ, x0, x1, x2, x3, x4, x5, x6, x7, x8, x9 => by rw [Byt_element_p125]; exact G.nul
  | n + 1, σ, x0, x1, x2, x3, x4, x5, x6, x7, x8, x9 => by
    rw [Byt_element_p125]
    refine g_iload 9 dX1_element_125 rfl ?_
    refine g_iload 7 dX1_element_127 rfl ?_
    refine g_icmp_eq 171 dX1_element_129 (by decide) ?_ ?_
    · refine g_aload_n 0 0 dX1_element_171 rfl rfl ?_
      refine g_getR fdX1_16 dX1_element_172 ?_
      refine g_getR fdX1_206 dX1_element_175 ?_
      refine g_nmA (fun y1 => ?_)
      refine g_astore dX1_element_178 (by decide) rfl ?_
      refine g_aload 0 dX1_element_180 rfl ?_
      refine g_iload_n 3 4 dX1_element_182 rfl rfl ?_
      refine g_if_eq 190 dX1_element_183 (by decide) ?_ ?_
      · refine g_iload_n 1 2 dX1_element_190 rfl rfl ?_
        refine g_iconst (v := 2) dX1_element_191 (by decide) ?_
        refine g_iand dX1_element_192 ?_
        refine g_if_eq 200 dX1_element_193 (by decide) ?_ ?_
        · refine g_iconst (v := 0) dX1_element_200 (by decide) ?_
          refine G.sub [3, 4, 5, 6, 7, 8, 9, 0] rfl ?_
          exact gX1_element_p201 _ _ _ _ _ _ _ _ _ _ _
        · refine g_iconst (v := 2) dX1_element_196 (by decide) ?_
          refine g_goto 201 dX1_element_197 (by decide) ?_
          refine G.sub [3, 4, 5, 6, 7, 8, 9, 0] rfl ?_
          exact gX1_element_p201 _ _ _ _ _ _ _ _ _ _ _
      · refine g_iconst (v := 1) dX1_element_186 (by decide) ?_
        refine g_goto 201 dX1_element_187 (by decide) ?_
        refine G.sub [3, 4, 5, 6, 7, 8, 9, 0] rfl ?_
        exact gX1_element_p201 _ _ _ _ _ _ _ _ _ _ _
    · refine g_iload 4 dX1_element_132 rfl ?_
      refine g_if_eq 151 dX1_element_134 (by decide) ?_ ?_
      · refine g_aload_n 0 0 dX1_element_151 rfl rfl ?_
        refine g_getR fdX1_16 dX1_element_152 ?_
        refine g_getR fdX1_203 dX1_element_155 ?_
        refine g_aload_n 0 0 dX1_element_158 rfl rfl ?_
        refine g_callVT (fc := fun sς => Byt_whole sς x0 ) (ci := 1) (as := []) rfl rfl rfl q1365 qs5 q1363 mdX1_91 (ctX1_whole x0 ) rfl (Nat.le_of_ble_eq_true rfl) (Nat.le_of_ble_eq_true rfl) (Nat.le_of_ble_eq_true rfl) pu_I (by decide) dX1_element_159 (fun r3 σ2 => ?_)
        refine g_callV (fc := fun sς => Row_add sς (gR σ (gR σ x0 3) 10) r3) (ci := 3) (as := [iv r3]) rfl rfl rfl q1405 q1406 mdX1_101 (ctX3_add (gR σ (gR σ x0 3) 10) r3) rfl (Nat.le_of_ble_eq_true rfl) (Nat.le_of_ble_eq_true rfl) (Nat.le_of_ble_eq_true rfl) pu_V dX1_element_162 (fun _ σ4 => ?_)
        exact gX1_element_p165 (Byt_element_p125 n) (gX1_element_p125 n) _ _ _ _ _ _ _ _ _ _ _
      · refine g_aload_n 0 0 dX1_element_137 rfl rfl ?_
        refine g_aload_n 0 0 dX1_element_138 rfl rfl ?_
        refine g_getR fdX1_16 dX1_element_139 ?_
        refine g_getR fdX1_203 dX1_element_142 ?_
        refine g_callVT (fc := fun sς => Byt_expression sς x0 (gR σ (gR σ x0 3) 10)) (ci := 1) (as := [av (gR σ (gR σ x0 3) 10)]) rfl rfl rfl q1468 qs22 q1466 mdX1_200 (ctX1_expression x0 (gR σ (gR σ x0 3) 10)) rfl (Nat.le_of_ble_eq_true rfl) (Nat.le_of_ble_eq_true rfl) (Nat.le_of_ble_eq_true rfl) pu_V (by decide) dX1_element_145 (fun _ σ5 => ?_)
        refine g_goto 165 dX1_element_148 (by decide) ?_
        exact gX1_element_p165 (Byt_element_p125 n) (gX1_element_p125 n) _ _ _ _ _ _ _ _ _ _ _
def V.Byt_element_p104  (σ : HS) (x0 : Nat) (x1 : Int32) (x2 : Int32) (x3 : Int32) (x4 : Int32) (x5 : Nat) (x6 : Int32) : Option ((Nat ⊕ Unit) × HS) :=
  ck (tg σ x0 = 2) <| clT (Byt_whole σ x0 ) fun r2 σ1 =>
  ck (tg σ1 x0 = 2) <|
  ck (tg σ1 (gR σ1 x0 3) = 3) <|
  ck (tg σ1 (gR σ1 (gR σ1 x0 3) 10) = 4) <| cl (Row_size σ1 (gR σ1 (gR σ1 x0 3) 10) ) fun r4 σ3 =>
  Byt_element_p125 FU σ3 x0 x1 x2 x3 x4 x5 x6 r2 r4 (0 : Int32)
theorem V.gX1_element_p104 {X : CX}  (σ : HS) (x0 : Nat) (x1 : Int32) (x2 : Int32) (x3 : Int32) (x4 : Int32) (x5 : Nat) (x6 : Int32) : G X RX1 "element" cX1_element 10 none 15 288 (enX enV (cxz X)) 104 [(0, av x0), (1, iv x1), (2, iv x2), (3, iv x3), (4, iv x4), (5, av x5), (6, iv x6)] [] σ (Byt_element_p104 σ x0 x1 x2 x3 x4 x5 x6) := by
  unfold Byt_element_p104
  refine g_aload_n 0 0 dX1_element_104 rfl rfl ?_
  refine g_callVT (fc := fun sς => Byt_whole sς x0 ) (ci := 1) (as := []) rfl rfl rfl q1365 qs5 q1363 mdX1_91 (ctX1_whole x0 ) rfl (Nat.le_of_ble_eq_true rfl) (Nat.le_of_ble_eq_true rfl) (Nat.le_of_ble_eq_true rfl) pu_I (by decide) dX1_element_105 (fun r2 σ1 => ?_)
  refine g_istore dX1_element_108 (by decide) rfl ?_
  refine g_aload_n 0 1 dX1_element_110 rfl rfl ?_
  refine g_getR fdX1_16 dX1_element_111 ?_
  refine g_getR fdX1_203 dX1_element_114 ?_
  refine g_callV (fc := fun sς => Row_size sς (gR σ1 (gR σ1 x0 3) 10) ) (ci := 3) (as := []) rfl rfl rfl q1421 q1422 mdX1_122 (ctX3_size (gR σ1 (gR σ1 x0 3) 10) ) rfl (Nat.le_of_ble_eq_true rfl) (Nat.le_of_ble_eq_true rfl) (Nat.le_of_ble_eq_true rfl) pu_I dX1_element_117 (fun r4 σ3 => ?_)
  refine g_istore dX1_element_120 (by decide) rfl ?_
  refine g_iconst (v := 0) dX1_element_122 (by decide) ?_
  refine g_istore dX1_element_123 (by decide) rfl ?_
  refine G.sub [3, 4, 5, 6, 7, 8, 9, 2, 1, 0] rfl ?_
  exact gX1_element_p125 FU _ _ _ _ _ _ _ _ _ _ _
def V.Byt_element_p71  (σ : HS) (x0 : Nat) (x1 : Int32) (x2 : Int32) (x3 : Int32) (x4 : Int32) (x5 : Nat) : Option ((Nat ⊕ Unit) × HS) :=
  if x1 = 0 then (
    Byt_element_p104 σ x0 x1 x2 x3 x4 x5 (112 : Int32))
  else (
    if x1 = (4 : Int32) then (
      Byt_element_p104 σ x0 x1 x2 x3 x4 x5 (112 : Int32))
    else (
      if x4 = 0 then (
        ck (tg σ x0 = 2) <| clT (Byt_form σ x0 (0 : Int32)) fun r2 σ1 =>
        Byt_element_p104 σ1 x0 x1 x2 x3 x4 x5 (112 : Int32))
      else (
        ck (tg σ x0 = 2) <| clT (Byt_referenceType σ x0 ) fun r4 σ3 =>
        Byt_element_p104 σ3 x0 x1 x2 x3 x4 x5 r4)))
theorem V.gX1_element_p71 {X : CX}  (σ : HS) (x0 : Nat) (x1 : Int32) (x2 : Int32) (x3 : Int32) (x4 : Int32) (x5 : Nat) : G X RX1 "element" cX1_element 10 none 15 288 (enX enV (cxz X)) 71 [(0, av x0), (1, iv x1), (2, iv x2), (3, iv x3), (4, iv x4), (5, av x5)] [] σ (Byt_element_p71 σ x0 x1 x2 x3 x4 x5) := by
  unfold Byt_element_p71
  refine g_bipush (v := 112) dX1_element_71 (by decide) ?_
  refine g_istore dX1_element_73 (by decide) rfl ?_
  refine g_iload_n 1 2 dX1_element_75 rfl rfl ?_
  refine g_if_eq 104 dX1_element_76 (by decide) ?_ ?_
  · refine G.sub [1, 2, 3, 4, 5, 6, 0] rfl ?_
    exact gX1_element_p104 _ _ _ _ _ _ _ _
  · refine g_iload_n 1 2 dX1_element_79 rfl rfl ?_
    refine g_iconst (v := 4) dX1_element_80 (by decide) ?_
    refine g_icmp_eq 104 dX1_element_81 (by decide) ?_ ?_
    · refine G.sub [1, 2, 3, 4, 5, 6, 0] rfl ?_
      exact gX1_element_p104 _ _ _ _ _ _ _ _
    · refine g_iload 5 dX1_element_84 rfl ?_
      refine g_if_eq 98 dX1_element_86 (by decide) ?_ ?_
      · refine g_aload_n 0 1 dX1_element_98 rfl rfl ?_
        refine g_iconst (v := 0) dX1_element_99 (by decide) ?_
        refine g_callVT (fc := fun sς => Byt_form sς x0 (0 : Int32)) (ci := 1) (as := [iv (0 : Int32)]) rfl rfl rfl q1444 qs16 q1442 mdX1_127 (ctX1_form x0 (0 : Int32)) rfl (Nat.le_of_ble_eq_true rfl) (Nat.le_of_ble_eq_true rfl) (Nat.le_of_ble_eq_true rfl) pu_I (by decide) dX1_element_100 (fun r2 σ1 => ?_)
        refine g_pop dX1_element_103 rfl ?_
        refine G.sub [1, 2, 3, 4, 5, 6, 0] rfl ?_
        exact gX1_element_p104 _ _ _ _ _ _ _ _
      · refine g_aload_n 0 1 dX1_element_89 rfl rfl ?_
        refine g_callVT (fc := fun sς => Byt_referenceType sς x0 ) (ci := 1) (as := []) rfl rfl rfl q1452 qs18 q1450 mdX1_130 (ctX1_referenceType x0 ) rfl (Nat.le_of_ble_eq_true rfl) (Nat.le_of_ble_eq_true rfl) (Nat.le_of_ble_eq_true rfl) pu_I (by decide) dX1_element_90 (fun r4 σ3 => ?_)
        refine g_istore dX1_element_93 (by decide) rfl ?_
        refine g_goto 104 dX1_element_95 (by decide) ?_
        refine G.sub [1, 2, 3, 4, 5, 6, 0] rfl ?_
        exact gX1_element_p104 _ _ _ _ _ _ _ _
def V.Byt_element_p61  (σ : HS) (x0 : Nat) (x1 : Int32) (x2 : Int32) (x3 : Int32) (x4 : Int32) (x5 : Nat) : Option ((Nat ⊕ Unit) × HS) :=
  if x3 = 0 then (
    Byt_element_p71 σ x0 x1 x2 x3 x4 x5)
  else (
    ck (tg σ x0 = 2) <| clT (Byt_expression σ x0 x5) fun _ σ1 =>
    Byt_element_p71 σ1 x0 x1 x2 x3 x4 x5)
theorem V.gX1_element_p61 {X : CX}  (σ : HS) (x0 : Nat) (x1 : Int32) (x2 : Int32) (x3 : Int32) (x4 : Int32) (x5 : Nat) : G X RX1 "element" cX1_element 10 none 15 288 (enX enV (cxz X)) 61 [(0, av x0), (1, iv x1), (2, iv x2), (3, iv x3), (4, iv x4), (5, av x5)] [] σ (Byt_element_p61 σ x0 x1 x2 x3 x4 x5) := by
  unfold Byt_element_p61
  refine g_iload_n 3 3 dX1_element_61 rfl rfl ?_
  refine g_if_eq 71 dX1_element_62 (by decide) ?_ ?_
  · exact gX1_element_p71 _ _ _ _ _ _ _
  · refine g_aload_n 0 0 dX1_element_65 rfl rfl ?_
    refine g_aload 5 dX1_element_66 rfl ?_
    refine g_callVT (fc := fun sς => Byt_expression sς x0 x5) (ci := 1) (as := [av x5]) rfl rfl rfl q1468 qs22 q1466 mdX1_200 (ctX1_expression x0 x5) rfl (Nat.le_of_ble_eq_true rfl) (Nat.le_of_ble_eq_true rfl) (Nat.le_of_ble_eq_true rfl) pu_V (by decide) dX1_element_68 (fun _ σ1 => ?_)
    exact gX1_element_p71 _ _ _ _ _ _ _
def V.Byt_element_p32  (σ : HS) (x0 : Nat) (x1 : Int32) (x2 : Int32) (x3 : Int32) (s0 : Int32) : Option ((Nat ⊕ Unit) × HS) :=
  ck (tg σ x0 = 2) <|
  bn (gR σ x0 9) fun y1 =>
  ck (tg σ y1 = 4) <| cl (Row_cut σ y1 (0 : Int32)) fun _ σ2 =>
  if x3 = 0 then (
    Byt_element_p61 σ2 x0 x1 x2 x3 s0 y1)
  else (
    if (x1 &&& (2 : Int32)) = 0 then (
      Byt_element_p61 σ2 x0 x1 x2 x3 s0 y1)
    else (
      ck (tg σ2 x0 = 2) <| clT (Byt_whole σ2 x0 ) fun r4 σ3 =>
      Byt_element_p61 σ3 x0 x1 r4 x3 s0 y1))
theorem V.gX1_element_p32 {X : CX}  (σ : HS) (x0 : Nat) (x1 : Int32) (x2 : Int32) (x3 : Int32) (s0 : Int32) : G X RX1 "element" cX1_element 10 none 15 288 (enX enV (cxz X)) 32 [(0, av x0), (1, iv x1), (2, iv x2), (3, iv x3)] [iv s0] σ (Byt_element_p32 σ x0 x1 x2 x3 s0) := by
  unfold Byt_element_p32
  refine g_istore dX1_element_32 (by decide) rfl ?_
  refine g_aload_n 0 1 dX1_element_34 rfl rfl ?_
  refine g_getR fdX1_31 dX1_element_35 ?_
  refine g_nmA (fun y1 => ?_)
  refine g_astore dX1_element_38 (by decide) rfl ?_
  refine g_aload 0 dX1_element_40 rfl ?_
  refine g_iconst (v := 0) dX1_element_42 (by decide) ?_
  refine g_callV (fc := fun sς => Row_cut sς y1 (0 : Int32)) (ci := 3) (as := [iv (0 : Int32)]) rfl rfl rfl q1281 q1282 mdX1_170 (ctX3_cut y1 (0 : Int32)) rfl (Nat.le_of_ble_eq_true rfl) (Nat.le_of_ble_eq_true rfl) (Nat.le_of_ble_eq_true rfl) pu_V dX1_element_43 (fun _ σ2 => ?_)
  refine g_iload_n 3 5 dX1_element_46 rfl rfl ?_
  refine g_if_eq 61 dX1_element_47 (by decide) ?_ ?_
  · refine G.sub [2, 3, 4, 5, 1, 0] rfl ?_
    exact gX1_element_p61 _ _ _ _ _ _ _
  · refine g_iload_n 1 3 dX1_element_50 rfl rfl ?_
    refine g_iconst (v := 2) dX1_element_51 (by decide) ?_
    refine g_iand dX1_element_52 ?_
    refine g_if_eq 61 dX1_element_53 (by decide) ?_ ?_
    · refine G.sub [2, 3, 4, 5, 1, 0] rfl ?_
      exact gX1_element_p61 _ _ _ _ _ _ _
    · refine g_aload_n 0 2 dX1_element_56 rfl rfl ?_
      refine g_callVT (fc := fun sς => Byt_whole sς x0 ) (ci := 1) (as := []) rfl rfl rfl q1365 qs5 q1363 mdX1_91 (ctX1_whole x0 ) rfl (Nat.le_of_ble_eq_true rfl) (Nat.le_of_ble_eq_true rfl) (Nat.le_of_ble_eq_true rfl) pu_I (by decide) dX1_element_57 (fun r4 σ3 => ?_)
      refine g_istore_n 2 dX1_element_60 rfl (by decide) rfl ?_
      refine G.sub [3, 4, 0, 5, 2, 1] rfl ?_
      exact gX1_element_p61 _ _ _ _ _ _ _
def V.Byt_element_p20  (σ : HS) (x0 : Nat) (x1 : Int32) (x2 : Int32) (s0 : Int32) : Option ((Nat ⊕ Unit) × HS) :=
  if (x1 &&& (4 : Int32)) = 0 then (
    Byt_element_p32 σ x0 x1 x2 s0 (0 : Int32))
  else (
    Byt_element_p32 σ x0 x1 x2 s0 (1 : Int32))
theorem V.gX1_element_p20 {X : CX}  (σ : HS) (x0 : Nat) (x1 : Int32) (x2 : Int32) (s0 : Int32) : G X RX1 "element" cX1_element 10 none 15 288 (enX enV (cxz X)) 20 [(0, av x0), (1, iv x1), (2, iv x2)] [iv s0] σ (Byt_element_p20 σ x0 x1 x2 s0) := by
  unfold Byt_element_p20
  refine g_istore_n 3 dX1_element_20 rfl (by decide) rfl ?_
  refine g_iload_n 1 2 dX1_element_21 rfl rfl ?_
  refine g_iconst (v := 4) dX1_element_22 (by decide) ?_
  refine g_iand dX1_element_23 ?_
  refine g_if_eq 31 dX1_element_24 (by decide) ?_ ?_
  · refine g_iconst (v := 0) dX1_element_31 (by decide) ?_
    refine G.sub [1, 2, 3, 0] rfl ?_
    exact gX1_element_p32 _ _ _ _ _ _
  · refine g_iconst (v := 1) dX1_element_27 (by decide) ?_
    refine g_goto 32 dX1_element_28 (by decide) ?_
    refine G.sub [1, 2, 3, 0] rfl ?_
    exact gX1_element_p32 _ _ _ _ _ _
def V.Byt_element (σ : HS) (x0 : Nat) : Option ((Nat ⊕ Unit) × HS) :=
  ck (tg σ x0 = 2) <| clT (Byt_small σ x0 (7 : Int32)) fun r2 σ1 =>
  if (r2 &&& (1 : Int32)) = 0 then (
    Byt_element_p20 σ1 x0 r2 (0 : Int32) (1 : Int32))
  else (
    Byt_element_p20 σ1 x0 r2 (0 : Int32) (0 : Int32))
theorem V.ctX1_element (x0 : Nat) : Ct yX1_element  cX1_element 10 none 15 288 eXV [av x0] (fun σ => Byt_element σ x0) := by
  refine Ct.of (own := RX1) (nm := "element") (desc := "()V") rfl (by decide) (Nat.le_of_ble_eq_true rfl) (by decide) (fun X σ => ?_)
  show G X RX1 "element" cX1_element 10 none 15 288 (enX enV (cxz X)) 0 [(0, av x0)] [] σ (Byt_element σ x0)
  unfold Byt_element
  refine g_aload_n 0 0 dX1_element_0 rfl rfl ?_
  refine g_bipush (v := 7) dX1_element_1 (by decide) ?_
  refine g_callVT (fc := fun sς => Byt_small sς x0 (7 : Int32)) (ci := 1) (as := [iv (7 : Int32)]) rfl rfl rfl q1515 qs32 q1513 mdX1_197 (ctX1_small x0 (7 : Int32)) rfl (Nat.le_of_ble_eq_true rfl) (Nat.le_of_ble_eq_true rfl) (Nat.le_of_ble_eq_true rfl) pu_I (by decide) dX1_element_3 (fun r2 σ1 => ?_)
  refine g_istore_n 1 dX1_element_6 rfl (by decide) rfl ?_
  refine g_iconst (v := 0) dX1_element_7 (by decide) ?_
  refine g_istore_n 2 dX1_element_8 rfl (by decide) rfl ?_
  refine g_iload_n 1 1 dX1_element_9 rfl rfl ?_
  refine g_iconst (v := 1) dX1_element_10 (by decide) ?_
  refine g_iand dX1_element_11 ?_
  refine g_if_ne 19 dX1_element_12 (by decide) ?_ ?_
  · refine g_iconst (v := 0) dX1_element_19 (by decide) ?_
    refine G.sub [2, 1, 0] rfl ?_
    exact gX1_element_p20 _ _ _ _ _
  · refine g_iconst (v := 1) dX1_element_15 (by decide) ?_
    refine g_goto 20 dX1_element_16 (by decide) ?_
    refine G.sub [2, 1, 0] rfl ?_
    exact gX1_element_p20 _ _ _ _ _
theorem V.dX1_body_0 : decode cX1_body 0 = .ok (.aload_n 0, 1) := by decide +kernel
theorem V.dX1_body_1 : decode cX1_body 1 = .ok (.getfield 56, 3) := by decide +kernel
theorem V.dX1_body_4 : decode cX1_body 4 = .ok (.istore_n 1, 1) := by decide +kernel
theorem V.dX1_body_5 : decode cX1_body 5 = .ok (.aload_n 0, 1) := by decide +kernel
theorem V.dX1_body_6 : decode cX1_body 6 = .ok (.invokevirtual 91, 3) := by decide +kernel
theorem V.dX1_body_9 : decode cX1_body 9 = .ok (.istore_n 2, 1) := by decide +kernel
theorem V.dX1_body_10 : decode cX1_body 10 = .ok (.iload_n 2, 1) := by decide +kernel
theorem V.dX1_body_11 : decode cX1_body 11 = .ok (.invokestatic 87, 3) := by decide +kernel
theorem V.dX1_body_14 : decode cX1_body 14 = .ok (.aload_n 0, 1) := by decide +kernel
theorem V.dX1_body_15 : decode cX1_body 15 = .ok (.getfield 59, 3) := by decide +kernel
theorem V.dX1_body_18 : decode cX1_body 18 = .ok (.aload_n 0, 1) := by decide +kernel
theorem V.dX1_body_19 : decode cX1_body 19 = .ok (.getfield 56, 3) := by decide +kernel
theorem V.dX1_body_22 : decode cX1_body 22 = .ok (.isub, 1) := by decide +kernel
theorem V.dX1_body_23 : decode cX1_body 23 = .ok (.i2l, 1) := by decide +kernel
theorem V.dX1_body_24 : decode cX1_body 24 = .ok (.lcmp, 1) := by decide +kernel
theorem V.dX1_body_25 : decode cX1_body 25 = .ok (.ifCond .le 9, 3) := by decide +kernel
theorem V.dX1_body_28 : decode cX1_body 28 = .ok (.aload_n 0, 1) := by decide +kernel
theorem V.dX1_body_29 : decode cX1_body 29 = .ok (.iconst 2, 1) := by decide +kernel
theorem V.dX1_body_30 : decode cX1_body 30 = .ok (.iload_n 1, 1) := by decide +kernel
theorem V.dX1_body_31 : decode cX1_body 31 = .ok (.invokevirtual 68, 3) := by decide +kernel
theorem V.dX1_body_34 : decode cX1_body 34 = .ok (.aload_n 0, 1) := by decide +kernel
theorem V.dX1_body_35 : decode cX1_body 35 = .ok (.getfield 59, 3) := by decide +kernel
theorem V.dX1_body_38 : decode cX1_body 38 = .ok (.istore_n 3, 1) := by decide +kernel
theorem V.dX1_body_39 : decode cX1_body 39 = .ok (.aload_n 0, 1) := by decide +kernel
theorem V.dX1_body_40 : decode cX1_body 40 = .ok (.aload_n 0, 1) := by decide +kernel
theorem V.dX1_body_41 : decode cX1_body 41 = .ok (.getfield 56, 3) := by decide +kernel
theorem V.dX1_body_44 : decode cX1_body 44 = .ok (.iload_n 2, 1) := by decide +kernel
theorem V.dX1_body_45 : decode cX1_body 45 = .ok (.iadd, 1) := by decide +kernel
theorem V.dX1_body_46 : decode cX1_body 46 = .ok (.putfield 59, 3) := by decide +kernel
theorem V.dX1_body_49 : decode cX1_body 49 = .ok (.aload_n 0, 1) := by decide +kernel
theorem V.dX1_body_50 : decode cX1_body 50 = .ok (.getfield 56, 3) := by decide +kernel
theorem V.dX1_body_53 : decode cX1_body 53 = .ok (.istore 4, 2) := by decide +kernel
theorem V.dX1_body_55 : decode cX1_body 55 = .ok (.aload_n 0, 1) := by decide +kernel
theorem V.dX1_body_56 : decode cX1_body 56 = .ok (.invokevirtual 91, 3) := by decide +kernel
theorem V.dX1_body_59 : decode cX1_body 59 = .ok (.istore 5, 2) := by decide +kernel
theorem V.dX1_body_61 : decode cX1_body 61 = .ok (.aload_n 0, 1) := by decide +kernel
theorem V.dX1_body_62 : decode cX1_body 62 = .ok (.getfield 16, 3) := by decide +kernel
theorem V.dX1_body_65 : decode cX1_body 65 = .ok (.getfield 209, 3) := by decide +kernel
theorem V.dX1_body_68 : decode cX1_body 68 = .ok (.invokevirtual 122, 3) := by decide +kernel
theorem V.dX1_body_71 : decode cX1_body 71 = .ok (.istore 6, 2) := by decide +kernel
theorem V.dX1_body_73 : decode cX1_body 73 = .ok (.lconst 0, 1) := by decide +kernel
theorem V.dX1_body_74 : decode cX1_body 74 = .ok (.lstore 7, 2) := by decide +kernel
theorem V.dX1_body_76 : decode cX1_body 76 = .ok (.iconst 0, 1) := by decide +kernel
theorem V.dX1_body_77 : decode cX1_body 77 = .ok (.istore 9, 2) := by decide +kernel
theorem V.dX1_body_79 : decode cX1_body 79 = .ok (.iload 9, 2) := by decide +kernel
theorem V.dX1_body_81 : decode cX1_body 81 = .ok (.iload 5, 2) := by decide +kernel
theorem V.dX1_body_83 : decode cX1_body 83 = .ok (.if_icmp .eq 51, 3) := by decide +kernel
theorem V.dX1_body_86 : decode cX1_body 86 = .ok (.aload_n 0, 1) := by decide +kernel
theorem V.dX1_body_87 : decode cX1_body 87 = .ok (.invokevirtual 91, 3) := by decide +kernel
theorem V.dX1_body_90 : decode cX1_body 90 = .ok (.istore 10, 2) := by decide +kernel
theorem V.dX1_body_92 : decode cX1_body 92 = .ok (.aload_n 0, 1) := by decide +kernel
theorem V.dX1_body_93 : decode cX1_body 93 = .ok (.getfield 16, 3) := by decide +kernel
theorem V.dX1_body_96 : decode cX1_body 96 = .ok (.getfield 209, 3) := by decide +kernel
theorem V.dX1_body_99 : decode cX1_body 99 = .ok (.iload 10, 2) := by decide +kernel
theorem V.dX1_body_101 : decode cX1_body 101 = .ok (.invokevirtual 101, 3) := by decide +kernel
theorem V.dX1_body_104 : decode cX1_body 104 = .ok (.aload_n 0, 1) := by decide +kernel
theorem V.dX1_body_105 : decode cX1_body 105 = .ok (.getfield 16, 3) := by decide +kernel
theorem V.dX1_body_108 : decode cX1_body 108 = .ok (.getfield 209, 3) := by decide +kernel
theorem V.dX1_body_111 : decode cX1_body 111 = .ok (.aload_n 0, 1) := by decide +kernel
theorem V.dX1_body_112 : decode cX1_body 112 = .ok (.invokevirtual 124, 3) := by decide +kernel
theorem V.dX1_body_115 : decode cX1_body 115 = .ok (.invokevirtual 101, 3) := by decide +kernel
theorem V.dX1_body_118 : decode cX1_body 118 = .ok (.lload 7, 2) := by decide +kernel
theorem V.dX1_body_120 : decode cX1_body 120 = .ok (.iload 10, 2) := by decide +kernel
theorem V.dX1_body_122 : decode cX1_body 122 = .ok (.invokestatic 87, 3) := by decide +kernel
theorem V.dX1_body_125 : decode cX1_body 125 = .ok (.ladd, 1) := by decide +kernel
theorem V.dX1_body_126 : decode cX1_body 126 = .ok (.lstore 7, 2) := by decide +kernel
theorem V.dX1_body_128 : decode cX1_body 128 = .ok (.iinc 9 1, 3) := by decide +kernel
theorem V.dX1_body_131 : decode cX1_body 131 = .ok (.goto (-52), 3) := by decide +kernel
theorem V.dX1_body_134 : decode cX1_body 134 = .ok (.lload 7, 2) := by decide +kernel
theorem V.dX1_body_136 : decode cX1_body 136 = .ok (.ldc2_w 212, 3) := by decide +kernel
theorem V.dX1_body_139 : decode cX1_body 139 = .ok (.lcmp, 1) := by decide +kernel
theorem V.dX1_body_140 : decode cX1_body 140 = .ok (.ifCond .le 11, 3) := by decide +kernel
theorem V.dX1_body_143 : decode cX1_body 143 = .ok (.aload_n 0, 1) := by decide +kernel
theorem V.dX1_body_144 : decode cX1_body 144 = .ok (.bipush 12, 2) := by decide +kernel
theorem V.dX1_body_146 : decode cX1_body 146 = .ok (.iload 4, 2) := by decide +kernel
theorem V.dX1_body_148 : decode cX1_body 148 = .ok (.invokevirtual 68, 3) := by decide +kernel
theorem V.dX1_body_151 : decode cX1_body 151 = .ok (.aload_n 0, 1) := by decide +kernel
theorem V.dX1_body_152 : decode cX1_body 152 = .ok (.getfield 16, 3) := by decide +kernel
theorem V.dX1_body_155 : decode cX1_body 155 = .ok (.getfield 214, 3) := by decide +kernel
theorem V.dX1_body_158 : decode cX1_body 158 = .ok (.iload 5, 2) := by decide +kernel
theorem V.dX1_body_160 : decode cX1_body 160 = .ok (.invokevirtual 101, 3) := by decide +kernel
theorem V.dX1_body_163 : decode cX1_body 163 = .ok (.aload_n 0, 1) := by decide +kernel
theorem V.dX1_body_164 : decode cX1_body 164 = .ok (.getfield 16, 3) := by decide +kernel
theorem V.dX1_body_167 : decode cX1_body 167 = .ok (.getfield 214, 3) := by decide +kernel
theorem V.dX1_body_170 : decode cX1_body 170 = .ok (.iload 6, 2) := by decide +kernel
theorem V.dX1_body_172 : decode cX1_body 172 = .ok (.invokevirtual 101, 3) := by decide +kernel
theorem V.dX1_body_175 : decode cX1_body 175 = .ok (.aload_n 0, 1) := by decide +kernel
theorem V.dX1_body_176 : decode cX1_body 176 = .ok (.getfield 16, 3) := by decide +kernel
theorem V.dX1_body_179 : decode cX1_body 179 = .ok (.getfield 214, 3) := by decide +kernel
theorem V.dX1_body_182 : decode cX1_body 182 = .ok (.lload 7, 2) := by decide +kernel
theorem V.dX1_body_184 : decode cX1_body 184 = .ok (.l2i, 1) := by decide +kernel
theorem V.dX1_body_185 : decode cX1_body 185 = .ok (.invokevirtual 101, 3) := by decide +kernel
theorem V.dX1_body_188 : decode cX1_body 188 = .ok (.aload_n 0, 1) := by decide +kernel
theorem V.dX1_body_189 : decode cX1_body 189 = .ok (.aload_n 0, 1) := by decide +kernel
theorem V.dX1_body_190 : decode cX1_body 190 = .ok (.getfield 16, 3) := by decide +kernel
theorem V.dX1_body_193 : decode cX1_body 193 = .ok (.getfield 214, 3) := by decide +kernel
theorem V.dX1_body_196 : decode cX1_body 196 = .ok (.invokevirtual 200, 3) := by decide +kernel
theorem V.dX1_body_199 : decode cX1_body 199 = .ok (.aload_n 0, 1) := by decide +kernel
theorem V.dX1_body_200 : decode cX1_body 200 = .ok (.getfield 56, 3) := by decide +kernel
theorem V.dX1_body_203 : decode cX1_body 203 = .ok (.aload_n 0, 1) := by decide +kernel
theorem V.dX1_body_204 : decode cX1_body 204 = .ok (.getfield 59, 3) := by decide +kernel
theorem V.dX1_body_207 : decode cX1_body 207 = .ok (.if_icmp .ge 12, 3) := by decide +kernel
theorem V.dX1_body_210 : decode cX1_body 210 = .ok (.aload_n 0, 1) := by decide +kernel
theorem V.dX1_body_211 : decode cX1_body 211 = .ok (.iconst 3, 1) := by decide +kernel
theorem V.dX1_body_212 : decode cX1_body 212 = .ok (.aload_n 0, 1) := by decide +kernel
theorem V.dX1_body_213 : decode cX1_body 213 = .ok (.getfield 56, 3) := by decide +kernel
theorem V.dX1_body_216 : decode cX1_body 216 = .ok (.invokevirtual 68, 3) := by decide +kernel
theorem V.dX1_body_219 : decode cX1_body 219 = .ok (.aload_n 0, 1) := by decide +kernel
theorem V.dX1_body_220 : decode cX1_body 220 = .ok (.iload_n 3, 1) := by decide +kernel
theorem V.dX1_body_221 : decode cX1_body 221 = .ok (.putfield 59, 3) := by decide +kernel
theorem V.dX1_body_224 : decode cX1_body 224 = .ok (.return_, 1) := by decide +kernel
theorem V.fpX1_59 {nm : String} : FP RX1 nm 59 1 7 (.int) := ⟨(RX1, TX1, 10), tyX1, rfl, rfl, in_X1, by decide, tyX1_ok, nmX1, rfl, Or.inl ⟨rfl, Or.inl q547⟩⟩
theorem V.fdX1_209 : FD RX1 209 2 12 2 := ⟨(RX2, TX2, 21), tyX2, rfl, rfl, in_X2, by decide, Or.inr ⟨_, q471⟩, rfl⟩
theorem V.fdX1_214 : FD RX1 214 2 11 2 := ⟨(RX2, TX2, 21), tyX2, rfl, rfl, in_X2, by decide, Or.inr ⟨_, q467⟩, rfl⟩
/-! ModuleEngine$Bytes.body()V -/
def V.Byt_body_p219  (σ : HS) (x0 : Nat) (x3 : Int32) : Option ((Nat ⊕ Unit) × HS) :=
  ck (tg σ x0 = 2) <| bn (sI σ x0 7 x3) fun σ1 =>
  some (.inr (), σ1)
theorem V.gX1_body_p219 {X : CX}  (σ : HS) (x0 : Nat) (x3 : Int32) : G X RX1 "body" cX1_body 11 none 15 288 (enX enV (cxz X)) 219 [(0, av x0), (3, iv x3)] [] σ (Byt_body_p219 σ x0 x3) := by
  unfold Byt_body_p219
  refine g_aload_n 0 0 dX1_body_219 rfl rfl ?_
  refine g_iload_n 3 1 dX1_body_220 rfl rfl ?_
  refine g_putI fpX1_59 dX1_body_221 (fun σ1 => ?_)
  exact g_return rfl dX1_body_224
def V.Byt_body_p151  (σ : HS) (x0 : Nat) (x3 : Int32) (x5 : Int32) (x6 : Int32) (x7 : Int64) : Option ((Nat ⊕ Unit) × HS) :=
  ck (tg σ x0 = 2) <|
  ck (tg σ (gR σ x0 3) = 3) <|
  ck (tg σ (gR σ (gR σ x0 3) 11) = 4) <| cl (Row_add σ (gR σ (gR σ x0 3) 11) x5) fun _ σ1 =>
  ck (tg σ1 x0 = 2) <|
  ck (tg σ1 (gR σ1 x0 3) = 3) <|
  ck (tg σ1 (gR σ1 (gR σ1 x0 3) 11) = 4) <| cl (Row_add σ1 (gR σ1 (gR σ1 x0 3) 11) x6) fun _ σ2 =>
  ck (tg σ2 x0 = 2) <|
  ck (tg σ2 (gR σ2 x0 3) = 3) <|
  ck (tg σ2 (gR σ2 (gR σ2 x0 3) 11) = 4) <| cl (Row_add σ2 (gR σ2 (gR σ2 x0 3) 11) x7.toInt32) fun _ σ3 =>
  ck (tg σ3 x0 = 2) <|
  ck (tg σ3 (gR σ3 x0 3) = 3) <|
  ck (tg σ3 x0 = 2) <| clT (Byt_expression σ3 x0 (gR σ3 (gR σ3 x0 3) 11)) fun _ σ4 =>
  ck (tg σ4 x0 = 2) <|
  ck (tg σ4 x0 = 2) <|
  if (gI σ4 x0 7) ≤ (gI σ4 x0 6) then (
    Byt_body_p219 σ4 x0 x3)
  else (
    ck (tg σ4 x0 = 2) <|
    ck (tg σ4 x0 = 2) <| clT (Byt_stop σ4 x0 (3 : Int32) (gI σ4 x0 6)) fun _ σ5 =>
    Byt_body_p219 σ5 x0 x3)
theorem V.gX1_body_p151 {X : CX}  (σ : HS) (x0 : Nat) (x3 : Int32) (x5 : Int32) (x6 : Int32) (x7 : Int64) : G X RX1 "body" cX1_body 11 none 15 288 (enX enV (cxz X)) 151 [(0, av x0), (3, iv x3), (5, iv x5), (6, iv x6), (7, jv x7)] [] σ (Byt_body_p151 σ x0 x3 x5 x6 x7) := by
  unfold Byt_body_p151
  refine g_aload_n 0 0 dX1_body_151 rfl rfl ?_
  refine g_getR fdX1_16 dX1_body_152 ?_
  refine g_getR fdX1_214 dX1_body_155 ?_
  refine g_iload 2 dX1_body_158 rfl ?_
  refine g_callV (fc := fun sς => Row_add sς (gR σ (gR σ x0 3) 11) x5) (ci := 3) (as := [iv x5]) rfl rfl rfl q1405 q1406 mdX1_101 (ctX3_add (gR σ (gR σ x0 3) 11) x5) rfl (Nat.le_of_ble_eq_true rfl) (Nat.le_of_ble_eq_true rfl) (Nat.le_of_ble_eq_true rfl) pu_V dX1_body_160 (fun _ σ1 => ?_)
  refine g_aload_n 0 0 dX1_body_163 rfl rfl ?_
  refine g_getR fdX1_16 dX1_body_164 ?_
  refine g_getR fdX1_214 dX1_body_167 ?_
  refine g_iload 3 dX1_body_170 rfl ?_
  refine g_callV (fc := fun sς => Row_add sς (gR σ1 (gR σ1 x0 3) 11) x6) (ci := 3) (as := [iv x6]) rfl rfl rfl q1405 q1406 mdX1_101 (ctX3_add (gR σ1 (gR σ1 x0 3) 11) x6) rfl (Nat.le_of_ble_eq_true rfl) (Nat.le_of_ble_eq_true rfl) (Nat.le_of_ble_eq_true rfl) pu_V dX1_body_172 (fun _ σ2 => ?_)
  refine g_aload_n 0 0 dX1_body_175 rfl rfl ?_
  refine g_getR fdX1_16 dX1_body_176 ?_
  refine g_getR fdX1_214 dX1_body_179 ?_
  refine g_lload 4 dX1_body_182 rfl ?_
  refine g_l2i dX1_body_184 ?_
  refine g_callV (fc := fun sς => Row_add sς (gR σ2 (gR σ2 x0 3) 11) x7.toInt32) (ci := 3) (as := [iv x7.toInt32]) rfl rfl rfl q1405 q1406 mdX1_101 (ctX3_add (gR σ2 (gR σ2 x0 3) 11) x7.toInt32) rfl (Nat.le_of_ble_eq_true rfl) (Nat.le_of_ble_eq_true rfl) (Nat.le_of_ble_eq_true rfl) pu_V dX1_body_185 (fun _ σ3 => ?_)
  refine g_aload_n 0 0 dX1_body_188 rfl rfl ?_
  refine g_aload_n 0 0 dX1_body_189 rfl rfl ?_
  refine g_getR fdX1_16 dX1_body_190 ?_
  refine g_getR fdX1_214 dX1_body_193 ?_
  refine g_callVT (fc := fun sς => Byt_expression sς x0 (gR σ3 (gR σ3 x0 3) 11)) (ci := 1) (as := [av (gR σ3 (gR σ3 x0 3) 11)]) rfl rfl rfl q1468 qs22 q1466 mdX1_200 (ctX1_expression x0 (gR σ3 (gR σ3 x0 3) 11)) rfl (Nat.le_of_ble_eq_true rfl) (Nat.le_of_ble_eq_true rfl) (Nat.le_of_ble_eq_true rfl) pu_V (by decide) dX1_body_196 (fun _ σ4 => ?_)
  refine g_aload_n 0 0 dX1_body_199 rfl rfl ?_
  refine g_getI fdX1_56 dX1_body_200 ?_
  refine g_aload_n 0 0 dX1_body_203 rfl rfl ?_
  refine g_getI fdX1_59 dX1_body_204 ?_
  refine g_icmp_ge 219 dX1_body_207 (by decide) ?_ ?_
  · refine G.sub [0, 1] rfl ?_
    exact gX1_body_p219 _ _ _
  · refine g_aload_n 0 0 dX1_body_210 rfl rfl ?_
    refine g_iconst (v := 3) dX1_body_211 (by decide) ?_
    refine g_aload_n 0 0 dX1_body_212 rfl rfl ?_
    refine g_getI fdX1_56 dX1_body_213 ?_
    refine g_callVT (fc := fun sς => Byt_stop sς x0 (3 : Int32) (gI σ4 x0 6)) (ci := 1) (as := [iv (3 : Int32), iv (gI σ4 x0 6)]) rfl rfl rfl q1295 qs3 q1293 mdX1_68 (ctX1_stop x0 (3 : Int32) (gI σ4 x0 6)) rfl (Nat.le_of_ble_eq_true rfl) (Nat.le_of_ble_eq_true rfl) (Nat.le_of_ble_eq_true rfl) pu_V (by decide) dX1_body_216 (fun _ σ5 => ?_)
    refine G.sub [0, 1] rfl ?_
    exact gX1_body_p219 _ _ _
def V.Byt_body_p79  : Nat → HS → Nat → Int32 → Int32 → Int32 → Int32 → Int64 → Int32 → Option ((Nat ⊕ Unit) × HS)
  | 0, _, _, _, _, _, _, _, _ => none
  | n + 1, σ, x0, x3, x4, x5, x6, x7, x9 =>
    if x9 = x5 then (
      if x7 ≤ (4294967295 : Int64) then (
        Byt_body_p151 σ x0 x3 x5 x6 x7)
      else (
        ck (tg σ x0 = 2) <| clT (Byt_stop σ x0 (12 : Int32) x4) fun _ σ1 =>
        Byt_body_p151 σ1 x0 x3 x5 x6 x7))
    else (
      ck (tg σ x0 = 2) <| clT (Byt_whole σ x0 ) fun r3 σ2 =>
      ck (tg σ2 x0 = 2) <|
      ck (tg σ2 (gR σ2 x0 3) = 3) <|
      ck (tg σ2 (gR σ2 (gR σ2 x0 3) 12) = 4) <| cl (Row_add σ2 (gR σ2 (gR σ2 x0 3) 12) r3) fun _ σ4 =>
      ck (tg σ4 x0 = 2) <|
      ck (tg σ4 (gR σ4 x0 3) = 3) <|
      ck (tg σ4 x0 = 2) <| clT (Byt_valueType σ4 x0 ) fun r6 σ5 =>
      ck (tg σ5 (gR σ4 (gR σ4 x0 3) 12) = 4) <| cl (Row_add σ5 (gR σ4 (gR σ4 x0 3) 12) r6) fun _ σ7 =>
      cl (Mod_wide σ7 r3) fun r9 σ8 =>
      bn (x7 + r9) fun y10 =>
      bn (x9 + (1 : Int32)) fun y11 =>
      Byt_body_p79 n σ8 x0 x3 x4 x5 x6 y10 y11)
theorem V.gX1_body_p79 {X : CX}  : ∀ (n : Nat) (σ : HS) (x0 : Nat) (x3 : Int32) (x4 : Int32) (x5 : Int32) (x6 : Int32) (x7 : Int64) (x9 : Int32), G X RX1 "body" cX1_body 11 none 15 288 (enX enV (cxz X)) 79 [(0, av x0), (3, iv x3), (4, iv x4), (5, iv x5), (6, iv x6), (7, jv x7), (9, iv x9)] [] σ (Byt_body_p79 n σ x0 x3 x4 x5 x6 x7 x9)
  | 0, σ, x0, x3, x4, x5, x6, x7, x9 => by rw [Byt_body_p79]; exact G.nul
  | n + 1, σ, x0, x3, x4, x5, x6, x7, x9 => by
    rw [Byt_body_p79]
    refine g_iload 6 dX1_body_79 rfl ?_
    refine g_iload 3 dX1_body_81 rfl ?_
    refine g_icmp_eq 134 dX1_body_83 (by decide) ?_ ?_
    · refine g_lload 5 dX1_body_134 rfl ?_
      refine g_ldc2 q1521 dX1_body_136 ?_
      refine g_lcmp_le 151 dX1_body_139 dX1_body_140 (by decide) ?_ ?_
      · refine G.sub [0, 1, 3, 4, 5] rfl ?_
        exact gX1_body_p151 _ _ _ _ _ _
      · refine g_aload_n 0 0 dX1_body_143 rfl rfl ?_
        refine g_bipush (v := 12) dX1_body_144 (by decide) ?_
        refine g_iload 2 dX1_body_146 rfl ?_
        refine g_callVT (fc := fun sς => Byt_stop sς x0 (12 : Int32) x4) (ci := 1) (as := [iv (12 : Int32), iv x4]) rfl rfl rfl q1295 qs3 q1293 mdX1_68 (ctX1_stop x0 (12 : Int32) x4) rfl (Nat.le_of_ble_eq_true rfl) (Nat.le_of_ble_eq_true rfl) (Nat.le_of_ble_eq_true rfl) pu_V (by decide) dX1_body_148 (fun _ σ1 => ?_)
        refine G.sub [0, 1, 3, 4, 5] rfl ?_
        exact gX1_body_p151 _ _ _ _ _ _
    · refine g_aload_n 0 0 dX1_body_86 rfl rfl ?_
      refine g_callVT (fc := fun sς => Byt_whole sς x0 ) (ci := 1) (as := []) rfl rfl rfl q1365 qs5 q1363 mdX1_91 (ctX1_whole x0 ) rfl (Nat.le_of_ble_eq_true rfl) (Nat.le_of_ble_eq_true rfl) (Nat.le_of_ble_eq_true rfl) pu_I (by decide) dX1_body_87 (fun r3 σ2 => ?_)
      refine g_istore dX1_body_90 (by decide) rfl ?_
      refine g_aload_n 0 1 dX1_body_92 rfl rfl ?_
      refine g_getR fdX1_16 dX1_body_93 ?_
      refine g_getR fdX1_209 dX1_body_96 ?_
      refine g_iload 0 dX1_body_99 rfl ?_
      refine g_callV (fc := fun sς => Row_add sς (gR σ2 (gR σ2 x0 3) 12) r3) (ci := 3) (as := [iv r3]) rfl rfl rfl q1405 q1406 mdX1_101 (ctX3_add (gR σ2 (gR σ2 x0 3) 12) r3) rfl (Nat.le_of_ble_eq_true rfl) (Nat.le_of_ble_eq_true rfl) (Nat.le_of_ble_eq_true rfl) pu_V dX1_body_101 (fun _ σ4 => ?_)
      refine g_aload_n 0 1 dX1_body_104 rfl rfl ?_
      refine g_getR fdX1_16 dX1_body_105 ?_
      refine g_getR fdX1_209 dX1_body_108 ?_
      refine g_aload_n 0 1 dX1_body_111 rfl rfl ?_
      refine g_callVT (fc := fun sς => Byt_valueType sς x0 ) (ci := 1) (as := []) rfl rfl rfl q1426 qs14 q1424 mdX1_124 (ctX1_valueType x0 ) rfl (Nat.le_of_ble_eq_true rfl) (Nat.le_of_ble_eq_true rfl) (Nat.le_of_ble_eq_true rfl) pu_I (by decide) dX1_body_112 (fun r6 σ5 => ?_)
      refine g_callV (fc := fun sς => Row_add sς (gR σ4 (gR σ4 x0 3) 12) r6) (ci := 3) (as := [iv r6]) rfl rfl rfl q1405 q1406 mdX1_101 (ctX3_add (gR σ4 (gR σ4 x0 3) 12) r6) rfl (Nat.le_of_ble_eq_true rfl) (Nat.le_of_ble_eq_true rfl) (Nat.le_of_ble_eq_true rfl) pu_V dX1_body_115 (fun _ σ7 => ?_)
      refine g_lload 6 dX1_body_118 rfl ?_
      refine g_iload 0 dX1_body_120 rfl ?_
      refine g_callS (fc := fun sς => Mod_wide sς r3) (as := [iv r3]) q1376 mdX1_87 (ctX2_wide r3) rfl (Nat.le_of_ble_eq_true rfl) (Nat.le_of_ble_eq_true rfl) (Nat.le_of_ble_eq_true rfl) pu_J dX1_body_122 (fun r9 σ8 => ?_)
      refine g_ladd dX1_body_125 ?_
      refine g_nmJ (fun y10 => ?_)
      refine g_lstore dX1_body_126 (by decide) rfl ?_
      refine g_iincB (w := 1) 7 dX1_body_128 rfl (by decide) (by decide) (fun _ => rfl) (fun y11 => ?_)
      refine g_goto 79 dX1_body_131 (by decide) ?_
      refine G.sub [3, 4, 5, 6, 7, 1, 0] rfl ?_
      exact gX1_body_p79 n _ _ _ _ _ _ _ _
def V.Byt_body_p34  (σ : HS) (x0 : Nat) (x2 : Int32) : Option ((Nat ⊕ Unit) × HS) :=
  ck (tg σ x0 = 2) <|
  bn (gI σ x0 7) fun y1 =>
  ck (tg σ x0 = 2) <|
  ck (tg σ x0 = 2) <| bn (sI σ x0 7 ((gI σ x0 6) + x2)) fun σ2 =>
  ck (tg σ2 x0 = 2) <|
  bn (gI σ2 x0 6) fun y3 =>
  ck (tg σ2 x0 = 2) <| clT (Byt_whole σ2 x0 ) fun r5 σ4 =>
  ck (tg σ4 x0 = 2) <|
  ck (tg σ4 (gR σ4 x0 3) = 3) <|
  ck (tg σ4 (gR σ4 (gR σ4 x0 3) 12) = 4) <| cl (Row_size σ4 (gR σ4 (gR σ4 x0 3) 12) ) fun r7 σ6 =>
  Byt_body_p79 FU σ6 x0 y1 y3 r5 r7 (0 : Int64) (0 : Int32)
theorem V.gX1_body_p34 {X : CX}  (σ : HS) (x0 : Nat) (x2 : Int32) : G X RX1 "body" cX1_body 11 none 15 288 (enX enV (cxz X)) 34 [(0, av x0), (2, iv x2)] [] σ (Byt_body_p34 σ x0 x2) := by
  unfold Byt_body_p34
  refine g_aload_n 0 0 dX1_body_34 rfl rfl ?_
  refine g_getI fdX1_59 dX1_body_35 ?_
  refine g_nmI (fun y1 => ?_)
  refine g_istore_n 3 dX1_body_38 rfl (by decide) rfl ?_
  refine g_aload_n 0 1 dX1_body_39 rfl rfl ?_
  refine g_aload_n 0 1 dX1_body_40 rfl rfl ?_
  refine g_getI fdX1_56 dX1_body_41 ?_
  refine g_iload_n 2 2 dX1_body_44 rfl rfl ?_
  refine g_iadd dX1_body_45 ?_
  refine g_putI fpX1_59 dX1_body_46 (fun σ2 => ?_)
  refine g_aload_n 0 1 dX1_body_49 rfl rfl ?_
  refine g_getI fdX1_56 dX1_body_50 ?_
  refine g_nmI (fun y3 => ?_)
  refine g_istore dX1_body_53 (by decide) rfl ?_
  refine g_aload_n 0 2 dX1_body_55 rfl rfl ?_
  refine g_callVT (fc := fun sς => Byt_whole sς x0 ) (ci := 1) (as := []) rfl rfl rfl q1365 qs5 q1363 mdX1_91 (ctX1_whole x0 ) rfl (Nat.le_of_ble_eq_true rfl) (Nat.le_of_ble_eq_true rfl) (Nat.le_of_ble_eq_true rfl) pu_I (by decide) dX1_body_56 (fun r5 σ4 => ?_)
  refine g_istore dX1_body_59 (by decide) rfl ?_
  refine g_aload_n 0 3 dX1_body_61 rfl rfl ?_
  refine g_getR fdX1_16 dX1_body_62 ?_
  refine g_getR fdX1_209 dX1_body_65 ?_
  refine g_callV (fc := fun sς => Row_size sς (gR σ4 (gR σ4 x0 3) 12) ) (ci := 3) (as := []) rfl rfl rfl q1421 q1422 mdX1_122 (ctX3_size (gR σ4 (gR σ4 x0 3) 12) ) rfl (Nat.le_of_ble_eq_true rfl) (Nat.le_of_ble_eq_true rfl) (Nat.le_of_ble_eq_true rfl) pu_I dX1_body_68 (fun r7 σ6 => ?_)
  refine g_istore dX1_body_71 (by decide) rfl ?_
  refine g_lconst (v := 0) dX1_body_73 (by decide) ?_
  refine g_lstore dX1_body_74 (by decide) rfl ?_
  refine g_iconst (v := 0) dX1_body_76 (by decide) ?_
  refine g_istore dX1_body_77 (by decide) rfl ?_
  refine G.sub [6, 5, 4, 3, 2, 1, 0] rfl ?_
  exact gX1_body_p79 FU _ _ _ _ _ _ _ _
def V.Byt_body (σ : HS) (x0 : Nat) : Option ((Nat ⊕ Unit) × HS) :=
  ck (tg σ x0 = 2) <|
  bn (gI σ x0 6) fun y1 =>
  ck (tg σ x0 = 2) <| clT (Byt_whole σ x0 ) fun r3 σ2 =>
  cl (Mod_wide σ2 r3) fun r5 σ4 =>
  ck (tg σ4 x0 = 2) <|
  ck (tg σ4 x0 = 2) <|
  if r5 ≤ (((gI σ4 x0 7) - (gI σ4 x0 6)).toInt64) then (
    Byt_body_p34 σ4 x0 r3)
  else (
    ck (tg σ4 x0 = 2) <| clT (Byt_stop σ4 x0 (2 : Int32) y1) fun _ σ6 =>
    Byt_body_p34 σ6 x0 r3)
theorem V.ctX1_body (x0 : Nat) : Ct yX1_body  cX1_body 11 none 15 288 eXV [av x0] (fun σ => Byt_body σ x0) := by
  refine Ct.of (own := RX1) (nm := "body") (desc := "()V") rfl (by decide) (Nat.le_of_ble_eq_true rfl) (by decide) (fun X σ => ?_)
  show G X RX1 "body" cX1_body 11 none 15 288 (enX enV (cxz X)) 0 [(0, av x0)] [] σ (Byt_body σ x0)
  unfold Byt_body
  refine g_aload_n 0 0 dX1_body_0 rfl rfl ?_
  refine g_getI fdX1_56 dX1_body_1 ?_
  refine g_nmI (fun y1 => ?_)
  refine g_istore_n 1 dX1_body_4 rfl (by decide) rfl ?_
  refine g_aload_n 0 1 dX1_body_5 rfl rfl ?_
  refine g_callVT (fc := fun sς => Byt_whole sς x0 ) (ci := 1) (as := []) rfl rfl rfl q1365 qs5 q1363 mdX1_91 (ctX1_whole x0 ) rfl (Nat.le_of_ble_eq_true rfl) (Nat.le_of_ble_eq_true rfl) (Nat.le_of_ble_eq_true rfl) pu_I (by decide) dX1_body_6 (fun r3 σ2 => ?_)
  refine g_istore_n 2 dX1_body_9 rfl (by decide) rfl ?_
  refine g_iload_n 2 0 dX1_body_10 rfl rfl ?_
  refine g_callS (fc := fun sς => Mod_wide sς r3) (as := [iv r3]) q1376 mdX1_87 (ctX2_wide r3) rfl (Nat.le_of_ble_eq_true rfl) (Nat.le_of_ble_eq_true rfl) (Nat.le_of_ble_eq_true rfl) pu_J dX1_body_11 (fun r5 σ4 => ?_)
  refine g_aload_n 0 2 dX1_body_14 rfl rfl ?_
  refine g_getI fdX1_59 dX1_body_15 ?_
  refine g_aload_n 0 2 dX1_body_18 rfl rfl ?_
  refine g_getI fdX1_56 dX1_body_19 ?_
  refine g_isub dX1_body_22 ?_
  refine g_i2l dX1_body_23 ?_
  refine g_lcmp_le 34 dX1_body_24 dX1_body_25 (by decide) ?_ ?_
  · refine G.sub [2, 0] rfl ?_
    exact gX1_body_p34 _ _ _
  · refine g_aload_n 0 2 dX1_body_28 rfl rfl ?_
    refine g_iconst (v := 2) dX1_body_29 (by decide) ?_
    refine g_iload_n 1 1 dX1_body_30 rfl rfl ?_
    refine g_callVT (fc := fun sς => Byt_stop sς x0 (2 : Int32) y1) (ci := 1) (as := [iv (2 : Int32), iv y1]) rfl rfl rfl q1295 qs3 q1293 mdX1_68 (ctX1_stop x0 (2 : Int32) y1) rfl (Nat.le_of_ble_eq_true rfl) (Nat.le_of_ble_eq_true rfl) (Nat.le_of_ble_eq_true rfl) pu_V (by decide) dX1_body_31 (fun _ σ6 => ?_)
    refine G.sub [2, 0] rfl ?_
    exact gX1_body_p34 _ _ _
theorem V.dX1_datum_0 : decode cX1_datum 0 = .ok (.aload_n 0, 1) := by decide +kernel
theorem V.dX1_datum_1 : decode cX1_datum 1 = .ok (.iconst 2, 1) := by decide +kernel
theorem V.dX1_datum_2 : decode cX1_datum 2 = .ok (.invokevirtual 197, 3) := by decide +kernel
theorem V.dX1_datum_5 : decode cX1_datum 5 = .ok (.istore_n 1, 1) := by decide +kernel
theorem V.dX1_datum_6 : decode cX1_datum 6 = .ok (.aload_n 0, 1) := by decide +kernel
theorem V.dX1_datum_7 : decode cX1_datum 7 = .ok (.getfield 16, 3) := by decide +kernel
theorem V.dX1_datum_10 : decode cX1_datum 10 = .ok (.getfield 217, 3) := by decide +kernel
theorem V.dX1_datum_13 : decode cX1_datum 13 = .ok (.astore_n 2, 1) := by decide +kernel
theorem V.dX1_datum_14 : decode cX1_datum 14 = .ok (.aload_n 0, 1) := by decide +kernel
theorem V.dX1_datum_15 : decode cX1_datum 15 = .ok (.getfield 31, 3) := by decide +kernel
theorem V.dX1_datum_18 : decode cX1_datum 18 = .ok (.astore_n 3, 1) := by decide +kernel
theorem V.dX1_datum_19 : decode cX1_datum 19 = .ok (.aload_n 3, 1) := by decide +kernel
theorem V.dX1_datum_20 : decode cX1_datum 20 = .ok (.iconst 0, 1) := by decide +kernel
theorem V.dX1_datum_21 : decode cX1_datum 21 = .ok (.invokevirtual 170, 3) := by decide +kernel
theorem V.dX1_datum_24 : decode cX1_datum 24 = .ok (.iload_n 1, 1) := by decide +kernel
theorem V.dX1_datum_25 : decode cX1_datum 25 = .ok (.iconst 2, 1) := by decide +kernel
theorem V.dX1_datum_26 : decode cX1_datum 26 = .ok (.if_icmp .ne 10, 3) := by decide +kernel
theorem V.dX1_datum_29 : decode cX1_datum 29 = .ok (.aload_n 0, 1) := by decide +kernel
theorem V.dX1_datum_30 : decode cX1_datum 30 = .ok (.invokevirtual 91, 3) := by decide +kernel
theorem V.dX1_datum_33 : decode cX1_datum 33 = .ok (.goto 4, 3) := by decide +kernel
theorem V.dX1_datum_36 : decode cX1_datum 36 = .ok (.iconst 0, 1) := by decide +kernel
theorem V.dX1_datum_37 : decode cX1_datum 37 = .ok (.istore 4, 2) := by decide +kernel
theorem V.dX1_datum_39 : decode cX1_datum 39 = .ok (.iload_n 1, 1) := by decide +kernel
theorem V.dX1_datum_40 : decode cX1_datum 40 = .ok (.iconst 1, 1) := by decide +kernel
theorem V.dX1_datum_41 : decode cX1_datum 41 = .ok (.if_icmp .eq 8, 3) := by decide +kernel
theorem V.dX1_datum_44 : decode cX1_datum 44 = .ok (.aload_n 0, 1) := by decide +kernel
theorem V.dX1_datum_45 : decode cX1_datum 45 = .ok (.aload_n 3, 1) := by decide +kernel
theorem V.dX1_datum_46 : decode cX1_datum 46 = .ok (.invokevirtual 200, 3) := by decide +kernel
theorem V.dX1_datum_49 : decode cX1_datum 49 = .ok (.aload_n 0, 1) := by decide +kernel
theorem V.dX1_datum_50 : decode cX1_datum 50 = .ok (.invokevirtual 91, 3) := by decide +kernel
theorem V.dX1_datum_53 : decode cX1_datum 53 = .ok (.istore 5, 2) := by decide +kernel
theorem V.dX1_datum_55 : decode cX1_datum 55 = .ok (.aload_n 0, 1) := by decide +kernel
theorem V.dX1_datum_56 : decode cX1_datum 56 = .ok (.iload 5, 2) := by decide +kernel
theorem V.dX1_datum_58 : decode cX1_datum 58 = .ok (.invokevirtual 94, 3) := by decide +kernel
theorem V.dX1_datum_61 : decode cX1_datum 61 = .ok (.istore 6, 2) := by decide +kernel
theorem V.dX1_datum_63 : decode cX1_datum 63 = .ok (.aload_n 2, 1) := by decide +kernel
theorem V.dX1_datum_64 : decode cX1_datum 64 = .ok (.iload_n 1, 1) := by decide +kernel
theorem V.dX1_datum_65 : decode cX1_datum 65 = .ok (.iconst 1, 1) := by decide +kernel
theorem V.dX1_datum_66 : decode cX1_datum 66 = .ok (.if_icmp .ne 7, 3) := by decide +kernel
theorem V.dX1_datum_69 : decode cX1_datum 69 = .ok (.iconst 0, 1) := by decide +kernel
theorem V.dX1_datum_70 : decode cX1_datum 70 = .ok (.goto 4, 3) := by decide +kernel
theorem V.dX1_datum_73 : decode cX1_datum 73 = .ok (.iconst 1, 1) := by decide +kernel
theorem V.dX1_datum_74 : decode cX1_datum 74 = .ok (.invokevirtual 101, 3) := by decide +kernel
theorem V.dX1_datum_77 : decode cX1_datum 77 = .ok (.aload_n 2, 1) := by decide +kernel
theorem V.dX1_datum_78 : decode cX1_datum 78 = .ok (.iload 4, 2) := by decide +kernel
theorem V.dX1_datum_80 : decode cX1_datum 80 = .ok (.invokevirtual 101, 3) := by decide +kernel
theorem V.dX1_datum_83 : decode cX1_datum 83 = .ok (.aload_n 2, 1) := by decide +kernel
theorem V.dX1_datum_84 : decode cX1_datum 84 = .ok (.iload 5, 2) := by decide +kernel
theorem V.dX1_datum_86 : decode cX1_datum 86 = .ok (.invokevirtual 101, 3) := by decide +kernel
theorem V.dX1_datum_89 : decode cX1_datum 89 = .ok (.aload_n 2, 1) := by decide +kernel
theorem V.dX1_datum_90 : decode cX1_datum 90 = .ok (.iload_n 1, 1) := by decide +kernel
theorem V.dX1_datum_91 : decode cX1_datum 91 = .ok (.iconst 1, 1) := by decide +kernel
theorem V.dX1_datum_92 : decode cX1_datum 92 = .ok (.if_icmp .ne 7, 3) := by decide +kernel
theorem V.dX1_datum_95 : decode cX1_datum 95 = .ok (.iconst (-1), 1) := by decide +kernel
theorem V.dX1_datum_96 : decode cX1_datum 96 = .ok (.goto 8, 3) := by decide +kernel
theorem V.dX1_datum_99 : decode cX1_datum 99 = .ok (.aload_n 3, 1) := by decide +kernel
theorem V.dX1_datum_100 : decode cX1_datum 100 = .ok (.iconst 0, 1) := by decide +kernel
theorem V.dX1_datum_101 : decode cX1_datum 101 = .ok (.invokevirtual 149, 3) := by decide +kernel
theorem V.dX1_datum_104 : decode cX1_datum 104 = .ok (.invokevirtual 101, 3) := by decide +kernel
theorem V.dX1_datum_107 : decode cX1_datum 107 = .ok (.aload_n 2, 1) := by decide +kernel
theorem V.dX1_datum_108 : decode cX1_datum 108 = .ok (.iload_n 1, 1) := by decide +kernel
theorem V.dX1_datum_109 : decode cX1_datum 109 = .ok (.iconst 1, 1) := by decide +kernel
theorem V.dX1_datum_110 : decode cX1_datum 110 = .ok (.if_icmp .ne 7, 3) := by decide +kernel
theorem V.dX1_datum_113 : decode cX1_datum 113 = .ok (.iconst (-1), 1) := by decide +kernel
theorem V.dX1_datum_114 : decode cX1_datum 114 = .ok (.goto 8, 3) := by decide +kernel
theorem V.dX1_datum_117 : decode cX1_datum 117 = .ok (.aload_n 3, 1) := by decide +kernel
theorem V.dX1_datum_118 : decode cX1_datum 118 = .ok (.iconst 1, 1) := by decide +kernel
theorem V.dX1_datum_119 : decode cX1_datum 119 = .ok (.invokevirtual 149, 3) := by decide +kernel
theorem V.dX1_datum_122 : decode cX1_datum 122 = .ok (.invokevirtual 101, 3) := by decide +kernel
theorem V.dX1_datum_125 : decode cX1_datum 125 = .ok (.aload_n 2, 1) := by decide +kernel
theorem V.dX1_datum_126 : decode cX1_datum 126 = .ok (.iload 6, 2) := by decide +kernel
theorem V.dX1_datum_128 : decode cX1_datum 128 = .ok (.invokevirtual 101, 3) := by decide +kernel
theorem V.dX1_datum_131 : decode cX1_datum 131 = .ok (.return_, 1) := by decide +kernel
theorem V.fdX1_217 : FD RX1 217 2 13 2 := ⟨(RX2, TX2, 21), tyX2, rfl, rfl, in_X2, by decide, Or.inr ⟨_, q475⟩, rfl⟩
/-! ModuleEngine$Bytes.datum()V -/
def V.Byt_datum_p122  (σ : HS) (x2 : Nat) (x6 : Int32) (s0 : Int32) (s1 : Nat) : Option ((Nat ⊕ Unit) × HS) :=
  ck (tg σ s1 = 4) <| cl (Row_add σ s1 s0) fun _ σ1 =>
  ck (tg σ1 x2 = 4) <| cl (Row_add σ1 x2 x6) fun _ σ2 =>
  some (.inr (), σ2)
theorem V.gX1_datum_p122 {X : CX}  (σ : HS) (x2 : Nat) (x6 : Int32) (s0 : Int32) (s1 : Nat) : G X RX1 "datum" cX1_datum 7 none 15 288 (enX enV (cxz X)) 122 [(2, av x2), (6, iv x6)] [iv s0, av s1] σ (Byt_datum_p122 σ x2 x6 s0 s1) := by
  unfold Byt_datum_p122
  refine g_callV (fc := fun sς => Row_add sς s1 s0) (ci := 3) (as := [iv s0]) rfl rfl rfl q1405 q1406 mdX1_101 (ctX3_add s1 s0) rfl (Nat.le_of_ble_eq_true rfl) (Nat.le_of_ble_eq_true rfl) (Nat.le_of_ble_eq_true rfl) pu_V dX1_datum_122 (fun _ σ1 => ?_)
  refine g_aload_n 2 0 dX1_datum_125 rfl rfl ?_
  refine g_iload 1 dX1_datum_126 rfl ?_
  refine g_callV (fc := fun sς => Row_add sς x2 x6) (ci := 3) (as := [iv x6]) rfl rfl rfl q1405 q1406 mdX1_101 (ctX3_add x2 x6) rfl (Nat.le_of_ble_eq_true rfl) (Nat.le_of_ble_eq_true rfl) (Nat.le_of_ble_eq_true rfl) pu_V dX1_datum_128 (fun _ σ2 => ?_)
  exact g_return rfl dX1_datum_131
def V.Byt_datum_p104  (σ : HS) (x1 : Int32) (x2 : Nat) (x3 : Nat) (x6 : Int32) (s0 : Int32) (s1 : Nat) : Option ((Nat ⊕ Unit) × HS) :=
  ck (tg σ s1 = 4) <| cl (Row_add σ s1 s0) fun _ σ1 =>
  if x1 = (1 : Int32) then (
    Byt_datum_p122 σ1 x2 x6 (-1 : Int32) x2)
  else (
    ck (tg σ1 x3 = 4) <| cl (Row_at σ1 x3 (1 : Int32)) fun r3 σ2 =>
    Byt_datum_p122 σ2 x2 x6 r3 x2)
theorem V.gX1_datum_p104 {X : CX}  (σ : HS) (x1 : Int32) (x2 : Nat) (x3 : Nat) (x6 : Int32) (s0 : Int32) (s1 : Nat) : G X RX1 "datum" cX1_datum 7 none 15 288 (enX enV (cxz X)) 104 [(1, iv x1), (2, av x2), (3, av x3), (6, iv x6)] [iv s0, av s1] σ (Byt_datum_p104 σ x1 x2 x3 x6 s0 s1) := by
  unfold Byt_datum_p104
  refine g_callV (fc := fun sς => Row_add sς s1 s0) (ci := 3) (as := [iv s0]) rfl rfl rfl q1405 q1406 mdX1_101 (ctX3_add s1 s0) rfl (Nat.le_of_ble_eq_true rfl) (Nat.le_of_ble_eq_true rfl) (Nat.le_of_ble_eq_true rfl) pu_V dX1_datum_104 (fun _ σ1 => ?_)
  refine g_aload_n 2 1 dX1_datum_107 rfl rfl ?_
  refine g_iload_n 1 0 dX1_datum_108 rfl rfl ?_
  refine g_iconst (v := 1) dX1_datum_109 (by decide) ?_
  refine g_icmp_ne 117 dX1_datum_110 (by decide) ?_ ?_
  · refine g_aload_n 3 2 dX1_datum_117 rfl rfl ?_
    refine g_iconst (v := 1) dX1_datum_118 (by decide) ?_
    refine g_callV (fc := fun sς => Row_at sς x3 (1 : Int32)) (ci := 3) (as := [iv (1 : Int32)]) rfl rfl rfl q1409 q1410 mdX1_149 (ctX3_at x3 (1 : Int32)) rfl (Nat.le_of_ble_eq_true rfl) (Nat.le_of_ble_eq_true rfl) (Nat.le_of_ble_eq_true rfl) pu_I dX1_datum_119 (fun r3 σ2 => ?_)
    refine G.sub [1, 3] rfl ?_
    exact gX1_datum_p122 _ _ _ _ _
  · refine g_iconst (v := (-1)) dX1_datum_113 (by decide) ?_
    refine g_goto 122 dX1_datum_114 (by decide) ?_
    refine G.sub [1, 3] rfl ?_
    exact gX1_datum_p122 _ _ _ _ _
def V.Byt_datum_p74  (σ : HS) (x1 : Int32) (x2 : Nat) (x3 : Nat) (x4 : Int32) (x5 : Int32) (x6 : Int32) (s0 : Int32) (s1 : Nat) : Option ((Nat ⊕ Unit) × HS) :=
  ck (tg σ s1 = 4) <| cl (Row_add σ s1 s0) fun _ σ1 =>
  ck (tg σ1 x2 = 4) <| cl (Row_add σ1 x2 x4) fun _ σ2 =>
  ck (tg σ2 x2 = 4) <| cl (Row_add σ2 x2 x5) fun _ σ3 =>
  if x1 = (1 : Int32) then (
    Byt_datum_p104 σ3 x1 x2 x3 x6 (-1 : Int32) x2)
  else (
    ck (tg σ3 x3 = 4) <| cl (Row_at σ3 x3 (0 : Int32)) fun r5 σ4 =>
    Byt_datum_p104 σ4 x1 x2 x3 x6 r5 x2)
theorem V.gX1_datum_p74 {X : CX}  (σ : HS) (x1 : Int32) (x2 : Nat) (x3 : Nat) (x4 : Int32) (x5 : Int32) (x6 : Int32) (s0 : Int32) (s1 : Nat) : G X RX1 "datum" cX1_datum 7 none 15 288 (enX enV (cxz X)) 74 [(1, iv x1), (2, av x2), (3, av x3), (4, iv x4), (5, iv x5), (6, iv x6)] [iv s0, av s1] σ (Byt_datum_p74 σ x1 x2 x3 x4 x5 x6 s0 s1) := by
  unfold Byt_datum_p74
  refine g_callV (fc := fun sς => Row_add sς s1 s0) (ci := 3) (as := [iv s0]) rfl rfl rfl q1405 q1406 mdX1_101 (ctX3_add s1 s0) rfl (Nat.le_of_ble_eq_true rfl) (Nat.le_of_ble_eq_true rfl) (Nat.le_of_ble_eq_true rfl) pu_V dX1_datum_74 (fun _ σ1 => ?_)
  refine g_aload_n 2 1 dX1_datum_77 rfl rfl ?_
  refine g_iload 3 dX1_datum_78 rfl ?_
  refine g_callV (fc := fun sς => Row_add sς x2 x4) (ci := 3) (as := [iv x4]) rfl rfl rfl q1405 q1406 mdX1_101 (ctX3_add x2 x4) rfl (Nat.le_of_ble_eq_true rfl) (Nat.le_of_ble_eq_true rfl) (Nat.le_of_ble_eq_true rfl) pu_V dX1_datum_80 (fun _ σ2 => ?_)
  refine g_aload_n 2 1 dX1_datum_83 rfl rfl ?_
  refine g_iload 4 dX1_datum_84 rfl ?_
  refine g_callV (fc := fun sς => Row_add sς x2 x5) (ci := 3) (as := [iv x5]) rfl rfl rfl q1405 q1406 mdX1_101 (ctX3_add x2 x5) rfl (Nat.le_of_ble_eq_true rfl) (Nat.le_of_ble_eq_true rfl) (Nat.le_of_ble_eq_true rfl) pu_V dX1_datum_86 (fun _ σ3 => ?_)
  refine g_aload_n 2 1 dX1_datum_89 rfl rfl ?_
  refine g_iload_n 1 0 dX1_datum_90 rfl rfl ?_
  refine g_iconst (v := 1) dX1_datum_91 (by decide) ?_
  refine g_icmp_ne 99 dX1_datum_92 (by decide) ?_ ?_
  · refine g_aload_n 3 2 dX1_datum_99 rfl rfl ?_
    refine g_iconst (v := 0) dX1_datum_100 (by decide) ?_
    refine g_callV (fc := fun sς => Row_at sς x3 (0 : Int32)) (ci := 3) (as := [iv (0 : Int32)]) rfl rfl rfl q1409 q1410 mdX1_149 (ctX3_at x3 (0 : Int32)) rfl (Nat.le_of_ble_eq_true rfl) (Nat.le_of_ble_eq_true rfl) (Nat.le_of_ble_eq_true rfl) pu_I dX1_datum_101 (fun r5 σ4 => ?_)
    refine G.sub [0, 1, 2, 5] rfl ?_
    exact gX1_datum_p104 _ _ _ _ _ _ _
  · refine g_iconst (v := (-1)) dX1_datum_95 (by decide) ?_
    refine g_goto 104 dX1_datum_96 (by decide) ?_
    refine G.sub [0, 1, 2, 5] rfl ?_
    exact gX1_datum_p104 _ _ _ _ _ _ _
def V.Byt_datum_p49  (σ : HS) (x0 : Nat) (x1 : Int32) (x2 : Nat) (x3 : Nat) (x4 : Int32) : Option ((Nat ⊕ Unit) × HS) :=
  ck (tg σ x0 = 2) <| clT (Byt_whole σ x0 ) fun r2 σ1 =>
  ck (tg σ1 x0 = 2) <| clT (Byt_pass σ1 x0 r2) fun r4 σ3 =>
  if x1 = (1 : Int32) then (
    Byt_datum_p74 σ3 x1 x2 x3 x4 r2 r4 (0 : Int32) x2)
  else (
    Byt_datum_p74 σ3 x1 x2 x3 x4 r2 r4 (1 : Int32) x2)
theorem V.gX1_datum_p49 {X : CX}  (σ : HS) (x0 : Nat) (x1 : Int32) (x2 : Nat) (x3 : Nat) (x4 : Int32) : G X RX1 "datum" cX1_datum 7 none 15 288 (enX enV (cxz X)) 49 [(0, av x0), (1, iv x1), (2, av x2), (3, av x3), (4, iv x4)] [] σ (Byt_datum_p49 σ x0 x1 x2 x3 x4) := by
  unfold Byt_datum_p49
  refine g_aload_n 0 0 dX1_datum_49 rfl rfl ?_
  refine g_callVT (fc := fun sς => Byt_whole sς x0 ) (ci := 1) (as := []) rfl rfl rfl q1365 qs5 q1363 mdX1_91 (ctX1_whole x0 ) rfl (Nat.le_of_ble_eq_true rfl) (Nat.le_of_ble_eq_true rfl) (Nat.le_of_ble_eq_true rfl) pu_I (by decide) dX1_datum_50 (fun r2 σ1 => ?_)
  refine g_istore dX1_datum_53 (by decide) rfl ?_
  refine g_aload_n 0 1 dX1_datum_55 rfl rfl ?_
  refine g_iload 0 dX1_datum_56 rfl ?_
  refine g_callVT (fc := fun sς => Byt_pass sς x0 r2) (ci := 1) (as := [iv r2]) rfl rfl rfl q1394 qs10 q1392 mdX1_94 (ctX1_pass x0 r2) rfl (Nat.le_of_ble_eq_true rfl) (Nat.le_of_ble_eq_true rfl) (Nat.le_of_ble_eq_true rfl) pu_I (by decide) dX1_datum_58 (fun r4 σ3 => ?_)
  refine g_istore dX1_datum_61 (by decide) rfl ?_
  refine g_aload_n 2 4 dX1_datum_63 rfl rfl ?_
  refine g_iload_n 1 3 dX1_datum_64 rfl rfl ?_
  refine g_iconst (v := 1) dX1_datum_65 (by decide) ?_
  refine g_icmp_ne 73 dX1_datum_66 (by decide) ?_ ?_
  · refine g_iconst (v := 1) dX1_datum_73 (by decide) ?_
    refine G.sub [3, 4, 5, 6, 1, 0] rfl ?_
    exact gX1_datum_p74 _ _ _ _ _ _ _ _ _
  · refine g_iconst (v := 0) dX1_datum_69 (by decide) ?_
    refine g_goto 74 dX1_datum_70 (by decide) ?_
    refine G.sub [3, 4, 5, 6, 1, 0] rfl ?_
    exact gX1_datum_p74 _ _ _ _ _ _ _ _ _
def V.Byt_datum_p37  (σ : HS) (x0 : Nat) (x1 : Int32) (x2 : Nat) (x3 : Nat) (s0 : Int32) : Option ((Nat ⊕ Unit) × HS) :=
  if x1 = (1 : Int32) then (
    Byt_datum_p49 σ x0 x1 x2 x3 s0)
  else (
    ck (tg σ x0 = 2) <| clT (Byt_expression σ x0 x3) fun _ σ1 =>
    Byt_datum_p49 σ1 x0 x1 x2 x3 s0)
theorem V.gX1_datum_p37 {X : CX}  (σ : HS) (x0 : Nat) (x1 : Int32) (x2 : Nat) (x3 : Nat) (s0 : Int32) : G X RX1 "datum" cX1_datum 7 none 15 288 (enX enV (cxz X)) 37 [(0, av x0), (1, iv x1), (2, av x2), (3, av x3)] [iv s0] σ (Byt_datum_p37 σ x0 x1 x2 x3 s0) := by
  unfold Byt_datum_p37
  refine g_istore dX1_datum_37 (by decide) rfl ?_
  refine g_iload_n 1 2 dX1_datum_39 rfl rfl ?_
  refine g_iconst (v := 1) dX1_datum_40 (by decide) ?_
  refine g_icmp_eq 49 dX1_datum_41 (by decide) ?_ ?_
  · refine G.sub [1, 2, 3, 4, 0] rfl ?_
    exact gX1_datum_p49 _ _ _ _ _ _
  · refine g_aload_n 0 1 dX1_datum_44 rfl rfl ?_
    refine g_aload_n 3 4 dX1_datum_45 rfl rfl ?_
    refine g_callVT (fc := fun sς => Byt_expression sς x0 x3) (ci := 1) (as := [av x3]) rfl rfl rfl q1468 qs22 q1466 mdX1_200 (ctX1_expression x0 x3) rfl (Nat.le_of_ble_eq_true rfl) (Nat.le_of_ble_eq_true rfl) (Nat.le_of_ble_eq_true rfl) pu_V (by decide) dX1_datum_46 (fun _ σ1 => ?_)
    refine G.sub [1, 2, 3, 4, 0] rfl ?_
    exact gX1_datum_p49 _ _ _ _ _ _
def V.Byt_datum (σ : HS) (x0 : Nat) : Option ((Nat ⊕ Unit) × HS) :=
  ck (tg σ x0 = 2) <| clT (Byt_small σ x0 (2 : Int32)) fun r2 σ1 =>
  ck (tg σ1 x0 = 2) <|
  ck (tg σ1 (gR σ1 x0 3) = 3) <|
  bn (gR σ1 (gR σ1 x0 3) 13) fun y3 =>
  ck (tg σ1 x0 = 2) <|
  bn (gR σ1 x0 9) fun y4 =>
  ck (tg σ1 y4 = 4) <| cl (Row_cut σ1 y4 (0 : Int32)) fun _ σ5 =>
  if r2 = (2 : Int32) then (
    ck (tg σ5 x0 = 2) <| clT (Byt_whole σ5 x0 ) fun r7 σ6 =>
    Byt_datum_p37 σ6 x0 r2 y3 y4 r7)
  else (
    Byt_datum_p37 σ5 x0 r2 y3 y4 (0 : Int32))
theorem V.ctX1_datum (x0 : Nat) : Ct yX1_datum  cX1_datum 7 none 15 288 eXV [av x0] (fun σ => Byt_datum σ x0) := by
  refine Ct.of (own := RX1) (nm := "datum") (desc := "()V") rfl (by decide) (Nat.le_of_ble_eq_true rfl) (by decide) (fun X σ => ?_)
  show G X RX1 "datum" cX1_datum 7 none 15 288 (enX enV (cxz X)) 0 [(0, av x0)] [] σ (Byt_datum σ x0)
  unfold Byt_datum
  refine g_aload_n 0 0 dX1_datum_0 rfl rfl ?_
  refine g_iconst (v := 2) dX1_datum_1 (by decide) ?_
  refine g_callVT (fc := fun sς => Byt_small sς x0 (2 : Int32)) (ci := 1) (as := [iv (2 : Int32)]) rfl rfl rfl q1515 qs32 q1513 mdX1_197 (ctX1_small x0 (2 : Int32)) rfl (Nat.le_of_ble_eq_true rfl) (Nat.le_of_ble_eq_true rfl) (Nat.le_of_ble_eq_true rfl) pu_I (by decide) dX1_datum_2 (fun r2 σ1 => ?_)
  refine g_istore_n 1 dX1_datum_5 rfl (by decide) rfl ?_
  refine g_aload_n 0 1 dX1_datum_6 rfl rfl ?_
  refine g_getR fdX1_16 dX1_datum_7 ?_
  refine g_getR fdX1_217 dX1_datum_10 ?_
  refine g_nmA (fun y3 => ?_)
  refine g_astore_n 2 dX1_datum_13 rfl (by decide) rfl ?_
  refine g_aload_n 0 2 dX1_datum_14 rfl rfl ?_
  refine g_getR fdX1_31 dX1_datum_15 ?_
  refine g_nmA (fun y4 => ?_)
  refine g_astore_n 3 dX1_datum_18 rfl (by decide) rfl ?_
  refine g_aload_n 3 0 dX1_datum_19 rfl rfl ?_
  refine g_iconst (v := 0) dX1_datum_20 (by decide) ?_
  refine g_callV (fc := fun sς => Row_cut sς y4 (0 : Int32)) (ci := 3) (as := [iv (0 : Int32)]) rfl rfl rfl q1281 q1282 mdX1_170 (ctX3_cut y4 (0 : Int32)) rfl (Nat.le_of_ble_eq_true rfl) (Nat.le_of_ble_eq_true rfl) (Nat.le_of_ble_eq_true rfl) pu_V dX1_datum_21 (fun _ σ5 => ?_)
  refine g_iload_n 1 2 dX1_datum_24 rfl rfl ?_
  refine g_iconst (v := 2) dX1_datum_25 (by decide) ?_
  refine g_icmp_ne 36 dX1_datum_26 (by decide) ?_ ?_
  · refine g_iconst (v := 0) dX1_datum_36 (by decide) ?_
    refine G.sub [3, 2, 1, 0] rfl ?_
    exact gX1_datum_p37 _ _ _ _ _ _
  · refine g_aload_n 0 3 dX1_datum_29 rfl rfl ?_
    refine g_callVT (fc := fun sς => Byt_whole sς x0 ) (ci := 1) (as := []) rfl rfl rfl q1365 qs5 q1363 mdX1_91 (ctX1_whole x0 ) rfl (Nat.le_of_ble_eq_true rfl) (Nat.le_of_ble_eq_true rfl) (Nat.le_of_ble_eq_true rfl) pu_I (by decide) dX1_datum_30 (fun r7 σ6 => ?_)
    refine g_goto 37 dX1_datum_33 (by decide) ?_
    refine G.sub [3, 2, 1, 0] rfl ?_
    exact gX1_datum_p37 _ _ _ _ _ _
theorem V.dX1_one_0 : decode cX1_one 0 = .ok (.iload_n 1, 1) := by decide +kernel
theorem V.dX1_one_1 : decode cX1_one 1 = .ok (.tableswitch 160 1 10 #[55, 62, 69, 86, 100, 114, 139, 160, 146, 153], 55) := by decide +kernel
theorem V.dX1_one_56 : decode cX1_one 56 = .ok (.aload_n 0, 1) := by decide +kernel
theorem V.dX1_one_57 : decode cX1_one 57 = .ok (.invokevirtual 223, 3) := by decide +kernel
theorem V.dX1_one_60 : decode cX1_one 60 = .ok (.goto 105, 3) := by decide +kernel
theorem V.dX1_one_63 : decode cX1_one 63 = .ok (.aload_n 0, 1) := by decide +kernel
theorem V.dX1_one_64 : decode cX1_one 64 = .ok (.invokevirtual 226, 3) := by decide +kernel
theorem V.dX1_one_67 : decode cX1_one 67 = .ok (.goto 98, 3) := by decide +kernel
theorem V.dX1_one_70 : decode cX1_one 70 = .ok (.aload_n 0, 1) := by decide +kernel
theorem V.dX1_one_71 : decode cX1_one 71 = .ok (.getfield 16, 3) := by decide +kernel
theorem V.dX1_one_74 : decode cX1_one 74 = .ok (.getfield 229, 3) := by decide +kernel
theorem V.dX1_one_77 : decode cX1_one 77 = .ok (.aload_n 0, 1) := by decide +kernel
theorem V.dX1_one_78 : decode cX1_one 78 = .ok (.invokevirtual 91, 3) := by decide +kernel
theorem V.dX1_one_81 : decode cX1_one 81 = .ok (.invokevirtual 101, 3) := by decide +kernel
theorem V.dX1_one_84 : decode cX1_one 84 = .ok (.goto 81, 3) := by decide +kernel
theorem V.dX1_one_87 : decode cX1_one 87 = .ok (.aload_n 0, 1) := by decide +kernel
theorem V.dX1_one_88 : decode cX1_one 88 = .ok (.aload_n 0, 1) := by decide +kernel
theorem V.dX1_one_89 : decode cX1_one 89 = .ok (.getfield 16, 3) := by decide +kernel
theorem V.dX1_one_92 : decode cX1_one 92 = .ok (.getfield 232, 3) := by decide +kernel
theorem V.dX1_one_95 : decode cX1_one 95 = .ok (.invokevirtual 185, 3) := by decide +kernel
theorem V.dX1_one_98 : decode cX1_one 98 = .ok (.goto 67, 3) := by decide +kernel
theorem V.dX1_one_101 : decode cX1_one 101 = .ok (.aload_n 0, 1) := by decide +kernel
theorem V.dX1_one_102 : decode cX1_one 102 = .ok (.aload_n 0, 1) := by decide +kernel
theorem V.dX1_one_103 : decode cX1_one 103 = .ok (.getfield 16, 3) := by decide +kernel
theorem V.dX1_one_106 : decode cX1_one 106 = .ok (.getfield 235, 3) := by decide +kernel
theorem V.dX1_one_109 : decode cX1_one 109 = .ok (.invokevirtual 188, 3) := by decide +kernel
theorem V.dX1_one_112 : decode cX1_one 112 = .ok (.goto 53, 3) := by decide +kernel
theorem V.dX1_one_115 : decode cX1_one 115 = .ok (.aload_n 0, 1) := by decide +kernel
theorem V.dX1_one_116 : decode cX1_one 116 = .ok (.aload_n 0, 1) := by decide +kernel
theorem V.dX1_one_117 : decode cX1_one 117 = .ok (.getfield 16, 3) := by decide +kernel
theorem V.dX1_one_120 : decode cX1_one 120 = .ok (.getfield 238, 3) := by decide +kernel
theorem V.dX1_one_123 : decode cX1_one 123 = .ok (.invokevirtual 191, 3) := by decide +kernel
theorem V.dX1_one_126 : decode cX1_one 126 = .ok (.aload_n 0, 1) := by decide +kernel
theorem V.dX1_one_127 : decode cX1_one 127 = .ok (.aload_n 0, 1) := by decide +kernel
theorem V.dX1_one_128 : decode cX1_one 128 = .ok (.getfield 16, 3) := by decide +kernel
theorem V.dX1_one_131 : decode cX1_one 131 = .ok (.getfield 238, 3) := by decide +kernel
theorem V.dX1_one_134 : decode cX1_one 134 = .ok (.invokevirtual 200, 3) := by decide +kernel
theorem V.dX1_one_137 : decode cX1_one 137 = .ok (.goto 28, 3) := by decide +kernel
theorem V.dX1_one_140 : decode cX1_one 140 = .ok (.aload_n 0, 1) := by decide +kernel
theorem V.dX1_one_141 : decode cX1_one 141 = .ok (.invokevirtual 241, 3) := by decide +kernel
theorem V.dX1_one_144 : decode cX1_one 144 = .ok (.goto 21, 3) := by decide +kernel
theorem V.dX1_one_147 : decode cX1_one 147 = .ok (.aload_n 0, 1) := by decide +kernel
theorem V.dX1_one_148 : decode cX1_one 148 = .ok (.invokevirtual 244, 3) := by decide +kernel
theorem V.dX1_one_151 : decode cX1_one 151 = .ok (.goto 14, 3) := by decide +kernel
theorem V.dX1_one_154 : decode cX1_one 154 = .ok (.aload_n 0, 1) := by decide +kernel
theorem V.dX1_one_155 : decode cX1_one 155 = .ok (.invokevirtual 247, 3) := by decide +kernel
theorem V.dX1_one_158 : decode cX1_one 158 = .ok (.goto 7, 3) := by decide +kernel
theorem V.dX1_one_161 : decode cX1_one 161 = .ok (.aload_n 0, 1) := by decide +kernel
theorem V.dX1_one_162 : decode cX1_one 162 = .ok (.invokevirtual 250, 3) := by decide +kernel
theorem V.dX1_one_165 : decode cX1_one 165 = .ok (.return_, 1) := by decide +kernel
theorem V.mdX1_223 : MD RX1 223 yX1_functionType cX1_functionType 5 none 0 := ⟨Or.inl q1416, q361, q1419, by decide, by decide, by decide +kernel⟩
theorem V.mdX1_226 : MD RX1 226 yX1_importOne cX1_importOne 6 none 0 := ⟨Or.inl q1434, q361, q1437, by decide, by decide, by decide +kernel⟩
theorem V.fdX1_229 : FD RX1 229 2 4 2 := ⟨(RX2, TX2, 21), tyX2, rfl, rfl, in_X2, by decide, Or.inr ⟨_, q439⟩, rfl⟩
theorem V.fdX1_232 : FD RX1 232 2 5 2 := ⟨(RX2, TX2, 21), tyX2, rfl, rfl, in_X2, by decide, Or.inr ⟨_, q443⟩, rfl⟩
theorem V.fdX1_235 : FD RX1 235 2 6 2 := ⟨(RX2, TX2, 21), tyX2, rfl, rfl, in_X2, by decide, Or.inr ⟨_, q447⟩, rfl⟩
theorem V.fdX1_238 : FD RX1 238 2 7 2 := ⟨(RX2, TX2, 21), tyX2, rfl, rfl, in_X2, by decide, Or.inr ⟨_, q451⟩, rfl⟩
theorem V.mdX1_241 : MD RX1 241 yX1_export cX1_export 2 none 0 := ⟨Or.inl q1505, q361, q1508, by decide, by decide, by decide +kernel⟩
theorem V.mdX1_244 : MD RX1 244 yX1_element cX1_element 10 none 0 := ⟨Or.inl q1509, q361, q1512, by decide, by decide, by decide +kernel⟩
theorem V.mdX1_247 : MD RX1 247 yX1_body cX1_body 11 none 0 := ⟨Or.inl q1517, q361, q1520, by decide, by decide, by decide +kernel⟩
theorem V.mdX1_250 : MD RX1 250 yX1_datum cX1_datum 7 none 0 := ⟨Or.inl q1522, q361, q1525, by decide, by decide, by decide +kernel⟩
/-! ModuleEngine$Bytes.one(I)V -/
def V.Byt_one_p161  (σ : HS) (x0 : Nat) : Option ((Nat ⊕ Unit) × HS) :=
  ck (tg σ x0 = 2) <| clT (Byt_datum σ x0 ) fun _ σ1 =>
  some (.inr (), σ1)
theorem V.gX1_one_p161 {X : CX}  (σ : HS) (x0 : Nat) : G X RX1 "one" cX1_one 2 none 16 318 (enX enV (cxz X)) 161 [(0, av x0)] [] σ (Byt_one_p161 σ x0) := by
  unfold Byt_one_p161
  refine g_aload_n 0 0 dX1_one_161 rfl rfl ?_
  refine g_callVT (fc := fun sς => Byt_datum sς x0 ) (ci := 1) (as := []) rfl rfl rfl q1524 qs34 q1522 mdX1_250 (ctX1_datum x0 ) rfl (Nat.le_of_ble_eq_true rfl) (Nat.le_of_ble_eq_true rfl) (Nat.le_of_ble_eq_true rfl) pu_V (by decide) dX1_one_162 (fun _ σ1 => ?_)
  exact g_return rfl dX1_one_165
def V.Byt_one (σ : HS) (x0 : Nat) (x1 : Int32) : Option ((Nat ⊕ Unit) × HS) :=
  swx x1 [
    (1, (
      ck (tg σ x0 = 2) <| clT (Byt_functionType σ x0 ) fun _ σ1 =>
      some (.inr (), σ1))),
    (2, (
      ck (tg σ x0 = 2) <| clT (Byt_importOne σ x0 ) fun _ σ2 =>
      some (.inr (), σ2))),
    (3, (
      ck (tg σ x0 = 2) <|
      ck (tg σ (gR σ x0 3) = 3) <|
      ck (tg σ x0 = 2) <| clT (Byt_whole σ x0 ) fun r4 σ3 =>
      ck (tg σ3 (gR σ (gR σ x0 3) 4) = 4) <| cl (Row_add σ3 (gR σ (gR σ x0 3) 4) r4) fun _ σ5 =>
      some (.inr (), σ5))),
    (4, (
      ck (tg σ x0 = 2) <|
      ck (tg σ (gR σ x0 3) = 3) <|
      ck (tg σ x0 = 2) <| clT (Byt_table σ x0 (gR σ (gR σ x0 3) 5)) fun _ σ6 =>
      some (.inr (), σ6))),
    (5, (
      ck (tg σ x0 = 2) <|
      ck (tg σ (gR σ x0 3) = 3) <|
      ck (tg σ x0 = 2) <| clT (Byt_memory σ x0 (gR σ (gR σ x0 3) 6)) fun _ σ7 =>
      some (.inr (), σ7))),
    (6, (
      ck (tg σ x0 = 2) <|
      ck (tg σ (gR σ x0 3) = 3) <|
      ck (tg σ x0 = 2) <| clT (Byt_global σ x0 (gR σ (gR σ x0 3) 7)) fun _ σ8 =>
      ck (tg σ8 x0 = 2) <|
      ck (tg σ8 (gR σ8 x0 3) = 3) <|
      ck (tg σ8 x0 = 2) <| clT (Byt_expression σ8 x0 (gR σ8 (gR σ8 x0 3) 7)) fun _ σ9 =>
      some (.inr (), σ9))),
    (7, (
      ck (tg σ x0 = 2) <| clT (Byt_export σ x0 ) fun _ σ10 =>
      some (.inr (), σ10))),
    (9, (
      ck (tg σ x0 = 2) <| clT (Byt_element σ x0 ) fun _ σ11 =>
      some (.inr (), σ11))),
    (10, (
      ck (tg σ x0 = 2) <| clT (Byt_body σ x0 ) fun _ σ12 =>
      some (.inr (), σ12)))
    ] (
    Byt_one_p161 σ x0)
theorem V.ctX1_one (x0 : Nat) (x1 : Int32) : Ct yX1_one  cX1_one 2 none 16 318 eXV [av x0, iv x1] (fun σ => Byt_one σ x0 x1) := by
  refine Ct.of (own := RX1) (nm := "one") (desc := "(I)V") rfl (by decide) (Nat.le_of_ble_eq_true rfl) (by decide) (fun X σ => ?_)
  show G X RX1 "one" cX1_one 2 none 16 318 (enX enV (cxz X)) 0 [(0, av x0), (1, iv x1)] [] σ (Byt_one σ x0 x1)
  unfold Byt_one
  refine g_iload_n 1 1 dX1_one_0 rfl rfl ?_
  refine g_tsw dX1_one_1 (by decide +kernel) ?_
  refine g_case ex0 (t := 56) (by decide +kernel) ?_ (fun hx => ?_)
  · refine g_aload_n 0 0 dX1_one_56 rfl rfl ?_
    refine g_callVT (fc := fun sς => Byt_functionType sς x0 ) (ci := 1) (as := []) rfl rfl rfl q1418 qs13 q1416 mdX1_223 (ctX1_functionType x0 ) rfl (Nat.le_of_ble_eq_true rfl) (Nat.le_of_ble_eq_true rfl) (Nat.le_of_ble_eq_true rfl) pu_V (by decide) dX1_one_57 (fun _ σ1 => ?_)
    refine g_goto 165 dX1_one_60 (by decide) ?_
    exact g_return rfl dX1_one_165
  refine g_case hx (t := 63) (by decide +kernel) ?_ (fun hx => ?_)
  · refine g_aload_n 0 0 dX1_one_63 rfl rfl ?_
    refine g_callVT (fc := fun sς => Byt_importOne sς x0 ) (ci := 1) (as := []) rfl rfl rfl q1436 qs15 q1434 mdX1_226 (ctX1_importOne x0 ) rfl (Nat.le_of_ble_eq_true rfl) (Nat.le_of_ble_eq_true rfl) (Nat.le_of_ble_eq_true rfl) pu_V (by decide) dX1_one_64 (fun _ σ2 => ?_)
    refine g_goto 165 dX1_one_67 (by decide) ?_
    exact g_return rfl dX1_one_165
  refine g_case hx (t := 70) (by decide +kernel) ?_ (fun hx => ?_)
  · refine g_aload_n 0 0 dX1_one_70 rfl rfl ?_
    refine g_getR fdX1_16 dX1_one_71 ?_
    refine g_getR fdX1_229 dX1_one_74 ?_
    refine g_aload_n 0 0 dX1_one_77 rfl rfl ?_
    refine g_callVT (fc := fun sς => Byt_whole sς x0 ) (ci := 1) (as := []) rfl rfl rfl q1365 qs5 q1363 mdX1_91 (ctX1_whole x0 ) rfl (Nat.le_of_ble_eq_true rfl) (Nat.le_of_ble_eq_true rfl) (Nat.le_of_ble_eq_true rfl) pu_I (by decide) dX1_one_78 (fun r4 σ3 => ?_)
    refine g_callV (fc := fun sς => Row_add sς (gR σ (gR σ x0 3) 4) r4) (ci := 3) (as := [iv r4]) rfl rfl rfl q1405 q1406 mdX1_101 (ctX3_add (gR σ (gR σ x0 3) 4) r4) rfl (Nat.le_of_ble_eq_true rfl) (Nat.le_of_ble_eq_true rfl) (Nat.le_of_ble_eq_true rfl) pu_V dX1_one_81 (fun _ σ5 => ?_)
    refine g_goto 165 dX1_one_84 (by decide) ?_
    exact g_return rfl dX1_one_165
  refine g_case hx (t := 87) (by decide +kernel) ?_ (fun hx => ?_)
  · refine g_aload_n 0 0 dX1_one_87 rfl rfl ?_
    refine g_aload_n 0 0 dX1_one_88 rfl rfl ?_
    refine g_getR fdX1_16 dX1_one_89 ?_
    refine g_getR fdX1_232 dX1_one_92 ?_
    refine g_callVT (fc := fun sς => Byt_table sς x0 (gR σ (gR σ x0 3) 5)) (ci := 1) (as := [av (gR σ (gR σ x0 3) 5)]) rfl rfl rfl q1448 qs17 q1446 mdX1_185 (ctX1_table x0 (gR σ (gR σ x0 3) 5)) rfl (Nat.le_of_ble_eq_true rfl) (Nat.le_of_ble_eq_true rfl) (Nat.le_of_ble_eq_true rfl) pu_V (by decide) dX1_one_95 (fun _ σ6 => ?_)
    refine g_goto 165 dX1_one_98 (by decide) ?_
    exact g_return rfl dX1_one_165
  refine g_case hx (t := 101) (by decide +kernel) ?_ (fun hx => ?_)
  · refine g_aload_n 0 0 dX1_one_101 rfl rfl ?_
    refine g_aload_n 0 0 dX1_one_102 rfl rfl ?_
    refine g_getR fdX1_16 dX1_one_103 ?_
    refine g_getR fdX1_235 dX1_one_106 ?_
    refine g_callVT (fc := fun sς => Byt_memory sς x0 (gR σ (gR σ x0 3) 6)) (ci := 1) (as := [av (gR σ (gR σ x0 3) 6)]) rfl rfl rfl q1460 qs20 q1458 mdX1_188 (ctX1_memory x0 (gR σ (gR σ x0 3) 6)) rfl (Nat.le_of_ble_eq_true rfl) (Nat.le_of_ble_eq_true rfl) (Nat.le_of_ble_eq_true rfl) pu_V (by decide) dX1_one_109 (fun _ σ7 => ?_)
    refine g_goto 165 dX1_one_112 (by decide) ?_
    exact g_return rfl dX1_one_165
  refine g_case hx (t := 115) (by decide +kernel) ?_ (fun hx => ?_)
  · refine g_aload_n 0 0 dX1_one_115 rfl rfl ?_
    refine g_aload_n 0 0 dX1_one_116 rfl rfl ?_
    refine g_getR fdX1_16 dX1_one_117 ?_
    refine g_getR fdX1_238 dX1_one_120 ?_
    refine g_callVT (fc := fun sς => Byt_global sς x0 (gR σ (gR σ x0 3) 7)) (ci := 1) (as := [av (gR σ (gR σ x0 3) 7)]) rfl rfl rfl q1464 qs21 q1462 mdX1_191 (ctX1_global x0 (gR σ (gR σ x0 3) 7)) rfl (Nat.le_of_ble_eq_true rfl) (Nat.le_of_ble_eq_true rfl) (Nat.le_of_ble_eq_true rfl) pu_V (by decide) dX1_one_123 (fun _ σ8 => ?_)
    refine g_aload_n 0 0 dX1_one_126 rfl rfl ?_
    refine g_aload_n 0 0 dX1_one_127 rfl rfl ?_
    refine g_getR fdX1_16 dX1_one_128 ?_
    refine g_getR fdX1_238 dX1_one_131 ?_
    refine g_callVT (fc := fun sς => Byt_expression sς x0 (gR σ8 (gR σ8 x0 3) 7)) (ci := 1) (as := [av (gR σ8 (gR σ8 x0 3) 7)]) rfl rfl rfl q1468 qs22 q1466 mdX1_200 (ctX1_expression x0 (gR σ8 (gR σ8 x0 3) 7)) rfl (Nat.le_of_ble_eq_true rfl) (Nat.le_of_ble_eq_true rfl) (Nat.le_of_ble_eq_true rfl) pu_V (by decide) dX1_one_134 (fun _ σ9 => ?_)
    refine g_goto 165 dX1_one_137 (by decide) ?_
    exact g_return rfl dX1_one_165
  refine g_case hx (t := 140) (by decide +kernel) ?_ (fun hx => ?_)
  · refine g_aload_n 0 0 dX1_one_140 rfl rfl ?_
    refine g_callVT (fc := fun sς => Byt_export sς x0 ) (ci := 1) (as := []) rfl rfl rfl q1507 qs30 q1505 mdX1_241 (ctX1_export x0 ) rfl (Nat.le_of_ble_eq_true rfl) (Nat.le_of_ble_eq_true rfl) (Nat.le_of_ble_eq_true rfl) pu_V (by decide) dX1_one_141 (fun _ σ10 => ?_)
    refine g_goto 165 dX1_one_144 (by decide) ?_
    exact g_return rfl dX1_one_165
  refine g_case hx (t := 147) (by decide +kernel) ?_ (fun hx => ?_)
  · refine g_aload_n 0 0 dX1_one_147 rfl rfl ?_
    refine g_callVT (fc := fun sς => Byt_element sς x0 ) (ci := 1) (as := []) rfl rfl rfl q1511 qs31 q1509 mdX1_244 (ctX1_element x0 ) rfl (Nat.le_of_ble_eq_true rfl) (Nat.le_of_ble_eq_true rfl) (Nat.le_of_ble_eq_true rfl) pu_V (by decide) dX1_one_148 (fun _ σ11 => ?_)
    refine g_goto 165 dX1_one_151 (by decide) ?_
    exact g_return rfl dX1_one_165
  refine g_case hx (t := 154) (by decide +kernel) ?_ (fun hx => ?_)
  · refine g_aload_n 0 0 dX1_one_154 rfl rfl ?_
    refine g_callVT (fc := fun sς => Byt_body sς x0 ) (ci := 1) (as := []) rfl rfl rfl q1519 qs33 q1517 mdX1_247 (ctX1_body x0 ) rfl (Nat.le_of_ble_eq_true rfl) (Nat.le_of_ble_eq_true rfl) (Nat.le_of_ble_eq_true rfl) pu_V (by decide) dX1_one_155 (fun _ σ12 => ?_)
    refine g_goto 165 dX1_one_158 (by decide) ?_
    exact g_return rfl dX1_one_165
  refine g_dflt (t := 161) (tswT_d (by decide +kernel) (by decide +kernel) hx) ?_
  refine G.sub [0] rfl ?_
  exact gX1_one_p161 _ _
theorem V.dX1_content_0 : decode cX1_content 0 = .ok (.iload_n 1, 1) := by decide +kernel
theorem V.dX1_content_1 : decode cX1_content 1 = .ok (.ifCond .ne 10, 3) := by decide +kernel
theorem V.dX1_content_4 : decode cX1_content 4 = .ok (.aload_n 0, 1) := by decide +kernel
theorem V.dX1_content_5 : decode cX1_content 5 = .ok (.invokevirtual 253, 3) := by decide +kernel
theorem V.dX1_content_8 : decode cX1_content 8 = .ok (.goto 77, 3) := by decide +kernel
theorem V.dX1_content_11 : decode cX1_content 11 = .ok (.iload_n 1, 1) := by decide +kernel
theorem V.dX1_content_12 : decode cX1_content 12 = .ok (.bipush 8, 2) := by decide +kernel
theorem V.dX1_content_14 : decode cX1_content 14 = .ok (.if_icmp .ne 25, 3) := by decide +kernel
theorem V.dX1_content_17 : decode cX1_content 17 = .ok (.aload_n 0, 1) := by decide +kernel
theorem V.dX1_content_18 : decode cX1_content 18 = .ok (.getfield 16, 3) := by decide +kernel
theorem V.dX1_content_21 : decode cX1_content 21 = .ok (.aload_n 0, 1) := by decide +kernel
theorem V.dX1_content_22 : decode cX1_content 22 = .ok (.invokevirtual 91, 3) := by decide +kernel
theorem V.dX1_content_25 : decode cX1_content 25 = .ok (.putfield 256, 3) := by decide +kernel
theorem V.dX1_content_28 : decode cX1_content 28 = .ok (.aload_n 0, 1) := by decide +kernel
theorem V.dX1_content_29 : decode cX1_content 29 = .ok (.getfield 16, 3) := by decide +kernel
theorem V.dX1_content_32 : decode cX1_content 32 = .ok (.iconst 1, 1) := by decide +kernel
theorem V.dX1_content_33 : decode cX1_content 33 = .ok (.putfield 259, 3) := by decide +kernel
theorem V.dX1_content_36 : decode cX1_content 36 = .ok (.goto 49, 3) := by decide +kernel
theorem V.dX1_content_39 : decode cX1_content 39 = .ok (.iload_n 1, 1) := by decide +kernel
theorem V.dX1_content_40 : decode cX1_content 40 = .ok (.bipush 12, 2) := by decide +kernel
theorem V.dX1_content_42 : decode cX1_content 42 = .ok (.if_icmp .ne 20, 3) := by decide +kernel
theorem V.dX1_content_45 : decode cX1_content 45 = .ok (.aload_n 0, 1) := by decide +kernel
theorem V.dX1_content_46 : decode cX1_content 46 = .ok (.getfield 16, 3) := by decide +kernel
theorem V.dX1_content_49 : decode cX1_content 49 = .ok (.aload_n 0, 1) := by decide +kernel
theorem V.dX1_content_50 : decode cX1_content 50 = .ok (.invokevirtual 91, 3) := by decide +kernel
theorem V.dX1_content_53 : decode cX1_content 53 = .ok (.invokestatic 87, 3) := by decide +kernel
theorem V.dX1_content_56 : decode cX1_content 56 = .ok (.putfield 142, 3) := by decide +kernel
theorem V.dX1_content_59 : decode cX1_content 59 = .ok (.goto 26, 3) := by decide +kernel
theorem V.dX1_content_62 : decode cX1_content 62 = .ok (.aload_n 0, 1) := by decide +kernel
theorem V.dX1_content_63 : decode cX1_content 63 = .ok (.invokevirtual 91, 3) := by decide +kernel
theorem V.dX1_content_66 : decode cX1_content 66 = .ok (.istore_n 2, 1) := by decide +kernel
theorem V.dX1_content_67 : decode cX1_content 67 = .ok (.iconst 0, 1) := by decide +kernel
theorem V.dX1_content_68 : decode cX1_content 68 = .ok (.istore_n 3, 1) := by decide +kernel
theorem V.dX1_content_69 : decode cX1_content 69 = .ok (.iload_n 3, 1) := by decide +kernel
theorem V.dX1_content_70 : decode cX1_content 70 = .ok (.iload_n 2, 1) := by decide +kernel
theorem V.dX1_content_71 : decode cX1_content 71 = .ok (.if_icmp .eq 14, 3) := by decide +kernel
theorem V.dX1_content_74 : decode cX1_content 74 = .ok (.aload_n 0, 1) := by decide +kernel
theorem V.dX1_content_75 : decode cX1_content 75 = .ok (.iload_n 1, 1) := by decide +kernel
theorem V.dX1_content_76 : decode cX1_content 76 = .ok (.invokevirtual 263, 3) := by decide +kernel
theorem V.dX1_content_79 : decode cX1_content 79 = .ok (.iinc 3 1, 3) := by decide +kernel
theorem V.dX1_content_82 : decode cX1_content 82 = .ok (.goto (-13), 3) := by decide +kernel
theorem V.dX1_content_85 : decode cX1_content 85 = .ok (.return_, 1) := by decide +kernel
theorem V.fpX1_142 {nm : String} : FP RX1 nm 142 2 20 (.long) := ⟨(RX2, TX2, 21), tyX2, rfl, rfl, in_X2, by decide, tyX2_ok, nmX2, rfl, Or.inl ⟨rfl, Or.inr ⟨_, q491⟩⟩⟩
theorem V.fpX1_256 {nm : String} : FP RX1 nm 256 2 17 (.int) := ⟨(RX2, TX2, 21), tyX2, rfl, rfl, in_X2, by decide, tyX2_ok, nmX2, rfl, Or.inl ⟨rfl, Or.inr ⟨_, q483⟩⟩⟩
theorem V.fpX1_259 {nm : String} : FP RX1 nm 259 2 19 (.boolean) := ⟨(RX2, TX2, 21), tyX2, rfl, rfl, in_X2, by decide, tyX2_ok, nmX2, rfl, Or.inl ⟨rfl, Or.inr ⟨_, q489⟩⟩⟩
theorem V.mdX1_253 : MD RX1 253 yX1_custom cX1_custom 2 none 0 := ⟨Or.inl q1383, q361, q1386, by decide, by decide, by decide +kernel⟩
theorem V.mdX1_263 : MD RX1 263 yX1_one cX1_one 2 none 1 := ⟨Or.inl q1412, q361, q1415, by decide, by decide, by decide +kernel⟩
/-! ModuleEngine$Bytes.content(I)V -/
def V.Byt_content_p69  : Nat → HS → Nat → Int32 → Int32 → Int32 → Option ((Nat ⊕ Unit) × HS)
  | 0, _, _, _, _, _ => none
  | n + 1, σ, x0, x1, x2, x3 =>
    if x3 = x2 then (
      some (.inr (), σ))
    else (
      ck (tg σ x0 = 2) <| clT (Byt_one σ x0 x1) fun _ σ1 =>
      bn (x3 + (1 : Int32)) fun y2 =>
      Byt_content_p69 n σ1 x0 x1 x2 y2)
theorem V.gX1_content_p69 {X : CX}  : ∀ (n : Nat) (σ : HS) (x0 : Nat) (x1 : Int32) (x2 : Int32) (x3 : Int32), G X RX1 "content" cX1_content 4 none 17 339 (enX enV (cxz X)) 69 [(0, av x0), (1, iv x1), (2, iv x2), (3, iv x3)] [] σ (Byt_content_p69 n σ x0 x1 x2 x3)
  | 0, σ, x0, x1, x2, x3 => by rw [Byt_content_p69]; exact G.nul
  | n + 1, σ, x0, x1, x2, x3 => by
    rw [Byt_content_p69]
    refine g_iload_n 3 3 dX1_content_69 rfl rfl ?_
    refine g_iload_n 2 2 dX1_content_70 rfl rfl ?_
    refine g_icmp_eq 85 dX1_content_71 (by decide) ?_ ?_
    · exact g_return rfl dX1_content_85
    · refine g_aload_n 0 0 dX1_content_74 rfl rfl ?_
      refine g_iload_n 1 1 dX1_content_75 rfl rfl ?_
      refine g_callVT (fc := fun sς => Byt_one sς x0 x1) (ci := 1) (as := [iv x1]) rfl rfl rfl q1414 qs12 q1412 mdX1_263 (ctX1_one x0 x1) rfl (Nat.le_of_ble_eq_true rfl) (Nat.le_of_ble_eq_true rfl) (Nat.le_of_ble_eq_true rfl) pu_V (by decide) dX1_content_76 (fun _ σ1 => ?_)
      refine g_iincB (w := 1) 3 dX1_content_79 rfl (by decide) (by decide) (fun _ => rfl) (fun y2 => ?_)
      refine g_goto 69 dX1_content_82 (by decide) ?_
      refine G.sub [1, 2, 3, 0] rfl ?_
      exact gX1_content_p69 n _ _ _ _ _
def V.Byt_content (σ : HS) (x0 : Nat) (x1 : Int32) : Option ((Nat ⊕ Unit) × HS) :=
  if x1 = 0 then (
    ck (tg σ x0 = 2) <| clT (Byt_custom σ x0 ) fun _ σ12 =>
    some (.inr (), σ12))
  else (
    if x1 = (8 : Int32) then (
      ck (tg σ x0 = 2) <|
      ck (tg σ x0 = 2) <| clT (Byt_whole σ x0 ) fun r9 σ8 =>
      ck (tg σ8 (gR σ x0 3) = 3) <| bn (sI σ8 (gR σ x0 3) 17 r9) fun σ10 =>
      ck (tg σ10 x0 = 2) <|
      ck (tg σ10 (gR σ10 x0 3) = 3) <| bn (sI σ10 (gR σ10 x0 3) 19 (1 : Int32)) fun σ11 =>
      some (.inr (), σ11))
    else (
      if x1 = (12 : Int32) then (
        ck (tg σ x0 = 2) <|
        ck (tg σ x0 = 2) <| clT (Byt_whole σ x0 ) fun r4 σ3 =>
        cl (Mod_wide σ3 r4) fun r6 σ5 =>
        ck (tg σ5 (gR σ x0 3) = 3) <| bn (sJ σ5 (gR σ x0 3) 20 r6) fun σ7 =>
        some (.inr (), σ7))
      else (
        ck (tg σ x0 = 2) <| clT (Byt_whole σ x0 ) fun r2 σ1 =>
        Byt_content_p69 FU σ1 x0 x1 r2 (0 : Int32))))
theorem V.ctX1_content (x0 : Nat) (x1 : Int32) : Ct yX1_content  cX1_content 4 none 17 339 eXV [av x0, iv x1] (fun σ => Byt_content σ x0 x1) := by
  refine Ct.of (own := RX1) (nm := "content") (desc := "(I)V") rfl (by decide) (Nat.le_of_ble_eq_true rfl) (by decide) (fun X σ => ?_)
  show G X RX1 "content" cX1_content 4 none 17 339 (enX enV (cxz X)) 0 [(0, av x0), (1, iv x1)] [] σ (Byt_content σ x0 x1)
  unfold Byt_content
  refine g_iload_n 1 1 dX1_content_0 rfl rfl ?_
  refine g_if_ne 11 dX1_content_1 (by decide) ?_ ?_
  · refine g_iload_n 1 1 dX1_content_11 rfl rfl ?_
    refine g_bipush (v := 8) dX1_content_12 (by decide) ?_
    refine g_icmp_ne 39 dX1_content_14 (by decide) ?_ ?_
    · refine g_iload_n 1 1 dX1_content_39 rfl rfl ?_
      refine g_bipush (v := 12) dX1_content_40 (by decide) ?_
      refine g_icmp_ne 62 dX1_content_42 (by decide) ?_ ?_
      · refine g_aload_n 0 0 dX1_content_62 rfl rfl ?_
        refine g_callVT (fc := fun sς => Byt_whole sς x0 ) (ci := 1) (as := []) rfl rfl rfl q1365 qs5 q1363 mdX1_91 (ctX1_whole x0 ) rfl (Nat.le_of_ble_eq_true rfl) (Nat.le_of_ble_eq_true rfl) (Nat.le_of_ble_eq_true rfl) pu_I (by decide) dX1_content_63 (fun r2 σ1 => ?_)
        refine g_istore_n 2 dX1_content_66 rfl (by decide) rfl ?_
        refine g_iconst (v := 0) dX1_content_67 (by decide) ?_
        refine g_istore_n 3 dX1_content_68 rfl (by decide) rfl ?_
        refine G.sub [2, 3, 1, 0] rfl ?_
        exact gX1_content_p69 FU _ _ _ _ _
      · refine g_aload_n 0 0 dX1_content_45 rfl rfl ?_
        refine g_getR fdX1_16 dX1_content_46 ?_
        refine g_aload_n 0 0 dX1_content_49 rfl rfl ?_
        refine g_callVT (fc := fun sς => Byt_whole sς x0 ) (ci := 1) (as := []) rfl rfl rfl q1365 qs5 q1363 mdX1_91 (ctX1_whole x0 ) rfl (Nat.le_of_ble_eq_true rfl) (Nat.le_of_ble_eq_true rfl) (Nat.le_of_ble_eq_true rfl) pu_I (by decide) dX1_content_50 (fun r4 σ3 => ?_)
        refine g_callS (fc := fun sς => Mod_wide sς r4) (as := [iv r4]) q1376 mdX1_87 (ctX2_wide r4) rfl (Nat.le_of_ble_eq_true rfl) (Nat.le_of_ble_eq_true rfl) (Nat.le_of_ble_eq_true rfl) pu_J dX1_content_53 (fun r6 σ5 => ?_)
        refine g_putJ fpX1_142 dX1_content_56 (fun σ7 => ?_)
        refine g_goto 85 dX1_content_59 (by decide) ?_
        exact g_return rfl dX1_content_85
    · refine g_aload_n 0 0 dX1_content_17 rfl rfl ?_
      refine g_getR fdX1_16 dX1_content_18 ?_
      refine g_aload_n 0 0 dX1_content_21 rfl rfl ?_
      refine g_callVT (fc := fun sς => Byt_whole sς x0 ) (ci := 1) (as := []) rfl rfl rfl q1365 qs5 q1363 mdX1_91 (ctX1_whole x0 ) rfl (Nat.le_of_ble_eq_true rfl) (Nat.le_of_ble_eq_true rfl) (Nat.le_of_ble_eq_true rfl) pu_I (by decide) dX1_content_22 (fun r9 σ8 => ?_)
      refine g_putI fpX1_256 dX1_content_25 (fun σ10 => ?_)
      refine g_aload_n 0 0 dX1_content_28 rfl rfl ?_
      refine g_getR fdX1_16 dX1_content_29 ?_
      refine g_iconst (v := 1) dX1_content_32 (by decide) ?_
      refine g_putZ fpX1_259 ⟨by decide +kernel, by decide +kernel⟩ dX1_content_33 (fun σ11 => ?_)
      refine g_goto 85 dX1_content_36 (by decide) ?_
      exact g_return rfl dX1_content_85
  · refine g_aload_n 0 0 dX1_content_4 rfl rfl ?_
    refine g_callVT (fc := fun sς => Byt_custom sς x0 ) (ci := 1) (as := []) rfl rfl rfl q1385 qs8 q1383 mdX1_253 (ctX1_custom x0 ) rfl (Nat.le_of_ble_eq_true rfl) (Nat.le_of_ble_eq_true rfl) (Nat.le_of_ble_eq_true rfl) pu_V (by decide) dX1_content_5 (fun _ σ12 => ?_)
    refine g_goto 85 dX1_content_8 (by decide) ?_
    exact g_return rfl dX1_content_85
theorem V.dX1_readModule_0 : decode cX1_readModule 0 = .ok (.iconst 0, 1) := by decide +kernel
theorem V.dX1_readModule_1 : decode cX1_readModule 1 = .ok (.istore_n 1, 1) := by decide +kernel
theorem V.dX1_readModule_2 : decode cX1_readModule 2 = .ok (.iload_n 1, 1) := by decide +kernel
theorem V.dX1_readModule_3 : decode cX1_readModule 3 = .ok (.bipush 8, 2) := by decide +kernel
theorem V.dX1_readModule_5 : decode cX1_readModule 5 = .ok (.if_icmp .ge 35, 3) := by decide +kernel
theorem V.dX1_readModule_8 : decode cX1_readModule 8 = .ok (.aload_n 0, 1) := by decide +kernel
theorem V.dX1_readModule_9 : decode cX1_readModule 9 = .ok (.invokevirtual 73, 3) := by decide +kernel
theorem V.dX1_readModule_12 : decode cX1_readModule 12 = .ok (.ldc2_w 266, 3) := by decide +kernel
theorem V.dX1_readModule_15 : decode cX1_readModule 15 = .ok (.bipush 8, 2) := by decide +kernel
theorem V.dX1_readModule_17 : decode cX1_readModule 17 = .ok (.iload_n 1, 1) := by decide +kernel
theorem V.dX1_readModule_18 : decode cX1_readModule 18 = .ok (.imul, 1) := by decide +kernel
theorem V.dX1_readModule_19 : decode cX1_readModule 19 = .ok (.lshr, 1) := by decide +kernel
theorem V.dX1_readModule_20 : decode cX1_readModule 20 = .ok (.ldc2_w 268, 3) := by decide +kernel
theorem V.dX1_readModule_23 : decode cX1_readModule 23 = .ok (.land, 1) := by decide +kernel
theorem V.dX1_readModule_24 : decode cX1_readModule 24 = .ok (.l2i, 1) := by decide +kernel
theorem V.dX1_readModule_25 : decode cX1_readModule 25 = .ok (.if_icmp .eq 9, 3) := by decide +kernel
theorem V.dX1_readModule_28 : decode cX1_readModule 28 = .ok (.aload_n 0, 1) := by decide +kernel
theorem V.dX1_readModule_29 : decode cX1_readModule 29 = .ok (.iconst 5, 1) := by decide +kernel
theorem V.dX1_readModule_30 : decode cX1_readModule 30 = .ok (.iload_n 1, 1) := by decide +kernel
theorem V.dX1_readModule_31 : decode cX1_readModule 31 = .ok (.invokevirtual 68, 3) := by decide +kernel
theorem V.dX1_readModule_34 : decode cX1_readModule 34 = .ok (.iinc 1 1, 3) := by decide +kernel
theorem V.dX1_readModule_37 : decode cX1_readModule 37 = .ok (.goto (-35), 3) := by decide +kernel
theorem V.dX1_readModule_40 : decode cX1_readModule 40 = .ok (.iconst 0, 1) := by decide +kernel
theorem V.dX1_readModule_41 : decode cX1_readModule 41 = .ok (.istore_n 1, 1) := by decide +kernel
theorem V.dX1_readModule_42 : decode cX1_readModule 42 = .ok (.aload_n 0, 1) := by decide +kernel
theorem V.dX1_readModule_43 : decode cX1_readModule 43 = .ok (.getfield 59, 3) := by decide +kernel
theorem V.dX1_readModule_46 : decode cX1_readModule 46 = .ok (.istore_n 2, 1) := by decide +kernel
theorem V.dX1_readModule_47 : decode cX1_readModule 47 = .ok (.aload_n 0, 1) := by decide +kernel
theorem V.dX1_readModule_48 : decode cX1_readModule 48 = .ok (.getfield 56, 3) := by decide +kernel
theorem V.dX1_readModule_51 : decode cX1_readModule 51 = .ok (.iload_n 2, 1) := by decide +kernel
theorem V.dX1_readModule_52 : decode cX1_readModule 52 = .ok (.if_icmp .ge 150, 3) := by decide +kernel
theorem V.dX1_readModule_55 : decode cX1_readModule 55 = .ok (.aload_n 0, 1) := by decide +kernel
theorem V.dX1_readModule_56 : decode cX1_readModule 56 = .ok (.getfield 56, 3) := by decide +kernel
theorem V.dX1_readModule_59 : decode cX1_readModule 59 = .ok (.istore_n 3, 1) := by decide +kernel
theorem V.dX1_readModule_60 : decode cX1_readModule 60 = .ok (.aload_n 0, 1) := by decide +kernel
theorem V.dX1_readModule_61 : decode cX1_readModule 61 = .ok (.invokevirtual 73, 3) := by decide +kernel
theorem V.dX1_readModule_64 : decode cX1_readModule 64 = .ok (.istore 4, 2) := by decide +kernel
theorem V.dX1_readModule_66 : decode cX1_readModule 66 = .ok (.iload 4, 2) := by decide +kernel
theorem V.dX1_readModule_68 : decode cX1_readModule 68 = .ok (.bipush 12, 2) := by decide +kernel
theorem V.dX1_readModule_70 : decode cX1_readModule 70 = .ok (.if_icmp .gt 17, 3) := by decide +kernel
theorem V.dX1_readModule_73 : decode cX1_readModule 73 = .ok (.iload 4, 2) := by decide +kernel
theorem V.dX1_readModule_75 : decode cX1_readModule 75 = .ok (.ifCond .le 19, 3) := by decide +kernel
theorem V.dX1_readModule_78 : decode cX1_readModule 78 = .ok (.iload 4, 2) := by decide +kernel
theorem V.dX1_readModule_80 : decode cX1_readModule 80 = .ok (.invokestatic 270, 3) := by decide +kernel
theorem V.dX1_readModule_83 : decode cX1_readModule 83 = .ok (.iload_n 1, 1) := by decide +kernel
theorem V.dX1_readModule_84 : decode cX1_readModule 84 = .ok (.if_icmp .gt 10, 3) := by decide +kernel
theorem V.dX1_readModule_87 : decode cX1_readModule 87 = .ok (.aload_n 0, 1) := by decide +kernel
theorem V.dX1_readModule_88 : decode cX1_readModule 88 = .ok (.bipush 6, 2) := by decide +kernel
theorem V.dX1_readModule_90 : decode cX1_readModule 90 = .ok (.iload_n 3, 1) := by decide +kernel
theorem V.dX1_readModule_91 : decode cX1_readModule 91 = .ok (.invokevirtual 68, 3) := by decide +kernel
theorem V.dX1_readModule_94 : decode cX1_readModule 94 = .ok (.iload 4, 2) := by decide +kernel
theorem V.dX1_readModule_96 : decode cX1_readModule 96 = .ok (.ifCond .le 11, 3) := by decide +kernel
theorem V.dX1_readModule_99 : decode cX1_readModule 99 = .ok (.iload 4, 2) := by decide +kernel
theorem V.dX1_readModule_101 : decode cX1_readModule 101 = .ok (.invokestatic 270, 3) := by decide +kernel
theorem V.dX1_readModule_104 : decode cX1_readModule 104 = .ok (.goto 4, 3) := by decide +kernel
theorem V.dX1_readModule_107 : decode cX1_readModule 107 = .ok (.iload_n 1, 1) := by decide +kernel
theorem V.dX1_readModule_108 : decode cX1_readModule 108 = .ok (.istore_n 1, 1) := by decide +kernel
theorem V.dX1_readModule_109 : decode cX1_readModule 109 = .ok (.aload_n 0, 1) := by decide +kernel
theorem V.dX1_readModule_110 : decode cX1_readModule 110 = .ok (.getfield 56, 3) := by decide +kernel
theorem V.dX1_readModule_113 : decode cX1_readModule 113 = .ok (.istore 5, 2) := by decide +kernel
theorem V.dX1_readModule_115 : decode cX1_readModule 115 = .ok (.aload_n 0, 1) := by decide +kernel
theorem V.dX1_readModule_116 : decode cX1_readModule 116 = .ok (.invokevirtual 91, 3) := by decide +kernel
theorem V.dX1_readModule_119 : decode cX1_readModule 119 = .ok (.istore 6, 2) := by decide +kernel
theorem V.dX1_readModule_121 : decode cX1_readModule 121 = .ok (.iload 6, 2) := by decide +kernel
theorem V.dX1_readModule_123 : decode cX1_readModule 123 = .ok (.invokestatic 87, 3) := by decide +kernel
theorem V.dX1_readModule_126 : decode cX1_readModule 126 = .ok (.iload_n 2, 1) := by decide +kernel
theorem V.dX1_readModule_127 : decode cX1_readModule 127 = .ok (.aload_n 0, 1) := by decide +kernel
theorem V.dX1_readModule_128 : decode cX1_readModule 128 = .ok (.getfield 56, 3) := by decide +kernel
theorem V.dX1_readModule_131 : decode cX1_readModule 131 = .ok (.isub, 1) := by decide +kernel
theorem V.dX1_readModule_132 : decode cX1_readModule 132 = .ok (.i2l, 1) := by decide +kernel
theorem V.dX1_readModule_133 : decode cX1_readModule 133 = .ok (.lcmp, 1) := by decide +kernel
theorem V.dX1_readModule_134 : decode cX1_readModule 134 = .ok (.ifCond .le 10, 3) := by decide +kernel
theorem V.dX1_readModule_137 : decode cX1_readModule 137 = .ok (.aload_n 0, 1) := by decide +kernel
theorem V.dX1_readModule_138 : decode cX1_readModule 138 = .ok (.iconst 2, 1) := by decide +kernel
theorem V.dX1_readModule_139 : decode cX1_readModule 139 = .ok (.iload 5, 2) := by decide +kernel
theorem V.dX1_readModule_141 : decode cX1_readModule 141 = .ok (.invokevirtual 68, 3) := by decide +kernel
theorem V.dX1_readModule_144 : decode cX1_readModule 144 = .ok (.aload_n 0, 1) := by decide +kernel
theorem V.dX1_readModule_145 : decode cX1_readModule 145 = .ok (.aload_n 0, 1) := by decide +kernel
theorem V.dX1_readModule_146 : decode cX1_readModule 146 = .ok (.getfield 56, 3) := by decide +kernel
theorem V.dX1_readModule_149 : decode cX1_readModule 149 = .ok (.iload 6, 2) := by decide +kernel
theorem V.dX1_readModule_151 : decode cX1_readModule 151 = .ok (.iadd, 1) := by decide +kernel
theorem V.dX1_readModule_152 : decode cX1_readModule 152 = .ok (.putfield 59, 3) := by decide +kernel
theorem V.dX1_readModule_155 : decode cX1_readModule 155 = .ok (.aload_n 0, 1) := by decide +kernel
theorem V.dX1_readModule_156 : decode cX1_readModule 156 = .ok (.iload 4, 2) := by decide +kernel
theorem V.dX1_readModule_158 : decode cX1_readModule 158 = .ok (.invokevirtual 273, 3) := by decide +kernel
theorem V.dX1_readModule_161 : decode cX1_readModule 161 = .ok (.aload_n 0, 1) := by decide +kernel
theorem V.dX1_readModule_162 : decode cX1_readModule 162 = .ok (.getfield 56, 3) := by decide +kernel
theorem V.dX1_readModule_165 : decode cX1_readModule 165 = .ok (.aload_n 0, 1) := by decide +kernel
theorem V.dX1_readModule_166 : decode cX1_readModule 166 = .ok (.getfield 59, 3) := by decide +kernel
theorem V.dX1_readModule_169 : decode cX1_readModule 169 = .ok (.if_icmp .ge 12, 3) := by decide +kernel
theorem V.dX1_readModule_172 : decode cX1_readModule 172 = .ok (.aload_n 0, 1) := by decide +kernel
theorem V.dX1_readModule_173 : decode cX1_readModule 173 = .ok (.iconst 3, 1) := by decide +kernel
theorem V.dX1_readModule_174 : decode cX1_readModule 174 = .ok (.aload_n 0, 1) := by decide +kernel
theorem V.dX1_readModule_175 : decode cX1_readModule 175 = .ok (.getfield 56, 3) := by decide +kernel
theorem V.dX1_readModule_178 : decode cX1_readModule 178 = .ok (.invokevirtual 68, 3) := by decide +kernel
theorem V.dX1_readModule_181 : decode cX1_readModule 181 = .ok (.aload_n 0, 1) := by decide +kernel
theorem V.dX1_readModule_182 : decode cX1_readModule 182 = .ok (.iload_n 2, 1) := by decide +kernel
theorem V.dX1_readModule_183 : decode cX1_readModule 183 = .ok (.putfield 59, 3) := by decide +kernel
theorem V.dX1_readModule_186 : decode cX1_readModule 186 = .ok (.aload_n 0, 1) := by decide +kernel
theorem V.dX1_readModule_187 : decode cX1_readModule 187 = .ok (.getfield 16, 3) := by decide +kernel
theorem V.dX1_readModule_190 : decode cX1_readModule 190 = .ok (.dup, 1) := by decide +kernel
theorem V.dX1_readModule_191 : decode cX1_readModule 191 = .ok (.getfield 276, 3) := by decide +kernel
theorem V.dX1_readModule_194 : decode cX1_readModule 194 = .ok (.iconst 1, 1) := by decide +kernel
theorem V.dX1_readModule_195 : decode cX1_readModule 195 = .ok (.iadd, 1) := by decide +kernel
theorem V.dX1_readModule_196 : decode cX1_readModule 196 = .ok (.putfield 276, 3) := by decide +kernel
theorem V.dX1_readModule_199 : decode cX1_readModule 199 = .ok (.goto (-152), 3) := by decide +kernel
theorem V.dX1_readModule_202 : decode cX1_readModule 202 = .ok (.aload_n 0, 1) := by decide +kernel
theorem V.dX1_readModule_203 : decode cX1_readModule 203 = .ok (.getfield 16, 3) := by decide +kernel
theorem V.dX1_readModule_206 : decode cX1_readModule 206 = .ok (.getfield 214, 3) := by decide +kernel
theorem V.dX1_readModule_209 : decode cX1_readModule 209 = .ok (.invokevirtual 122, 3) := by decide +kernel
theorem V.dX1_readModule_212 : decode cX1_readModule 212 = .ok (.iconst 5, 1) := by decide +kernel
theorem V.dX1_readModule_213 : decode cX1_readModule 213 = .ok (.aload_n 0, 1) := by decide +kernel
theorem V.dX1_readModule_214 : decode cX1_readModule 214 = .ok (.getfield 16, 3) := by decide +kernel
theorem V.dX1_readModule_217 : decode cX1_readModule 217 = .ok (.getfield 229, 3) := by decide +kernel
theorem V.dX1_readModule_220 : decode cX1_readModule 220 = .ok (.invokevirtual 122, 3) := by decide +kernel
theorem V.dX1_readModule_223 : decode cX1_readModule 223 = .ok (.imul, 1) := by decide +kernel
theorem V.dX1_readModule_224 : decode cX1_readModule 224 = .ok (.if_icmp .eq 10, 3) := by decide +kernel
theorem V.dX1_readModule_227 : decode cX1_readModule 227 = .ok (.aload_n 0, 1) := by decide +kernel
theorem V.dX1_readModule_228 : decode cX1_readModule 228 = .ok (.bipush 13, 2) := by decide +kernel
theorem V.dX1_readModule_230 : decode cX1_readModule 230 = .ok (.iload_n 2, 1) := by decide +kernel
theorem V.dX1_readModule_231 : decode cX1_readModule 231 = .ok (.invokevirtual 68, 3) := by decide +kernel
theorem V.dX1_readModule_234 : decode cX1_readModule 234 = .ok (.aload_n 0, 1) := by decide +kernel
theorem V.dX1_readModule_235 : decode cX1_readModule 235 = .ok (.getfield 16, 3) := by decide +kernel
theorem V.dX1_readModule_238 : decode cX1_readModule 238 = .ok (.getfield 142, 3) := by decide +kernel
theorem V.dX1_readModule_241 : decode cX1_readModule 241 = .ok (.lconst 0, 1) := by decide +kernel
theorem V.dX1_readModule_242 : decode cX1_readModule 242 = .ok (.lcmp, 1) := by decide +kernel
theorem V.dX1_readModule_243 : decode cX1_readModule 243 = .ok (.ifCond .lt 35, 3) := by decide +kernel
theorem V.dX1_readModule_246 : decode cX1_readModule 246 = .ok (.aload_n 0, 1) := by decide +kernel
theorem V.dX1_readModule_247 : decode cX1_readModule 247 = .ok (.getfield 16, 3) := by decide +kernel
theorem V.dX1_readModule_250 : decode cX1_readModule 250 = .ok (.getfield 142, 3) := by decide +kernel
theorem V.dX1_readModule_253 : decode cX1_readModule 253 = .ok (.aload_n 0, 1) := by decide +kernel
theorem V.dX1_readModule_254 : decode cX1_readModule 254 = .ok (.getfield 16, 3) := by decide +kernel
theorem V.dX1_readModule_257 : decode cX1_readModule 257 = .ok (.getfield 217, 3) := by decide +kernel
theorem V.dX1_readModule_260 : decode cX1_readModule 260 = .ok (.invokevirtual 122, 3) := by decide +kernel
theorem V.dX1_readModule_263 : decode cX1_readModule 263 = .ok (.bipush 6, 2) := by decide +kernel
theorem V.dX1_readModule_265 : decode cX1_readModule 265 = .ok (.idiv, 1) := by decide +kernel
theorem V.dX1_readModule_266 : decode cX1_readModule 266 = .ok (.i2l, 1) := by decide +kernel
theorem V.dX1_readModule_267 : decode cX1_readModule 267 = .ok (.lcmp, 1) := by decide +kernel
theorem V.dX1_readModule_268 : decode cX1_readModule 268 = .ok (.ifCond .eq 10, 3) := by decide +kernel
theorem V.dX1_readModule_271 : decode cX1_readModule 271 = .ok (.aload_n 0, 1) := by decide +kernel
theorem V.dX1_readModule_272 : decode cX1_readModule 272 = .ok (.bipush 14, 2) := by decide +kernel
theorem V.dX1_readModule_274 : decode cX1_readModule 274 = .ok (.iload_n 2, 1) := by decide +kernel
theorem V.dX1_readModule_275 : decode cX1_readModule 275 = .ok (.invokevirtual 68, 3) := by decide +kernel
theorem V.dX1_readModule_278 : decode cX1_readModule 278 = .ok (.return_, 1) := by decide +kernel
theorem V.mdX1_270 : MD RX1 270 yX1_order cX1_order 1 (some .int) 1 := ⟨Or.inl q1360, q361, q1362, by decide, by decide, by decide +kernel⟩
theorem V.mdX1_273 : MD RX1 273 yX1_content cX1_content 4 none 1 := ⟨Or.inl q1379, q361, q1382, by decide, by decide, by decide +kernel⟩
theorem V.fdX1_276 : FD RX1 276 2 16 0 := ⟨(RX2, TX2, 21), tyX2, rfl, rfl, in_X2, by decide, Or.inr ⟨_, q480⟩, rfl⟩
theorem V.fpX1_276 {nm : String} : FP RX1 nm 276 2 16 (.int) := ⟨(RX2, TX2, 21), tyX2, rfl, rfl, in_X2, by decide, tyX2_ok, nmX2, rfl, Or.inl ⟨rfl, Or.inr ⟨_, q480⟩⟩⟩
/-! ModuleEngine$Bytes.readModule()V -/
def V.Byt_readModule_p234  (σ : HS) (x0 : Nat) (x2 : Int32) : Option ((Nat ⊕ Unit) × HS) :=
  ck (tg σ x0 = 2) <|
  ck (tg σ (gR σ x0 3) = 3) <|
  if (gJ σ (gR σ x0 3) 20) < (0 : Int64) then (
    some (.inr (), σ))
  else (
    ck (tg σ x0 = 2) <|
    ck (tg σ (gR σ x0 3) = 3) <|
    ck (tg σ x0 = 2) <|
    ck (tg σ (gR σ x0 3) = 3) <|
    ck (tg σ (gR σ (gR σ x0 3) 13) = 4) <| cl (Row_size σ (gR σ (gR σ x0 3) 13) ) fun r2 σ1 =>
    ck (¬ (6 : Int32) = 0) <|
    if (gJ σ (gR σ x0 3) 20) = ((r2 / (6 : Int32)).toInt64) then (
      some (.inr (), σ1))
    else (
      ck (tg σ1 x0 = 2) <| clT (Byt_stop σ1 x0 (14 : Int32) x2) fun _ σ3 =>
      some (.inr (), σ3)))
theorem V.gX1_readModule_p234 {X : CX}  (σ : HS) (x0 : Nat) (x2 : Int32) : G X RX1 "readModule" cX1_readModule 7 none 18 362 (enX enV (cxz X)) 234 [(0, av x0), (2, iv x2)] [] σ (Byt_readModule_p234 σ x0 x2) := by
  unfold Byt_readModule_p234
  refine g_aload_n 0 0 dX1_readModule_234 rfl rfl ?_
  refine g_getR fdX1_16 dX1_readModule_235 ?_
  refine g_getJ fdX1_142 dX1_readModule_238 ?_
  refine g_lconst (v := 0) dX1_readModule_241 (by decide) ?_
  refine g_lcmp_lt 278 dX1_readModule_242 dX1_readModule_243 (by decide) ?_ ?_
  · exact g_return rfl dX1_readModule_278
  · refine g_aload_n 0 0 dX1_readModule_246 rfl rfl ?_
    refine g_getR fdX1_16 dX1_readModule_247 ?_
    refine g_getJ fdX1_142 dX1_readModule_250 ?_
    refine g_aload_n 0 0 dX1_readModule_253 rfl rfl ?_
    refine g_getR fdX1_16 dX1_readModule_254 ?_
    refine g_getR fdX1_217 dX1_readModule_257 ?_
    refine g_callV (fc := fun sς => Row_size sς (gR σ (gR σ x0 3) 13) ) (ci := 3) (as := []) rfl rfl rfl q1421 q1422 mdX1_122 (ctX3_size (gR σ (gR σ x0 3) 13) ) rfl (Nat.le_of_ble_eq_true rfl) (Nat.le_of_ble_eq_true rfl) (Nat.le_of_ble_eq_true rfl) pu_I dX1_readModule_260 (fun r2 σ1 => ?_)
    refine g_bipush (v := 6) dX1_readModule_263 (by decide) ?_
    refine g_idiv dX1_readModule_265 ?_
    refine g_i2l dX1_readModule_266 ?_
    refine g_lcmp_eq 278 dX1_readModule_267 dX1_readModule_268 (by decide) ?_ ?_
    · exact g_return rfl dX1_readModule_278
    · refine g_aload_n 0 0 dX1_readModule_271 rfl rfl ?_
      refine g_bipush (v := 14) dX1_readModule_272 (by decide) ?_
      refine g_iload_n 2 1 dX1_readModule_274 rfl rfl ?_
      refine g_callVT (fc := fun sς => Byt_stop sς x0 (14 : Int32) x2) (ci := 1) (as := [iv (14 : Int32), iv x2]) rfl rfl rfl q1295 qs3 q1293 mdX1_68 (ctX1_stop x0 (14 : Int32) x2) rfl (Nat.le_of_ble_eq_true rfl) (Nat.le_of_ble_eq_true rfl) (Nat.le_of_ble_eq_true rfl) pu_V (by decide) dX1_readModule_275 (fun _ σ3 => ?_)
      exact g_return rfl dX1_readModule_278
def V.Byt_readModule_p181 (rec47 : HS → Nat → Int32 → Int32 → Option ((Nat ⊕ Unit) × HS)) (σ : HS) (x0 : Nat) (x1 : Int32) (x2 : Int32) : Option ((Nat ⊕ Unit) × HS) :=
  ck (tg σ x0 = 2) <| bn (sI σ x0 7 x2) fun σ1 =>
  ck (tg σ1 x0 = 2) <|
  bn (gR σ1 x0 3) fun y2 =>
  ck (tg σ1 y2 = 3) <|
  ck (tg σ1 y2 = 3) <| bn (sI σ1 y2 16 ((gI σ1 y2 16) + (1 : Int32))) fun σ3 =>
  rec47 σ3 x0 x1 x2
theorem V.gX1_readModule_p181 {X : CX} (rec47 : HS → Nat → Int32 → Int32 → Option ((Nat ⊕ Unit) × HS)) (hrec47 : ∀ (σ : HS) (x0 : Nat) (x1 : Int32) (x2 : Int32), G X RX1 "readModule" cX1_readModule 7 none 18 362 (enX enV (cxz X)) 47 [(0, av x0), (1, iv x1), (2, iv x2)] [] σ (rec47 σ x0 x1 x2)) (σ : HS) (x0 : Nat) (x1 : Int32) (x2 : Int32) : G X RX1 "readModule" cX1_readModule 7 none 18 362 (enX enV (cxz X)) 181 [(0, av x0), (1, iv x1), (2, iv x2)] [] σ (Byt_readModule_p181 rec47 σ x0 x1 x2) := by
  unfold Byt_readModule_p181
  refine g_aload_n 0 0 dX1_readModule_181 rfl rfl ?_
  refine g_iload_n 2 2 dX1_readModule_182 rfl rfl ?_
  refine g_putI fpX1_59 dX1_readModule_183 (fun σ1 => ?_)
  refine g_aload_n 0 0 dX1_readModule_186 rfl rfl ?_
  refine g_getR fdX1_16 dX1_readModule_187 ?_
  refine g_nmA (fun y2 => ?_)
  refine g_dup dX1_readModule_190 rfl ?_
  refine g_getI fdX1_276 dX1_readModule_191 ?_
  refine g_iconst (v := 1) dX1_readModule_194 (by decide) ?_
  refine g_iadd dX1_readModule_195 ?_
  refine g_putI fpX1_276 dX1_readModule_196 (fun σ3 => ?_)
  refine g_goto 47 dX1_readModule_199 (by decide) ?_
  exact hrec47 _ _ _ _
def V.Byt_readModule_p144 (rec47 : HS → Nat → Int32 → Int32 → Option ((Nat ⊕ Unit) × HS)) (σ : HS) (x0 : Nat) (x1 : Int32) (x2 : Int32) (x4 : Int32) (x6 : Int32) : Option ((Nat ⊕ Unit) × HS) :=
  ck (tg σ x0 = 2) <|
  ck (tg σ x0 = 2) <| bn (sI σ x0 7 ((gI σ x0 6) + x6)) fun σ1 =>
  ck (tg σ1 x0 = 2) <| clT (Byt_content σ1 x0 x4) fun _ σ2 =>
  ck (tg σ2 x0 = 2) <|
  ck (tg σ2 x0 = 2) <|
  if (gI σ2 x0 7) ≤ (gI σ2 x0 6) then (
    Byt_readModule_p181 rec47 σ2 x0 x1 x2)
  else (
    ck (tg σ2 x0 = 2) <|
    ck (tg σ2 x0 = 2) <| clT (Byt_stop σ2 x0 (3 : Int32) (gI σ2 x0 6)) fun _ σ3 =>
    Byt_readModule_p181 rec47 σ3 x0 x1 x2)
theorem V.gX1_readModule_p144 {X : CX} (rec47 : HS → Nat → Int32 → Int32 → Option ((Nat ⊕ Unit) × HS)) (hrec47 : ∀ (σ : HS) (x0 : Nat) (x1 : Int32) (x2 : Int32), G X RX1 "readModule" cX1_readModule 7 none 18 362 (enX enV (cxz X)) 47 [(0, av x0), (1, iv x1), (2, iv x2)] [] σ (rec47 σ x0 x1 x2)) (σ : HS) (x0 : Nat) (x1 : Int32) (x2 : Int32) (x4 : Int32) (x6 : Int32) : G X RX1 "readModule" cX1_readModule 7 none 18 362 (enX enV (cxz X)) 144 [(0, av x0), (1, iv x1), (2, iv x2), (4, iv x4), (6, iv x6)] [] σ (Byt_readModule_p144 rec47 σ x0 x1 x2 x4 x6) := by
  unfold Byt_readModule_p144
  refine g_aload_n 0 0 dX1_readModule_144 rfl rfl ?_
  refine g_aload_n 0 0 dX1_readModule_145 rfl rfl ?_
  refine g_getI fdX1_56 dX1_readModule_146 ?_
  refine g_iload 4 dX1_readModule_149 rfl ?_
  refine g_iadd dX1_readModule_151 ?_
  refine g_putI fpX1_59 dX1_readModule_152 (fun σ1 => ?_)
  refine g_aload_n 0 0 dX1_readModule_155 rfl rfl ?_
  refine g_iload 3 dX1_readModule_156 rfl ?_
  refine g_callVT (fc := fun sς => Byt_content sς x0 x4) (ci := 1) (as := [iv x4]) rfl rfl rfl q1381 qs7 q1379 mdX1_273 (ctX1_content x0 x4) rfl (Nat.le_of_ble_eq_true rfl) (Nat.le_of_ble_eq_true rfl) (Nat.le_of_ble_eq_true rfl) pu_V (by decide) dX1_readModule_158 (fun _ σ2 => ?_)
  refine g_aload_n 0 0 dX1_readModule_161 rfl rfl ?_
  refine g_getI fdX1_56 dX1_readModule_162 ?_
  refine g_aload_n 0 0 dX1_readModule_165 rfl rfl ?_
  refine g_getI fdX1_59 dX1_readModule_166 ?_
  refine g_icmp_ge 181 dX1_readModule_169 (by decide) ?_ ?_
  · refine G.sub [0, 1, 2] rfl ?_
    exact gX1_readModule_p181 rec47 hrec47 _ _ _ _
  · refine g_aload_n 0 0 dX1_readModule_172 rfl rfl ?_
    refine g_iconst (v := 3) dX1_readModule_173 (by decide) ?_
    refine g_aload_n 0 0 dX1_readModule_174 rfl rfl ?_
    refine g_getI fdX1_56 dX1_readModule_175 ?_
    refine g_callVT (fc := fun sς => Byt_stop sς x0 (3 : Int32) (gI σ2 x0 6)) (ci := 1) (as := [iv (3 : Int32), iv (gI σ2 x0 6)]) rfl rfl rfl q1295 qs3 q1293 mdX1_68 (ctX1_stop x0 (3 : Int32) (gI σ2 x0 6)) rfl (Nat.le_of_ble_eq_true rfl) (Nat.le_of_ble_eq_true rfl) (Nat.le_of_ble_eq_true rfl) pu_V (by decide) dX1_readModule_178 (fun _ σ3 => ?_)
    refine G.sub [0, 1, 2] rfl ?_
    exact gX1_readModule_p181 rec47 hrec47 _ _ _ _
def V.Byt_readModule_p108 (rec47 : HS → Nat → Int32 → Int32 → Option ((Nat ⊕ Unit) × HS)) (σ : HS) (x0 : Nat) (x2 : Int32) (x4 : Int32) (s0 : Int32) : Option ((Nat ⊕ Unit) × HS) :=
  ck (tg σ x0 = 2) <|
  bn (gI σ x0 6) fun y1 =>
  ck (tg σ x0 = 2) <| clT (Byt_whole σ x0 ) fun r3 σ2 =>
  cl (Mod_wide σ2 r3) fun r5 σ4 =>
  ck (tg σ4 x0 = 2) <|
  if r5 ≤ ((x2 - (gI σ4 x0 6)).toInt64) then (
    Byt_readModule_p144 rec47 σ4 x0 s0 x2 x4 r3)
  else (
    ck (tg σ4 x0 = 2) <| clT (Byt_stop σ4 x0 (2 : Int32) y1) fun _ σ6 =>
    Byt_readModule_p144 rec47 σ6 x0 s0 x2 x4 r3)
theorem V.gX1_readModule_p108 {X : CX} (rec47 : HS → Nat → Int32 → Int32 → Option ((Nat ⊕ Unit) × HS)) (hrec47 : ∀ (σ : HS) (x0 : Nat) (x1 : Int32) (x2 : Int32), G X RX1 "readModule" cX1_readModule 7 none 18 362 (enX enV (cxz X)) 47 [(0, av x0), (1, iv x1), (2, iv x2)] [] σ (rec47 σ x0 x1 x2)) (σ : HS) (x0 : Nat) (x2 : Int32) (x4 : Int32) (s0 : Int32) : G X RX1 "readModule" cX1_readModule 7 none 18 362 (enX enV (cxz X)) 108 [(0, av x0), (2, iv x2), (4, iv x4)] [iv s0] σ (Byt_readModule_p108 rec47 σ x0 x2 x4 s0) := by
  unfold Byt_readModule_p108
  refine g_istore_n 1 dX1_readModule_108 rfl (by decide) rfl ?_
  refine g_aload_n 0 1 dX1_readModule_109 rfl rfl ?_
  refine g_getI fdX1_56 dX1_readModule_110 ?_
  refine g_nmI (fun y1 => ?_)
  refine g_istore dX1_readModule_113 (by decide) rfl ?_
  refine g_aload_n 0 2 dX1_readModule_115 rfl rfl ?_
  refine g_callVT (fc := fun sς => Byt_whole sς x0 ) (ci := 1) (as := []) rfl rfl rfl q1365 qs5 q1363 mdX1_91 (ctX1_whole x0 ) rfl (Nat.le_of_ble_eq_true rfl) (Nat.le_of_ble_eq_true rfl) (Nat.le_of_ble_eq_true rfl) pu_I (by decide) dX1_readModule_116 (fun r3 σ2 => ?_)
  refine g_istore dX1_readModule_119 (by decide) rfl ?_
  refine g_iload 0 dX1_readModule_121 rfl ?_
  refine g_callS (fc := fun sς => Mod_wide sς r3) (as := [iv r3]) q1376 mdX1_87 (ctX2_wide r3) rfl (Nat.le_of_ble_eq_true rfl) (Nat.le_of_ble_eq_true rfl) (Nat.le_of_ble_eq_true rfl) pu_J dX1_readModule_123 (fun r5 σ4 => ?_)
  refine g_iload_n 2 4 dX1_readModule_126 rfl rfl ?_
  refine g_aload_n 0 3 dX1_readModule_127 rfl rfl ?_
  refine g_getI fdX1_56 dX1_readModule_128 ?_
  refine g_isub dX1_readModule_131 ?_
  refine g_i2l dX1_readModule_132 ?_
  refine g_lcmp_le 144 dX1_readModule_133 dX1_readModule_134 (by decide) ?_ ?_
  · refine G.sub [3, 2, 4, 5, 0] rfl ?_
    exact gX1_readModule_p144 rec47 hrec47 _ _ _ _ _ _
  · refine g_aload_n 0 3 dX1_readModule_137 rfl rfl ?_
    refine g_iconst (v := 2) dX1_readModule_138 (by decide) ?_
    refine g_iload 1 dX1_readModule_139 rfl ?_
    refine g_callVT (fc := fun sς => Byt_stop sς x0 (2 : Int32) y1) (ci := 1) (as := [iv (2 : Int32), iv y1]) rfl rfl rfl q1295 qs3 q1293 mdX1_68 (ctX1_stop x0 (2 : Int32) y1) rfl (Nat.le_of_ble_eq_true rfl) (Nat.le_of_ble_eq_true rfl) (Nat.le_of_ble_eq_true rfl) pu_V (by decide) dX1_readModule_141 (fun _ σ6 => ?_)
    refine G.sub [3, 2, 4, 5, 0] rfl ?_
    exact gX1_readModule_p144 rec47 hrec47 _ _ _ _ _ _
def V.Byt_readModule_p94 (rec47 : HS → Nat → Int32 → Int32 → Option ((Nat ⊕ Unit) × HS)) (σ : HS) (x0 : Nat) (x1 : Int32) (x2 : Int32) (x4 : Int32) : Option ((Nat ⊕ Unit) × HS) :=
  if x4 ≤ 0 then (
    Byt_readModule_p108 rec47 σ x0 x2 x4 x1)
  else (
    cl (Byt_order σ x4) fun r2 σ1 =>
    Byt_readModule_p108 rec47 σ1 x0 x2 x4 r2)
theorem V.gX1_readModule_p94 {X : CX} (rec47 : HS → Nat → Int32 → Int32 → Option ((Nat ⊕ Unit) × HS)) (hrec47 : ∀ (σ : HS) (x0 : Nat) (x1 : Int32) (x2 : Int32), G X RX1 "readModule" cX1_readModule 7 none 18 362 (enX enV (cxz X)) 47 [(0, av x0), (1, iv x1), (2, iv x2)] [] σ (rec47 σ x0 x1 x2)) (σ : HS) (x0 : Nat) (x1 : Int32) (x2 : Int32) (x4 : Int32) : G X RX1 "readModule" cX1_readModule 7 none 18 362 (enX enV (cxz X)) 94 [(0, av x0), (1, iv x1), (2, iv x2), (4, iv x4)] [] σ (Byt_readModule_p94 rec47 σ x0 x1 x2 x4) := by
  unfold Byt_readModule_p94
  refine g_iload 3 dX1_readModule_94 rfl ?_
  refine g_if_le 107 dX1_readModule_96 (by decide) ?_ ?_
  · refine g_iload_n 1 1 dX1_readModule_107 rfl rfl ?_
    refine G.sub [0, 2, 3] rfl ?_
    exact gX1_readModule_p108 rec47 hrec47 _ _ _ _ _
  · refine g_iload 3 dX1_readModule_99 rfl ?_
    refine g_callS (fc := fun sς => Byt_order sς x4) (as := [iv x4]) q1361 mdX1_270 (ctX1_order x4) rfl (Nat.le_of_ble_eq_true rfl) (Nat.le_of_ble_eq_true rfl) (Nat.le_of_ble_eq_true rfl) pu_I dX1_readModule_101 (fun r2 σ1 => ?_)
    refine g_goto 108 dX1_readModule_104 (by decide) ?_
    refine G.sub [0, 2, 3] rfl ?_
    exact gX1_readModule_p108 rec47 hrec47 _ _ _ _ _
def V.Byt_readModule_p87 (rec47 : HS → Nat → Int32 → Int32 → Option ((Nat ⊕ Unit) × HS)) (σ : HS) (x0 : Nat) (x1 : Int32) (x2 : Int32) (x3 : Int32) (x4 : Int32) : Option ((Nat ⊕ Unit) × HS) :=
  ck (tg σ x0 = 2) <| clT (Byt_stop σ x0 (6 : Int32) x3) fun _ σ1 =>
  Byt_readModule_p94 rec47 σ1 x0 x1 x2 x4
theorem V.gX1_readModule_p87 {X : CX} (rec47 : HS → Nat → Int32 → Int32 → Option ((Nat ⊕ Unit) × HS)) (hrec47 : ∀ (σ : HS) (x0 : Nat) (x1 : Int32) (x2 : Int32), G X RX1 "readModule" cX1_readModule 7 none 18 362 (enX enV (cxz X)) 47 [(0, av x0), (1, iv x1), (2, iv x2)] [] σ (rec47 σ x0 x1 x2)) (σ : HS) (x0 : Nat) (x1 : Int32) (x2 : Int32) (x3 : Int32) (x4 : Int32) : G X RX1 "readModule" cX1_readModule 7 none 18 362 (enX enV (cxz X)) 87 [(0, av x0), (1, iv x1), (2, iv x2), (3, iv x3), (4, iv x4)] [] σ (Byt_readModule_p87 rec47 σ x0 x1 x2 x3 x4) := by
  unfold Byt_readModule_p87
  refine g_aload_n 0 0 dX1_readModule_87 rfl rfl ?_
  refine g_bipush (v := 6) dX1_readModule_88 (by decide) ?_
  refine g_iload_n 3 3 dX1_readModule_90 rfl rfl ?_
  refine g_callVT (fc := fun sς => Byt_stop sς x0 (6 : Int32) x3) (ci := 1) (as := [iv (6 : Int32), iv x3]) rfl rfl rfl q1295 qs3 q1293 mdX1_68 (ctX1_stop x0 (6 : Int32) x3) rfl (Nat.le_of_ble_eq_true rfl) (Nat.le_of_ble_eq_true rfl) (Nat.le_of_ble_eq_true rfl) pu_V (by decide) dX1_readModule_91 (fun _ σ1 => ?_)
  refine G.sub [0, 1, 2, 4] rfl ?_
  exact gX1_readModule_p94 rec47 hrec47 _ _ _ _ _
def V.Byt_readModule_p47  : Nat → HS → Nat → Int32 → Int32 → Option ((Nat ⊕ Unit) × HS)
  | 0, _, _, _, _ => none
  | n + 1, σ, x0, x1, x2 =>
    ck (tg σ x0 = 2) <|
    if x2 ≤ (gI σ x0 6) then (
      ck (tg σ x0 = 2) <|
      ck (tg σ (gR σ x0 3) = 3) <|
      ck (tg σ (gR σ (gR σ x0 3) 11) = 4) <| cl (Row_size σ (gR σ (gR σ x0 3) 11) ) fun r2 σ1 =>
      ck (tg σ1 x0 = 2) <|
      ck (tg σ1 (gR σ1 x0 3) = 3) <|
      ck (tg σ1 (gR σ1 (gR σ1 x0 3) 4) = 4) <| cl (Row_size σ1 (gR σ1 (gR σ1 x0 3) 4) ) fun r4 σ3 =>
      if r2 = ((5 : Int32) * r4) then (
        Byt_readModule_p234 σ3 x0 x2)
      else (
        ck (tg σ3 x0 = 2) <| clT (Byt_stop σ3 x0 (13 : Int32) x2) fun _ σ5 =>
        Byt_readModule_p234 σ5 x0 x2))
    else (
      ck (tg σ x0 = 2) <|
      bn (gI σ x0 6) fun y6 =>
      ck (tg σ x0 = 2) <| clT (Byt_take σ x0 ) fun r8 σ7 =>
      if (12 : Int32) < r8 then (
        Byt_readModule_p87 (Byt_readModule_p47 n) σ7 x0 x1 x2 y6 r8)
      else (
        if r8 ≤ 0 then (
          Byt_readModule_p94 (Byt_readModule_p47 n) σ7 x0 x1 x2 r8)
        else (
          cl (Byt_order σ7 r8) fun r10 σ9 =>
          if x1 < r10 then (
            Byt_readModule_p94 (Byt_readModule_p47 n) σ9 x0 x1 x2 r8)
          else (
            Byt_readModule_p87 (Byt_readModule_p47 n) σ9 x0 x1 x2 y6 r8))))
theorem V.gX1_readModule_p47 {X : CX}  : ∀ (n : Nat) (σ : HS) (x0 : Nat) (x1 : Int32) (x2 : Int32), G X RX1 "readModule" cX1_readModule 7 none 18 362 (enX enV (cxz X)) 47 [(0, av x0), (1, iv x1), (2, iv x2)] [] σ (Byt_readModule_p47 n σ x0 x1 x2)
  | 0, σ, x0, x1, x2 => by rw [Byt_readModule_p47]; exact G.nul
  | n + 1, σ, x0, x1, x2 => by
    rw [Byt_readModule_p47]
    refine g_aload_n 0 0 dX1_readModule_47 rfl rfl ?_
    refine g_getI fdX1_56 dX1_readModule_48 ?_
    refine g_iload_n 2 2 dX1_readModule_51 rfl rfl ?_
    refine g_icmp_ge 202 dX1_readModule_52 (by decide) ?_ ?_
    · refine g_aload_n 0 0 dX1_readModule_202 rfl rfl ?_
      refine g_getR fdX1_16 dX1_readModule_203 ?_
      refine g_getR fdX1_214 dX1_readModule_206 ?_
      refine g_callV (fc := fun sς => Row_size sς (gR σ (gR σ x0 3) 11) ) (ci := 3) (as := []) rfl rfl rfl q1421 q1422 mdX1_122 (ctX3_size (gR σ (gR σ x0 3) 11) ) rfl (Nat.le_of_ble_eq_true rfl) (Nat.le_of_ble_eq_true rfl) (Nat.le_of_ble_eq_true rfl) pu_I dX1_readModule_209 (fun r2 σ1 => ?_)
      refine g_iconst (v := 5) dX1_readModule_212 (by decide) ?_
      refine g_aload_n 0 0 dX1_readModule_213 rfl rfl ?_
      refine g_getR fdX1_16 dX1_readModule_214 ?_
      refine g_getR fdX1_229 dX1_readModule_217 ?_
      refine g_callV (fc := fun sς => Row_size sς (gR σ1 (gR σ1 x0 3) 4) ) (ci := 3) (as := []) rfl rfl rfl q1421 q1422 mdX1_122 (ctX3_size (gR σ1 (gR σ1 x0 3) 4) ) rfl (Nat.le_of_ble_eq_true rfl) (Nat.le_of_ble_eq_true rfl) (Nat.le_of_ble_eq_true rfl) pu_I dX1_readModule_220 (fun r4 σ3 => ?_)
      refine g_imul dX1_readModule_223 ?_
      refine g_icmp_eq 234 dX1_readModule_224 (by decide) ?_ ?_
      · refine G.sub [0, 2] rfl ?_
        exact gX1_readModule_p234 _ _ _
      · refine g_aload_n 0 0 dX1_readModule_227 rfl rfl ?_
        refine g_bipush (v := 13) dX1_readModule_228 (by decide) ?_
        refine g_iload_n 2 2 dX1_readModule_230 rfl rfl ?_
        refine g_callVT (fc := fun sς => Byt_stop sς x0 (13 : Int32) x2) (ci := 1) (as := [iv (13 : Int32), iv x2]) rfl rfl rfl q1295 qs3 q1293 mdX1_68 (ctX1_stop x0 (13 : Int32) x2) rfl (Nat.le_of_ble_eq_true rfl) (Nat.le_of_ble_eq_true rfl) (Nat.le_of_ble_eq_true rfl) pu_V (by decide) dX1_readModule_231 (fun _ σ5 => ?_)
        refine G.sub [0, 2] rfl ?_
        exact gX1_readModule_p234 _ _ _
    · refine g_aload_n 0 0 dX1_readModule_55 rfl rfl ?_
      refine g_getI fdX1_56 dX1_readModule_56 ?_
      refine g_nmI (fun y6 => ?_)
      refine g_istore_n 3 dX1_readModule_59 rfl (by decide) rfl ?_
      refine g_aload_n 0 1 dX1_readModule_60 rfl rfl ?_
      refine g_callVT (fc := fun sς => Byt_take sς x0 ) (ci := 1) (as := []) rfl rfl rfl q1291 qs2 q1289 mdX1_73 (ctX1_take x0 ) rfl (Nat.le_of_ble_eq_true rfl) (Nat.le_of_ble_eq_true rfl) (Nat.le_of_ble_eq_true rfl) pu_I (by decide) dX1_readModule_61 (fun r8 σ7 => ?_)
      refine g_istore dX1_readModule_64 (by decide) rfl ?_
      refine g_iload 0 dX1_readModule_66 rfl ?_
      refine g_bipush (v := 12) dX1_readModule_68 (by decide) ?_
      refine g_icmp_gt 87 dX1_readModule_70 (by decide) ?_ ?_
      · refine G.sub [2, 3, 4, 1, 0] rfl ?_
        exact gX1_readModule_p87 (Byt_readModule_p47 n) (gX1_readModule_p47 n) _ _ _ _ _ _
      · refine g_iload 0 dX1_readModule_73 rfl ?_
        refine g_if_le 94 dX1_readModule_75 (by decide) ?_ ?_
        · refine G.sub [2, 3, 4, 0] rfl ?_
          exact gX1_readModule_p94 (Byt_readModule_p47 n) (gX1_readModule_p47 n) _ _ _ _ _
        · refine g_iload 0 dX1_readModule_78 rfl ?_
          refine g_callS (fc := fun sς => Byt_order sς r8) (as := [iv r8]) q1361 mdX1_270 (ctX1_order r8) rfl (Nat.le_of_ble_eq_true rfl) (Nat.le_of_ble_eq_true rfl) (Nat.le_of_ble_eq_true rfl) pu_I dX1_readModule_80 (fun r10 σ9 => ?_)
          refine g_iload_n 1 3 dX1_readModule_83 rfl rfl ?_
          refine g_icmp_gt 94 dX1_readModule_84 (by decide) ?_ ?_
          · refine G.sub [2, 3, 4, 0] rfl ?_
            exact gX1_readModule_p94 (Byt_readModule_p47 n) (gX1_readModule_p47 n) _ _ _ _ _
          · refine G.sub [2, 3, 4, 1, 0] rfl ?_
            exact gX1_readModule_p87 (Byt_readModule_p47 n) (gX1_readModule_p47 n) _ _ _ _ _ _
def V.Byt_readModule_p34 (rec2 : HS → Nat → Int32 → Option ((Nat ⊕ Unit) × HS)) (σ : HS) (x0 : Nat) (x1 : Int32) : Option ((Nat ⊕ Unit) × HS) :=
  bn (x1 + (1 : Int32)) fun y1 =>
  rec2 σ x0 y1
theorem V.gX1_readModule_p34 {X : CX} (rec2 : HS → Nat → Int32 → Option ((Nat ⊕ Unit) × HS)) (hrec2 : ∀ (σ : HS) (x0 : Nat) (x1 : Int32), G X RX1 "readModule" cX1_readModule 7 none 18 362 (enX enV (cxz X)) 2 [(0, av x0), (1, iv x1)] [] σ (rec2 σ x0 x1)) (σ : HS) (x0 : Nat) (x1 : Int32) : G X RX1 "readModule" cX1_readModule 7 none 18 362 (enX enV (cxz X)) 34 [(0, av x0), (1, iv x1)] [] σ (Byt_readModule_p34 rec2 σ x0 x1) := by
  unfold Byt_readModule_p34
  refine g_iincB (w := 1) 1 dX1_readModule_34 rfl (by decide) (by decide) (fun _ => rfl) (fun y1 => ?_)
  refine g_goto 2 dX1_readModule_37 (by decide) ?_
  refine G.sub [1, 0] rfl ?_
  exact hrec2 _ _ _
def V.Byt_readModule_p2  : Nat → HS → Nat → Int32 → Option ((Nat ⊕ Unit) × HS)
  | 0, _, _, _ => none
  | n + 1, σ, x0, x1 =>
    if (8 : Int32) ≤ x1 then (
      ck (tg σ x0 = 2) <|
      bn (gI σ x0 7) fun y1 =>
      Byt_readModule_p47 FU σ x0 (0 : Int32) y1)
    else (
      ck (tg σ x0 = 2) <| clT (Byt_take σ x0 ) fun r3 σ2 =>
      if r3 = (((lshr (6131245312 : Int64) ((8 : Int32) * x1)) &&& (255 : Int64)).toInt32) then (
        Byt_readModule_p34 (Byt_readModule_p2 n) σ2 x0 x1)
      else (
        ck (tg σ2 x0 = 2) <| clT (Byt_stop σ2 x0 (5 : Int32) x1) fun _ σ4 =>
        Byt_readModule_p34 (Byt_readModule_p2 n) σ4 x0 x1))
theorem V.gX1_readModule_p2 {X : CX}  : ∀ (n : Nat) (σ : HS) (x0 : Nat) (x1 : Int32), G X RX1 "readModule" cX1_readModule 7 none 18 362 (enX enV (cxz X)) 2 [(0, av x0), (1, iv x1)] [] σ (Byt_readModule_p2 n σ x0 x1)
  | 0, σ, x0, x1 => by rw [Byt_readModule_p2]; exact G.nul
  | n + 1, σ, x0, x1 => by
    rw [Byt_readModule_p2]
    refine g_iload_n 1 1 dX1_readModule_2 rfl rfl ?_
    refine g_bipush (v := 8) dX1_readModule_3 (by decide) ?_
    refine g_icmp_ge 40 dX1_readModule_5 (by decide) ?_ ?_
    · refine g_iconst (v := 0) dX1_readModule_40 (by decide) ?_
      refine g_istore_n 1 dX1_readModule_41 rfl (by decide) rfl ?_
      refine g_aload_n 0 1 dX1_readModule_42 rfl rfl ?_
      refine g_getI fdX1_59 dX1_readModule_43 ?_
      refine g_nmI (fun y1 => ?_)
      refine g_istore_n 2 dX1_readModule_46 rfl (by decide) rfl ?_
      refine G.sub [2, 1, 0] rfl ?_
      exact gX1_readModule_p47 FU _ _ _ _
    · refine g_aload_n 0 0 dX1_readModule_8 rfl rfl ?_
      refine g_callVT (fc := fun sς => Byt_take sς x0 ) (ci := 1) (as := []) rfl rfl rfl q1291 qs2 q1289 mdX1_73 (ctX1_take x0 ) rfl (Nat.le_of_ble_eq_true rfl) (Nat.le_of_ble_eq_true rfl) (Nat.le_of_ble_eq_true rfl) pu_I (by decide) dX1_readModule_9 (fun r3 σ2 => ?_)
      refine g_ldc2 q1358 dX1_readModule_12 ?_
      refine g_bipush (v := 8) dX1_readModule_15 (by decide) ?_
      refine g_iload_n 1 1 dX1_readModule_17 rfl rfl ?_
      refine g_imul dX1_readModule_18 ?_
      refine g_lshr dX1_readModule_19 ?_
      refine g_ldc2 q1359 dX1_readModule_20 ?_
      refine g_land dX1_readModule_23 ?_
      refine g_l2i dX1_readModule_24 ?_
      refine g_icmp_eq 34 dX1_readModule_25 (by decide) ?_ ?_
      · exact gX1_readModule_p34 (Byt_readModule_p2 n) (gX1_readModule_p2 n) _ _ _
      · refine g_aload_n 0 0 dX1_readModule_28 rfl rfl ?_
        refine g_iconst (v := 5) dX1_readModule_29 (by decide) ?_
        refine g_iload_n 1 1 dX1_readModule_30 rfl rfl ?_
        refine g_callVT (fc := fun sς => Byt_stop sς x0 (5 : Int32) x1) (ci := 1) (as := [iv (5 : Int32), iv x1]) rfl rfl rfl q1295 qs3 q1293 mdX1_68 (ctX1_stop x0 (5 : Int32) x1) rfl (Nat.le_of_ble_eq_true rfl) (Nat.le_of_ble_eq_true rfl) (Nat.le_of_ble_eq_true rfl) pu_V (by decide) dX1_readModule_31 (fun _ σ4 => ?_)
        exact gX1_readModule_p34 (Byt_readModule_p2 n) (gX1_readModule_p2 n) _ _ _
def V.Byt_readModule (σ : HS) (x0 : Nat) : Option ((Nat ⊕ Unit) × HS) :=
  Byt_readModule_p2 FU σ x0 (0 : Int32)
theorem V.ctX1_readModule (x0 : Nat) : Ct yX1_readModule  cX1_readModule 7 none 18 362 eXV [av x0] (fun σ => Byt_readModule σ x0) := by
  refine Ct.of (own := RX1) (nm := "readModule") (desc := "()V") rfl (by decide) (Nat.le_of_ble_eq_true rfl) (by decide) (fun X σ => ?_)
  show G X RX1 "readModule" cX1_readModule 7 none 18 362 (enX enV (cxz X)) 0 [(0, av x0)] [] σ (Byt_readModule σ x0)
  unfold Byt_readModule
  refine g_iconst (v := 0) dX1_readModule_0 (by decide) ?_
  refine g_istore_n 1 dX1_readModule_1 rfl (by decide) rfl ?_
  refine G.sub [1, 0] rfl ?_
  exact gX1_readModule_p2 FU _ _ _
theorem V.dX1_read_0 : decode cX1_read 0 = .ok (.aload_n 0, 1) := by decide +kernel
theorem V.dX1_read_1 : decode cX1_read 1 = .ok (.getfield 16, 3) := by decide +kernel
theorem V.dX1_read_4 : decode cX1_read 4 = .ok (.aload_n 0, 1) := by decide +kernel
theorem V.dX1_read_5 : decode cX1_read 5 = .ok (.getfield 7, 3) := by decide +kernel
theorem V.dX1_read_8 : decode cX1_read 8 = .ok (.iload_n 1, 1) := by decide +kernel
theorem V.dX1_read_9 : decode cX1_read 9 = .ok (.invokevirtual 49, 3) := by decide +kernel
theorem V.dX1_read_12 : decode cX1_read 12 = .ok (.aload_n 0, 1) := by decide +kernel
theorem V.dX1_read_13 : decode cX1_read 13 = .ok (.iconst 0, 1) := by decide +kernel
theorem V.dX1_read_14 : decode cX1_read 14 = .ok (.putfield 37, 3) := by decide +kernel
theorem V.dX1_read_17 : decode cX1_read 17 = .ok (.aload_n 0, 1) := by decide +kernel
theorem V.dX1_read_18 : decode cX1_read 18 = .ok (.iconst 0, 1) := by decide +kernel
theorem V.dX1_read_19 : decode cX1_read 19 = .ok (.putfield 53, 3) := by decide +kernel
theorem V.dX1_read_22 : decode cX1_read 22 = .ok (.aload_n 0, 1) := by decide +kernel
theorem V.dX1_read_23 : decode cX1_read 23 = .ok (.iconst (-1), 1) := by decide +kernel
theorem V.dX1_read_24 : decode cX1_read 24 = .ok (.putfield 20, 3) := by decide +kernel
theorem V.dX1_read_27 : decode cX1_read 27 = .ok (.aload_n 0, 1) := by decide +kernel
theorem V.dX1_read_28 : decode cX1_read 28 = .ok (.iconst 0, 1) := by decide +kernel
theorem V.dX1_read_29 : decode cX1_read 29 = .ok (.putfield 56, 3) := by decide +kernel
theorem V.dX1_read_32 : decode cX1_read 32 = .ok (.aload_n 0, 1) := by decide +kernel
theorem V.dX1_read_33 : decode cX1_read 33 = .ok (.iload_n 1, 1) := by decide +kernel
theorem V.dX1_read_34 : decode cX1_read 34 = .ok (.putfield 59, 3) := by decide +kernel
theorem V.dX1_read_37 : decode cX1_read 37 = .ok (.aload_n 0, 1) := by decide +kernel
theorem V.dX1_read_38 : decode cX1_read 38 = .ok (.invokevirtual 62, 3) := by decide +kernel
theorem V.dX1_read_41 : decode cX1_read 41 = .ok (.goto 6, 3) := by decide +kernel
theorem V.dX1_read_44 : decode cX1_read 44 = .ok (.astore_n 3, 1) := by decide +kernel
theorem V.dX1_read_45 : decode cX1_read 45 = .ok (.aconst_null, 1) := by decide +kernel
theorem V.dX1_read_46 : decode cX1_read 46 = .ok (.areturn, 1) := by decide +kernel
theorem V.dX1_read_47 : decode cX1_read 47 = .ok (.aload_n 0, 1) := by decide +kernel
theorem V.dX1_read_48 : decode cX1_read 48 = .ok (.getfield 16, 3) := by decide +kernel
theorem V.dX1_read_51 : decode cX1_read 51 = .ok (.astore_n 3, 1) := by decide +kernel
theorem V.dX1_read_52 : decode cX1_read 52 = .ok (.aload_n 0, 1) := by decide +kernel
theorem V.dX1_read_53 : decode cX1_read 53 = .ok (.aload_n 2, 1) := by decide +kernel
theorem V.dX1_read_54 : decode cX1_read 54 = .ok (.ifnonnull 13, 3) := by decide +kernel
theorem V.dX1_read_57 : decode cX1_read 57 = .ok (.new 13, 3) := by decide +kernel
theorem V.dX1_read_60 : decode cX1_read 60 = .ok (.dup, 1) := by decide +kernel
theorem V.dX1_read_61 : decode cX1_read 61 = .ok (.invokespecial 15, 3) := by decide +kernel
theorem V.dX1_read_64 : decode cX1_read 64 = .ok (.goto 4, 3) := by decide +kernel
theorem V.dX1_read_67 : decode cX1_read 67 = .ok (.aload_n 2, 1) := by decide +kernel
theorem V.dX1_read_68 : decode cX1_read 68 = .ok (.putfield 16, 3) := by decide +kernel
theorem V.dX1_read_71 : decode cX1_read 71 = .ok (.aload_n 3, 1) := by decide +kernel
theorem V.dX1_read_72 : decode cX1_read 72 = .ok (.areturn, 1) := by decide +kernel
theorem V.mdX1_49 : MD RX1 49 yX2_begin cX2_begin 7 none 2 := ⟨Or.inl q1276, q362, q1279, by decide, by decide, by decide +kernel⟩
theorem V.mdX1_62 : MD RX1 62 yX1_readModule cX1_readModule 7 none 0 := ⟨Or.inl q1285, q361, q1288, by decide, by decide, by decide +kernel⟩
/-! ModuleEngine$Bytes.read(ILModuleEngine$Module;)LModuleEngine$Module; -/
def V.Byt_read_p68  (σ : HS) (x3 : Nat) (s0 : Nat) (s1 : Nat) : Option (Nat × HS) :=
  ck (tg σ s1 = 2) <| bn (sR σ s1 3 s0) fun σ1 =>
  some (x3, σ1)
theorem V.gX1_read_p68 {X : CX}  (σ : HS) (x3 : Nat) (s0 : Nat) (s1 : Nat) : G X RX1 "read" cX1_read 4 (some (.object "ModuleEngine$Module")) 19 388 (enR (cxz X)) 68 [(3, av x3)] [av s0, av s1] σ (Byt_read_p68 σ x3 s0 s1) := by
  unfold Byt_read_p68
  refine g_putR fpX1_16 rfl dX1_read_68 (fun σ1 => ?_)
  refine g_aload_n 3 0 dX1_read_71 rfl rfl ?_
  exact g_areturn rfl dX1_read_72
def V.Byt_read (σ : HS) (x0 : Nat) (x1 : Int32) (x2 : Nat) : Option (Nat × HS) :=
  ck (tg σ x0 = 2) <|
  ck (tg σ x0 = 2) <|
  ck (tg σ (gR σ x0 3) = 3) <| cl (Mod_begin σ (gR σ x0 3) (gR σ x0 0) x1) fun _ σ1 =>
  ck (tg σ1 x0 = 2) <| bn (sI σ1 x0 2 (0 : Int32)) fun σ2 =>
  ck (tg σ2 x0 = 2) <| bn (sI σ2 x0 4 (0 : Int32)) fun σ3 =>
  ck (tg σ3 x0 = 2) <| bn (sI σ3 x0 5 (-1 : Int32)) fun σ4 =>
  ck (tg σ4 x0 = 2) <| bn (sI σ4 x0 6 (0 : Int32)) fun σ5 =>
  ck (tg σ5 x0 = 2) <| bn (sI σ5 x0 7 x1) fun σ6 =>
  ck (tg σ6 x0 = 2) <| clH (Byt_readModule σ6 x0 ) (fun w8 σ9 => ck (tg σ9 w8 = 22) <| (
      some (0, σ9))) fun _ σ7 =>
  ck (tg σ7 x0 = 2) <|
  bn (gR σ7 x0 3) fun y10 =>
  if x2 = 0 then (
    newo σ7 3 21 fun a11 σ12 =>
    ck (¬ a11 = 0) <| cl (Mod_init σ12 a11 ) fun _ σ13 =>
    Byt_read_p68 σ13 y10 a11 x0)
  else (
    Byt_read_p68 σ7 y10 x2 x0)
theorem V.ctX1_read (x0 : Nat) (x1 : Int32) (x2 : Nat) : CtW yX1_read [(37, 41, 44, 65)] cX1_read 4 (some (.object "ModuleEngine$Module")) 19 388 enR [av x0, iv x1, av x2] (fun σ => Byt_read σ x0 x1 x2) := by
  refine CtW.of (own := RX1) (nm := "read") (desc := "(ILModuleEngine$Module;)LModuleEngine$Module;") rfl (by decide) (Nat.le_of_ble_eq_true rfl) (by decide) (fun X σ => ?_)
  show G X RX1 "read" cX1_read 4 (some (.object "ModuleEngine$Module")) 19 388 (enR (cxz X)) 0 [(0, av x0), (1, iv x1), (2, av x2)] [] σ (Byt_read σ x0 x1 x2)
  unfold Byt_read
  refine g_aload_n 0 0 dX1_read_0 rfl rfl ?_
  refine g_getR fdX1_16 dX1_read_1 ?_
  refine g_aload_n 0 0 dX1_read_4 rfl rfl ?_
  refine g_getR fdX1_7 dX1_read_5 ?_
  refine g_iload_n 1 1 dX1_read_8 rfl rfl ?_
  refine g_callV (fc := fun sς => Mod_begin sς (gR σ x0 3) (gR σ x0 0) x1) (ci := 2) (as := [av (gR σ x0 0), iv x1]) rfl rfl rfl q1277 q1278 mdX1_49 (ctX2_begin (gR σ x0 3) (gR σ x0 0) x1) rfl (Nat.le_of_ble_eq_true rfl) (Nat.le_of_ble_eq_true rfl) (Nat.le_of_ble_eq_true rfl) pu_V dX1_read_9 (fun _ σ1 => ?_)
  refine g_aload_n 0 0 dX1_read_12 rfl rfl ?_
  refine g_iconst (v := 0) dX1_read_13 (by decide) ?_
  refine g_putI fpX1_37 dX1_read_14 (fun σ2 => ?_)
  refine g_aload_n 0 0 dX1_read_17 rfl rfl ?_
  refine g_iconst (v := 0) dX1_read_18 (by decide) ?_
  refine g_putI fpX1_53 dX1_read_19 (fun σ3 => ?_)
  refine g_aload_n 0 0 dX1_read_22 rfl rfl ?_
  refine g_iconst (v := (-1)) dX1_read_23 (by decide) ?_
  refine g_putI fpX1_20 dX1_read_24 (fun σ4 => ?_)
  refine g_aload_n 0 0 dX1_read_27 rfl rfl ?_
  refine g_iconst (v := 0) dX1_read_28 (by decide) ?_
  refine g_putI fpX1_56 dX1_read_29 (fun σ5 => ?_)
  refine g_aload_n 0 0 dX1_read_32 rfl rfl ?_
  refine g_iload_n 1 1 dX1_read_33 rfl rfl ?_
  refine g_putI fpX1_59 dX1_read_34 (fun σ6 => ?_)
  refine g_aload_n 0 0 dX1_read_37 rfl rfl ?_
  refine g_callVH (fc := fun sς => Byt_readModule sς x0 ) (ci := 1) (as := []) 37 41 44 65 21 rfl rfl rfl rfl rfl q1287 qs1 q1285 mdX1_62 (ctX1_readModule x0 ) rfl (Nat.le_of_ble_eq_true rfl) (Nat.le_of_ble_eq_true rfl) (Nat.le_of_ble_eq_true rfl) pu_V (by decide) (by decide) (by decide) q1275 dX1_read_38 (fun _ σ7 => ?_) (fun w8 σ9 => ?_)
  · refine g_goto 47 dX1_read_41 (by decide) ?_
    refine g_aload_n 0 0 dX1_read_47 rfl rfl ?_
    refine g_getR fdX1_16 dX1_read_48 ?_
    refine g_nmA (fun y10 => ?_)
    refine g_astore_n 3 dX1_read_51 rfl (by decide) rfl ?_
    refine g_aload_n 0 1 dX1_read_52 rfl rfl ?_
    refine g_aload_n 2 3 dX1_read_53 rfl rfl ?_
    refine g_ifnonnull 67 dX1_read_54 (by decide) ?_ ?_
    · refine g_aload_n 2 3 dX1_read_67 rfl rfl ?_
      refine G.sub [0] rfl ?_
      exact gX1_read_p68 _ _ _ _
    · refine g_newo ndX1_13 dX1_read_57 (fun a11 σ12 => ?_)
      refine g_dup dX1_read_60 rfl ?_
      refine g_callI (fc := fun sς => Mod_init sς a11 ) (as := []) rfl q405 mdX1_15 (ctX2_init a11 ) rfl (Nat.le_of_ble_eq_true rfl) (Nat.le_of_ble_eq_true rfl) (Nat.le_of_ble_eq_true rfl) pu_V dX1_read_61 (fun _ σ13 => ?_)
      refine g_goto 68 dX1_read_64 (by decide) ?_
      refine G.sub [0] rfl ?_
      exact gX1_read_p68 _ _ _ _
  · refine g_astore_n 3 dX1_read_44 rfl (by decide) rfl ?_
    refine g_null dX1_read_45 ?_
    exact g_areturn rfl dX1_read_46
theorem V.dX8_init_0 : decode cX8_init 0 = .ok (.aload_n 0, 1) := by decide +kernel
theorem V.dX8_init_1 : decode cX8_init 1 = .ok (.invokespecial 1, 3) := by decide +kernel
theorem V.dX8_init_4 : decode cX8_init 4 = .ok (.aload_n 0, 1) := by decide +kernel
theorem V.dX8_init_5 : decode cX8_init 5 = .ok (.new 7, 3) := by decide +kernel
theorem V.dX8_init_8 : decode cX8_init 8 = .ok (.dup, 1) := by decide +kernel
theorem V.dX8_init_9 : decode cX8_init 9 = .ok (.invokespecial 9, 3) := by decide +kernel
theorem V.dX8_init_12 : decode cX8_init 12 = .ok (.putfield 10, 3) := by decide +kernel
theorem V.dX8_init_15 : decode cX8_init 15 = .ok (.aload_n 0, 1) := by decide +kernel
theorem V.dX8_init_16 : decode cX8_init 16 = .ok (.new 16, 3) := by decide +kernel
theorem V.dX8_init_19 : decode cX8_init 19 = .ok (.dup, 1) := by decide +kernel
theorem V.dX8_init_20 : decode cX8_init 20 = .ok (.invokespecial 18, 3) := by decide +kernel
theorem V.dX8_init_23 : decode cX8_init 23 = .ok (.putfield 19, 3) := by decide +kernel
theorem V.dX8_init_26 : decode cX8_init 26 = .ok (.aload_n 0, 1) := by decide +kernel
theorem V.dX8_init_27 : decode cX8_init 27 = .ok (.new 23, 3) := by decide +kernel
theorem V.dX8_init_30 : decode cX8_init 30 = .ok (.dup, 1) := by decide +kernel
theorem V.dX8_init_31 : decode cX8_init 31 = .ok (.aload_n 0, 1) := by decide +kernel
theorem V.dX8_init_32 : decode cX8_init 32 = .ok (.getfield 10, 3) := by decide +kernel
theorem V.dX8_init_35 : decode cX8_init 35 = .ok (.aload_n 0, 1) := by decide +kernel
theorem V.dX8_init_36 : decode cX8_init 36 = .ok (.getfield 19, 3) := by decide +kernel
theorem V.dX8_init_39 : decode cX8_init 39 = .ok (.sipush 200, 3) := by decide +kernel
theorem V.dX8_init_42 : decode cX8_init 42 = .ok (.sipush 1000, 3) := by decide +kernel
theorem V.dX8_init_45 : decode cX8_init 45 = .ok (.invokespecial 25, 3) := by decide +kernel
theorem V.dX8_init_48 : decode cX8_init 48 = .ok (.putfield 28, 3) := by decide +kernel
theorem V.dX8_init_51 : decode cX8_init 51 = .ok (.aload_n 0, 1) := by decide +kernel
theorem V.dX8_init_52 : decode cX8_init 52 = .ok (.new 32, 3) := by decide +kernel
theorem V.dX8_init_55 : decode cX8_init 55 = .ok (.dup, 1) := by decide +kernel
theorem V.dX8_init_56 : decode cX8_init 56 = .ok (.invokespecial 34, 3) := by decide +kernel
theorem V.dX8_init_59 : decode cX8_init 59 = .ok (.putfield 35, 3) := by decide +kernel
theorem V.dX8_init_62 : decode cX8_init 62 = .ok (.aload_n 0, 1) := by decide +kernel
theorem V.dX8_init_63 : decode cX8_init 63 = .ok (.aload_n 1, 1) := by decide +kernel
theorem V.dX8_init_64 : decode cX8_init 64 = .ok (.putfield 39, 3) := by decide +kernel
theorem V.dX8_init_67 : decode cX8_init 67 = .ok (.return_, 1) := by decide +kernel
theorem V.ndX8_7 : ND RX8 7 9 1 := ⟨(RX9, TX9, 1), tyX9, rfl, rfl, in_X9, tyX9_ok, by decide, q752, q753, q369⟩
theorem V.mdX8_9 : MD RX8 9 yX9_init cX9_init 1 none 0 := ⟨Or.inr ⟨_, q754⟩, q369, q756, by decide, by decide, by decide +kernel⟩
theorem V.fpX8_10 : FP RX8 "<init>" 10 8 3 (.object "ModuleEngine$ModuleTypes") := ⟨(RX8, TX8, 9), tyX8, rfl, rfl, in_X8, by decide, tyX8_ok, nmX8, rfl, Or.inr ⟨rfl, rfl, rfl, q917⟩⟩
theorem V.ndX8_16 : ND RX8 16 10 8 := ⟨(RX10, TX10, 8), tyX10, rfl, rfl, in_X10, tyX10_ok, by decide, q763, q764, q370⟩
theorem V.mdX8_18 : MD RX8 18 yX10_init cX10_init 1 none 0 := ⟨Or.inr ⟨_, q765⟩, q370, q767, by decide, by decide, by decide +kernel⟩
theorem V.fpX8_19 : FP RX8 "<init>" 19 8 4 (.object "ModuleEngine$Spaces") := ⟨(RX8, TX8, 9), tyX8, rfl, rfl, in_X8, by decide, tyX8_ok, nmX8, rfl, Or.inr ⟨rfl, rfl, rfl, q918⟩⟩
theorem V.ndX8_23 : ND RX8 23 11 17 := ⟨(RX11, TX11, 17), tyX11, rfl, rfl, in_X11, tyX11_ok, by decide, q810, q811, q371⟩
theorem V.fdX8_10 : FD RX8 10 8 3 2 := ⟨(RX8, TX8, 9), tyX8, rfl, rfl, in_X8, by decide, Or.inl q917, rfl⟩
theorem V.fdX8_19 : FD RX8 19 8 4 2 := ⟨(RX8, TX8, 9), tyX8, rfl, rfl, in_X8, by decide, Or.inl q918, rfl⟩
theorem V.mdX8_25 : MD RX8 25 yX11_init cX11_init 5 none 4 := ⟨Or.inl q812, q371, q814, by decide, by decide, by decide +kernel⟩
theorem V.fpX8_28 : FP RX8 "<init>" 28 8 5 (.object "ModuleEngine$Checker") := ⟨(RX8, TX8, 9), tyX8, rfl, rfl, in_X8, by decide, tyX8_ok, nmX8, rfl, Or.inr ⟨rfl, rfl, rfl, q919⟩⟩
theorem V.ndX8_32 : ND RX8 32 12 8 := ⟨(RX12, TX12, 8), tyX12, rfl, rfl, in_X12, tyX12_ok, by decide, q871, q872, q372⟩
theorem V.mdX8_34 : MD RX8 34 yX12_init cX12_init 1 none 0 := ⟨Or.inr ⟨_, q873⟩, q372, q875, by decide, by decide, by decide +kernel⟩
theorem V.fpX8_35 : FP RX8 "<init>" 35 8 6 (.object "ModuleEngine$Walker") := ⟨(RX8, TX8, 9), tyX8, rfl, rfl, in_X8, by decide, tyX8_ok, nmX8, rfl, Or.inr ⟨rfl, rfl, rfl, q920⟩⟩
theorem V.fpX8_39 : FP RX8 "<init>" 39 8 0 (.object "ModuleEngine$Flat") := ⟨(RX8, TX8, 9), tyX8, rfl, rfl, in_X8, by decide, tyX8_ok, nmX8, rfl, Or.inr ⟨rfl, rfl, rfl, q914⟩⟩
/-! ModuleEngine$Loader.<init>(LModuleEngine$Flat;)V -/
def V.Ldr_init (σ : HS) (x0 : Nat) (x1 : Nat) : Option (Unit × HS) :=
  ck (¬ x0 = 0) <|
  newo σ 10 1 fun a1 σ2 =>
  ck (¬ a1 = 0) <| cl (Mty_init σ2 a1 ) fun _ σ3 =>
  ck (tg σ3 x0 = 9) <| bn (sR σ3 x0 3 a1) fun σ4 =>
  newo σ4 11 8 fun a5 σ6 =>
  ck (¬ a5 = 0) <| cl (Spc_init σ6 a5 ) fun _ σ7 =>
  ck (tg σ7 x0 = 9) <| bn (sR σ7 x0 4 a5) fun σ8 =>
  newo σ8 12 17 fun a9 σ10 =>
  ck (tg σ10 x0 = 9) <|
  ck (tg σ10 x0 = 9) <|
  ck (¬ a9 = 0) <| cl (Chk_init σ10 a9 (gR σ10 x0 3) (gR σ10 x0 4) (200 : Int32) (1000 : Int32)) fun _ σ11 =>
  ck (tg σ11 x0 = 9) <| bn (sR σ11 x0 5 a9) fun σ12 =>
  newo σ12 13 8 fun a13 σ14 =>
  ck (¬ a13 = 0) <| cl (Wlk_init σ14 a13 ) fun _ σ15 =>
  ck (tg σ15 x0 = 9) <| bn (sR σ15 x0 6 a13) fun σ16 =>
  ck (tg σ16 x0 = 9) <| bn (sR σ16 x0 0 x1) fun σ17 =>
  some ((), σ17)
theorem V.ctX8_init (x0 : Nat) (x1 : Nat) : Ct yX8_init  cX8_init 2 none 3 68 eV [av x0, av x1] (fun σ => Ldr_init σ x0 x1) := by
  refine Ct.of (own := RX8) (nm := "<init>") (desc := "(LModuleEngine$Flat;)V") rfl (by decide) (Nat.le_of_ble_eq_true rfl) (by decide) (fun X σ => ?_)
  show G X RX8 "<init>" cX8_init 2 none 3 68 enV 0 [(0, av x0), (1, av x1)] [] σ (Ldr_init σ x0 x1)
  unfold Ldr_init
  refine g_aload_n 0 0 dX8_init_0 rfl rfl ?_
  refine g_objInit q751 (Nat.le_of_ble_eq_true rfl) (Nat.le_of_ble_eq_true rfl) dX8_init_1 ?_
  refine g_aload_n 0 0 dX8_init_4 rfl rfl ?_
  refine g_newo ndX8_7 dX8_init_5 (fun a1 σ2 => ?_)
  refine g_dup dX8_init_8 rfl ?_
  refine g_callI (fc := fun sς => Mty_init sς a1 ) (as := []) rfl q755 mdX8_9 (ctX9_init a1 ) rfl (Nat.le_of_ble_eq_true rfl) (Nat.le_of_ble_eq_true rfl) (Nat.le_of_ble_eq_true rfl) pu_V dX8_init_9 (fun _ σ3 => ?_)
  refine g_putR fpX8_10 rfl dX8_init_12 (fun σ4 => ?_)
  refine g_aload_n 0 0 dX8_init_15 rfl rfl ?_
  refine g_newo ndX8_16 dX8_init_16 (fun a5 σ6 => ?_)
  refine g_dup dX8_init_19 rfl ?_
  refine g_callI (fc := fun sς => Spc_init sς a5 ) (as := []) rfl q766 mdX8_18 (ctX10_init a5 ) rfl (Nat.le_of_ble_eq_true rfl) (Nat.le_of_ble_eq_true rfl) (Nat.le_of_ble_eq_true rfl) pu_V dX8_init_20 (fun _ σ7 => ?_)
  refine g_putR fpX8_19 rfl dX8_init_23 (fun σ8 => ?_)
  refine g_aload_n 0 0 dX8_init_26 rfl rfl ?_
  refine g_newo ndX8_23 dX8_init_27 (fun a9 σ10 => ?_)
  refine g_dup dX8_init_30 rfl ?_
  refine g_aload_n 0 0 dX8_init_31 rfl rfl ?_
  refine g_getR fdX8_10 dX8_init_32 ?_
  refine g_aload_n 0 0 dX8_init_35 rfl rfl ?_
  refine g_getR fdX8_19 dX8_init_36 ?_
  refine g_sipush (v := 200) dX8_init_39 (by decide) ?_
  refine g_sipush (v := 1000) dX8_init_42 (by decide) ?_
  refine g_callI (fc := fun sς => Chk_init sς a9 (gR σ10 x0 3) (gR σ10 x0 4) (200 : Int32) (1000 : Int32)) (as := [av (gR σ10 x0 3), av (gR σ10 x0 4), iv (200 : Int32), iv (1000 : Int32)]) rfl q813 mdX8_25 (ctX11_init a9 (gR σ10 x0 3) (gR σ10 x0 4) (200 : Int32) (1000 : Int32)) rfl (Nat.le_of_ble_eq_true rfl) (Nat.le_of_ble_eq_true rfl) (Nat.le_of_ble_eq_true rfl) pu_V dX8_init_45 (fun _ σ11 => ?_)
  refine g_putR fpX8_28 rfl dX8_init_48 (fun σ12 => ?_)
  refine g_aload_n 0 0 dX8_init_51 rfl rfl ?_
  refine g_newo ndX8_32 dX8_init_52 (fun a13 σ14 => ?_)
  refine g_dup dX8_init_55 rfl ?_
  refine g_callI (fc := fun sς => Wlk_init sς a13 ) (as := []) rfl q874 mdX8_34 (ctX12_init a13 ) rfl (Nat.le_of_ble_eq_true rfl) (Nat.le_of_ble_eq_true rfl) (Nat.le_of_ble_eq_true rfl) pu_V dX8_init_56 (fun _ σ15 => ?_)
  refine g_putR fpX8_35 rfl dX8_init_59 (fun σ16 => ?_)
  refine g_aload_n 0 0 dX8_init_62 rfl rfl ?_
  refine g_aload_n 1 1 dX8_init_63 rfl rfl ?_
  refine g_putR fpX8_39 rfl dX8_init_64 (fun σ17 => ?_)
  exact g_return rfl dX8_init_67
theorem V.dX8_typesFit_0 : decode cX8_typesFit 0 = .ok (.iconst 0, 1) := by decide +kernel
theorem V.dX8_typesFit_1 : decode cX8_typesFit 1 = .ok (.istore_n 1, 1) := by decide +kernel
theorem V.dX8_typesFit_2 : decode cX8_typesFit 2 = .ok (.iload_n 1, 1) := by decide +kernel
theorem V.dX8_typesFit_3 : decode cX8_typesFit 3 = .ok (.aload_n 0, 1) := by decide +kernel
theorem V.dX8_typesFit_4 : decode cX8_typesFit 4 = .ok (.getfield 57, 3) := by decide +kernel
theorem V.dX8_typesFit_7 : decode cX8_typesFit 7 = .ok (.invokevirtual 121, 3) := by decide +kernel
theorem V.dX8_typesFit_10 : decode cX8_typesFit 10 = .ok (.if_icmp .ge 59, 3) := by decide +kernel
theorem V.dX8_typesFit_13 : decode cX8_typesFit 13 = .ok (.aload_n 0, 1) := by decide +kernel
theorem V.dX8_typesFit_14 : decode cX8_typesFit 14 = .ok (.getfield 57, 3) := by decide +kernel
theorem V.dX8_typesFit_17 : decode cX8_typesFit 17 = .ok (.iload_n 1, 1) := by decide +kernel
theorem V.dX8_typesFit_18 : decode cX8_typesFit 18 = .ok (.invokevirtual 165, 3) := by decide +kernel
theorem V.dX8_typesFit_21 : decode cX8_typesFit 21 = .ok (.bipush 16, 2) := by decide +kernel
theorem V.dX8_typesFit_23 : decode cX8_typesFit 23 = .ok (.if_icmp .gt 38, 3) := by decide +kernel
theorem V.dX8_typesFit_26 : decode cX8_typesFit 26 = .ok (.aload_n 0, 1) := by decide +kernel
theorem V.dX8_typesFit_27 : decode cX8_typesFit 27 = .ok (.getfield 57, 3) := by decide +kernel
theorem V.dX8_typesFit_30 : decode cX8_typesFit 30 = .ok (.iload_n 1, 1) := by decide +kernel
theorem V.dX8_typesFit_31 : decode cX8_typesFit 31 = .ok (.invokevirtual 168, 3) := by decide +kernel
theorem V.dX8_typesFit_34 : decode cX8_typesFit 34 = .ok (.bipush 16, 2) := by decide +kernel
theorem V.dX8_typesFit_36 : decode cX8_typesFit 36 = .ok (.if_icmp .gt 25, 3) := by decide +kernel
theorem V.dX8_typesFit_39 : decode cX8_typesFit 39 = .ok (.aload_n 0, 1) := by decide +kernel
theorem V.dX8_typesFit_40 : decode cX8_typesFit 40 = .ok (.getfield 57, 3) := by decide +kernel
theorem V.dX8_typesFit_43 : decode cX8_typesFit 43 = .ok (.iload_n 1, 1) := by decide +kernel
theorem V.dX8_typesFit_44 : decode cX8_typesFit 44 = .ok (.invokevirtual 165, 3) := by decide +kernel
theorem V.dX8_typesFit_47 : decode cX8_typesFit 47 = .ok (.ifCond .lt 14, 3) := by decide +kernel
theorem V.dX8_typesFit_50 : decode cX8_typesFit 50 = .ok (.aload_n 0, 1) := by decide +kernel
theorem V.dX8_typesFit_51 : decode cX8_typesFit 51 = .ok (.getfield 57, 3) := by decide +kernel
theorem V.dX8_typesFit_54 : decode cX8_typesFit 54 = .ok (.iload_n 1, 1) := by decide +kernel
theorem V.dX8_typesFit_55 : decode cX8_typesFit 55 = .ok (.invokevirtual 168, 3) := by decide +kernel
theorem V.dX8_typesFit_58 : decode cX8_typesFit 58 = .ok (.ifCond .ge 5, 3) := by decide +kernel
theorem V.dX8_typesFit_61 : decode cX8_typesFit 61 = .ok (.iconst 0, 1) := by decide +kernel
theorem V.dX8_typesFit_62 : decode cX8_typesFit 62 = .ok (.ireturn, 1) := by decide +kernel
theorem V.dX8_typesFit_63 : decode cX8_typesFit 63 = .ok (.iinc 1 1, 3) := by decide +kernel
theorem V.dX8_typesFit_66 : decode cX8_typesFit 66 = .ok (.goto (-64), 3) := by decide +kernel
theorem V.dX8_typesFit_69 : decode cX8_typesFit 69 = .ok (.iconst 1, 1) := by decide +kernel
theorem V.dX8_typesFit_70 : decode cX8_typesFit 70 = .ok (.ireturn, 1) := by decide +kernel
theorem V.fdX8_57 : FD RX8 57 8 7 2 := ⟨(RX8, TX8, 9), tyX8, rfl, rfl, in_X8, by decide, Or.inl q921, rfl⟩
theorem V.mdX8_121 : MD RX8 121 yX2_typeCount cX2_typeCount 1 (some .int) 0 := ⟨Or.inl q1548, q362, q1551, by decide, by decide, by decide +kernel⟩
theorem V.mdX8_165 : MD RX8 165 yX2_parameters cX2_parameters 2 (some .int) 1 := ⟨Or.inl q1557, q362, q1560, by decide, by decide, by decide +kernel⟩
theorem V.mdX8_168 : MD RX8 168 yX2_results cX2_results 2 (some .int) 1 := ⟨Or.inl q1562, q362, q1565, by decide, by decide, by decide +kernel⟩
/-! ModuleEngine$Loader.typesFit()Z -/
def V.Ldr_typesFit_p2  : Nat → HS → Nat → Int32 → Option (Int32 × HS)
  | 0, _, _, _ => none
  | n + 1, σ, x0, x1 =>
    ck (tg σ x0 = 9) <|
    ck (tg σ (gR σ x0 7) = 3) <| cl (Mod_typeCount σ (gR σ x0 7) ) fun r2 σ1 =>
    if r2 ≤ x1 then (
      some ((1 : Int32), σ1))
    else (
      ck (tg σ1 x0 = 9) <|
      ck (tg σ1 (gR σ1 x0 7) = 3) <| cl (Mod_parameters σ1 (gR σ1 x0 7) x1) fun r4 σ3 =>
      if (16 : Int32) < r4 then (
        some ((0 : Int32), σ3))
      else (
        ck (tg σ3 x0 = 9) <|
        ck (tg σ3 (gR σ3 x0 7) = 3) <| cl (Mod_results σ3 (gR σ3 x0 7) x1) fun r6 σ5 =>
        if (16 : Int32) < r6 then (
          some ((0 : Int32), σ5))
        else (
          ck (tg σ5 x0 = 9) <|
          ck (tg σ5 (gR σ5 x0 7) = 3) <| cl (Mod_parameters σ5 (gR σ5 x0 7) x1) fun r8 σ7 =>
          if r8 < 0 then (
            some ((0 : Int32), σ7))
          else (
            ck (tg σ7 x0 = 9) <|
            ck (tg σ7 (gR σ7 x0 7) = 3) <| cl (Mod_results σ7 (gR σ7 x0 7) x1) fun r10 σ9 =>
            if 0 ≤ r10 then (
              bn (x1 + (1 : Int32)) fun y11 =>
              Ldr_typesFit_p2 n σ9 x0 y11)
            else (
              some ((0 : Int32), σ9))))))
theorem V.gX8_typesFit_p2 {X : CX}  : ∀ (n : Nat) (σ : HS) (x0 : Nat) (x1 : Int32), G X RX8 "typesFit" cX8_typesFit 2 (some .boolean) 3 63 enI 2 [(0, av x0), (1, iv x1)] [] σ (Ldr_typesFit_p2 n σ x0 x1)
  | 0, σ, x0, x1 => by rw [Ldr_typesFit_p2]; exact G.nul
  | n + 1, σ, x0, x1 => by
    rw [Ldr_typesFit_p2]
    refine g_iload_n 1 1 dX8_typesFit_2 rfl rfl ?_
    refine g_aload_n 0 0 dX8_typesFit_3 rfl rfl ?_
    refine g_getR fdX8_57 dX8_typesFit_4 ?_
    refine g_callV (fc := fun sς => Mod_typeCount sς (gR σ x0 7) ) (ci := 2) (as := []) rfl rfl rfl q1549 q1550 mdX8_121 (ctX2_typeCount (gR σ x0 7) ) rfl (Nat.le_of_ble_eq_true rfl) (Nat.le_of_ble_eq_true rfl) (Nat.le_of_ble_eq_true rfl) pu_I dX8_typesFit_7 (fun r2 σ1 => ?_)
    refine g_icmp_ge 69 dX8_typesFit_10 (by decide) ?_ ?_
    · refine g_iconst (v := 1) dX8_typesFit_69 (by decide) ?_
      exact g_zreturn rfl (by decide +kernel) dX8_typesFit_70
    · refine g_aload_n 0 0 dX8_typesFit_13 rfl rfl ?_
      refine g_getR fdX8_57 dX8_typesFit_14 ?_
      refine g_iload_n 1 1 dX8_typesFit_17 rfl rfl ?_
      refine g_callV (fc := fun sς => Mod_parameters sς (gR σ1 x0 7) x1) (ci := 2) (as := [iv x1]) rfl rfl rfl q1558 q1559 mdX8_165 (ctX2_parameters (gR σ1 x0 7) x1) rfl (Nat.le_of_ble_eq_true rfl) (Nat.le_of_ble_eq_true rfl) (Nat.le_of_ble_eq_true rfl) pu_I dX8_typesFit_18 (fun r4 σ3 => ?_)
      refine g_bipush (v := 16) dX8_typesFit_21 (by decide) ?_
      refine g_icmp_gt 61 dX8_typesFit_23 (by decide) ?_ ?_
      · refine g_iconst (v := 0) dX8_typesFit_61 (by decide) ?_
        exact g_zreturn rfl (by decide +kernel) dX8_typesFit_62
      · refine g_aload_n 0 0 dX8_typesFit_26 rfl rfl ?_
        refine g_getR fdX8_57 dX8_typesFit_27 ?_
        refine g_iload_n 1 1 dX8_typesFit_30 rfl rfl ?_
        refine g_callV (fc := fun sς => Mod_results sς (gR σ3 x0 7) x1) (ci := 2) (as := [iv x1]) rfl rfl rfl q1563 q1564 mdX8_168 (ctX2_results (gR σ3 x0 7) x1) rfl (Nat.le_of_ble_eq_true rfl) (Nat.le_of_ble_eq_true rfl) (Nat.le_of_ble_eq_true rfl) pu_I dX8_typesFit_31 (fun r6 σ5 => ?_)
        refine g_bipush (v := 16) dX8_typesFit_34 (by decide) ?_
        refine g_icmp_gt 61 dX8_typesFit_36 (by decide) ?_ ?_
        · refine g_iconst (v := 0) dX8_typesFit_61 (by decide) ?_
          exact g_zreturn rfl (by decide +kernel) dX8_typesFit_62
        · refine g_aload_n 0 0 dX8_typesFit_39 rfl rfl ?_
          refine g_getR fdX8_57 dX8_typesFit_40 ?_
          refine g_iload_n 1 1 dX8_typesFit_43 rfl rfl ?_
          refine g_callV (fc := fun sς => Mod_parameters sς (gR σ5 x0 7) x1) (ci := 2) (as := [iv x1]) rfl rfl rfl q1558 q1559 mdX8_165 (ctX2_parameters (gR σ5 x0 7) x1) rfl (Nat.le_of_ble_eq_true rfl) (Nat.le_of_ble_eq_true rfl) (Nat.le_of_ble_eq_true rfl) pu_I dX8_typesFit_44 (fun r8 σ7 => ?_)
          refine g_if_lt 61 dX8_typesFit_47 (by decide) ?_ ?_
          · refine g_iconst (v := 0) dX8_typesFit_61 (by decide) ?_
            exact g_zreturn rfl (by decide +kernel) dX8_typesFit_62
          · refine g_aload_n 0 0 dX8_typesFit_50 rfl rfl ?_
            refine g_getR fdX8_57 dX8_typesFit_51 ?_
            refine g_iload_n 1 1 dX8_typesFit_54 rfl rfl ?_
            refine g_callV (fc := fun sς => Mod_results sς (gR σ7 x0 7) x1) (ci := 2) (as := [iv x1]) rfl rfl rfl q1563 q1564 mdX8_168 (ctX2_results (gR σ7 x0 7) x1) rfl (Nat.le_of_ble_eq_true rfl) (Nat.le_of_ble_eq_true rfl) (Nat.le_of_ble_eq_true rfl) pu_I dX8_typesFit_55 (fun r10 σ9 => ?_)
            refine g_if_ge 63 dX8_typesFit_58 (by decide) ?_ ?_
            · refine g_iincB (w := 1) 1 dX8_typesFit_63 rfl (by decide) (by decide) (fun _ => rfl) (fun y11 => ?_)
              refine g_goto 2 dX8_typesFit_66 (by decide) ?_
              refine G.sub [1, 0] rfl ?_
              exact gX8_typesFit_p2 n _ _ _
            · refine g_iconst (v := 0) dX8_typesFit_61 (by decide) ?_
              exact g_zreturn rfl (by decide +kernel) dX8_typesFit_62
def V.Ldr_typesFit (σ : HS) (x0 : Nat) : Option (Int32 × HS) :=
  Ldr_typesFit_p2 FU σ x0 (0 : Int32)
theorem V.ctX8_typesFit (x0 : Nat) : Ct yX8_typesFit  cX8_typesFit 2 (some .boolean) 3 63 eI [av x0] (fun σ => Ldr_typesFit σ x0) := by
  refine Ct.of (own := RX8) (nm := "typesFit") (desc := "()Z") rfl (by decide) (Nat.le_of_ble_eq_true rfl) (by decide) (fun X σ => ?_)
  show G X RX8 "typesFit" cX8_typesFit 2 (some .boolean) 3 63 enI 0 [(0, av x0)] [] σ (Ldr_typesFit σ x0)
  unfold Ldr_typesFit
  refine g_iconst (v := 0) dX8_typesFit_0 (by decide) ?_
  refine g_istore_n 1 dX8_typesFit_1 rfl (by decide) rfl ?_
  refine G.sub [1, 0] rfl ?_
  exact gX8_typesFit_p2 FU _ _ _
theorem V.dX8_section_0 : decode cX8_section 0 = .ok (.bipush 8, 2) := by decide +kernel
theorem V.dX8_section_2 : decode cX8_section 2 = .ok (.istore_n 2, 1) := by decide +kernel
theorem V.dX8_section_3 : decode cX8_section 3 = .ok (.iload_n 2, 1) := by decide +kernel
theorem V.dX8_section_4 : decode cX8_section 4 = .ok (.aload_n 0, 1) := by decide +kernel
theorem V.dX8_section_5 : decode cX8_section 5 = .ok (.getfield 57, 3) := by decide +kernel
theorem V.dX8_section_8 : decode cX8_section 8 = .ok (.getfield 110, 3) := by decide +kernel
theorem V.dX8_section_11 : decode cX8_section 11 = .ok (.if_icmp .ge 53, 3) := by decide +kernel
theorem V.dX8_section_14 : decode cX8_section 14 = .ok (.aload_n 0, 1) := by decide +kernel
theorem V.dX8_section_15 : decode cX8_section 15 = .ok (.getfield 57, 3) := by decide +kernel
theorem V.dX8_section_18 : decode cX8_section 18 = .ok (.getfield 62, 3) := by decide +kernel
theorem V.dX8_section_21 : decode cX8_section 21 = .ok (.iload_n 2, 1) := by decide +kernel
theorem V.dX8_section_22 : decode cX8_section 22 = .ok (.baload, 1) := by decide +kernel
theorem V.dX8_section_23 : decode cX8_section 23 = .ok (.istore_n 3, 1) := by decide +kernel
theorem V.dX8_section_24 : decode cX8_section 24 = .ok (.aload_n 0, 1) := by decide +kernel
theorem V.dX8_section_25 : decode cX8_section 25 = .ok (.getfield 35, 3) := by decide +kernel
theorem V.dX8_section_28 : decode cX8_section 28 = .ok (.iload_n 2, 1) := by decide +kernel
theorem V.dX8_section_29 : decode cX8_section 29 = .ok (.iconst 1, 1) := by decide +kernel
theorem V.dX8_section_30 : decode cX8_section 30 = .ok (.iadd, 1) := by decide +kernel
theorem V.dX8_section_31 : decode cX8_section 31 = .ok (.invokevirtual 112, 3) := by decide +kernel
theorem V.dX8_section_34 : decode cX8_section 34 = .ok (.aload_n 0, 1) := by decide +kernel
theorem V.dX8_section_35 : decode cX8_section 35 = .ok (.getfield 35, 3) := by decide +kernel
theorem V.dX8_section_38 : decode cX8_section 38 = .ok (.invokevirtual 115, 3) := by decide +kernel
theorem V.dX8_section_41 : decode cX8_section 41 = .ok (.istore 4, 2) := by decide +kernel
theorem V.dX8_section_43 : decode cX8_section 43 = .ok (.iload_n 3, 1) := by decide +kernel
theorem V.dX8_section_44 : decode cX8_section 44 = .ok (.iload_n 1, 1) := by decide +kernel
theorem V.dX8_section_45 : decode cX8_section 45 = .ok (.if_icmp .ne 5, 3) := by decide +kernel
theorem V.dX8_section_48 : decode cX8_section 48 = .ok (.iload_n 2, 1) := by decide +kernel
theorem V.dX8_section_49 : decode cX8_section 49 = .ok (.ireturn, 1) := by decide +kernel
theorem V.dX8_section_50 : decode cX8_section 50 = .ok (.aload_n 0, 1) := by decide +kernel
theorem V.dX8_section_51 : decode cX8_section 51 = .ok (.getfield 35, 3) := by decide +kernel
theorem V.dX8_section_54 : decode cX8_section 54 = .ok (.getfield 118, 3) := by decide +kernel
theorem V.dX8_section_57 : decode cX8_section 57 = .ok (.iload 4, 2) := by decide +kernel
theorem V.dX8_section_59 : decode cX8_section 59 = .ok (.iadd, 1) := by decide +kernel
theorem V.dX8_section_60 : decode cX8_section 60 = .ok (.istore_n 2, 1) := by decide +kernel
theorem V.dX8_section_61 : decode cX8_section 61 = .ok (.goto (-58), 3) := by decide +kernel
theorem V.dX8_section_64 : decode cX8_section 64 = .ok (.iconst (-1), 1) := by decide +kernel
theorem V.dX8_section_65 : decode cX8_section 65 = .ok (.ireturn, 1) := by decide +kernel
theorem V.fdX8_110 : FD RX8 110 2 18 0 := ⟨(RX2, TX2, 21), tyX2, rfl, rfl, in_X2, by decide, Or.inr ⟨_, q485⟩, rfl⟩
theorem V.fdX8_62 : FD RX8 62 2 0 2 := ⟨(RX2, TX2, 21), tyX2, rfl, rfl, in_X2, by decide, Or.inr ⟨_, q426⟩, rfl⟩
theorem V.fdX8_35 : FD RX8 35 8 6 2 := ⟨(RX8, TX8, 9), tyX8, rfl, rfl, in_X8, by decide, Or.inl q920, rfl⟩
theorem V.mdX8_112 : MD RX8 112 yX12_go cX12_go 2 none 1 := ⟨Or.inl q1571, q372, q1574, by decide, by decide, by decide +kernel⟩
theorem V.mdX8_115 : MD RX8 115 yX12_whole cX12_whole 1 (some .int) 0 := ⟨Or.inr ⟨_, q1575⟩, q372, q1578, by decide, by decide, by decide +kernel⟩
theorem V.fdX8_118 : FD RX8 118 12 1 0 := ⟨(RX12, TX12, 8), tyX12, rfl, rfl, in_X12, by decide, Or.inr ⟨_, q881⟩, rfl⟩
/-! ModuleEngine$Loader.section(I)I -/
def V.Ldr_section_p3  : Nat → HS → Nat → Int32 → Int32 → Option (Int32 × HS)
  | 0, _, _, _, _ => none
  | n + 1, σ, x0, x1, x2 =>
    ck (tg σ x0 = 9) <|
    ck (tg σ (gR σ x0 7) = 3) <|
    if (gI σ (gR σ x0 7) 18) ≤ x2 then (
      some ((-1 : Int32), σ))
    else (
      ck (tg σ x0 = 9) <|
      ck (tg σ (gR σ x0 7) = 3) <|
      ck (tg σ (gR σ (gR σ x0 7) 0) = 102 ∧ inb x2 (ln σ (gR σ (gR σ x0 7) 0))) <|
      bn (gI σ (gR σ (gR σ x0 7) 0) (ix x2)) fun y1 =>
      ck (tg σ x0 = 9) <|
      ck (tg σ (gR σ x0 6) = 13) <| cl (Wlk_go σ (gR σ x0 6) (x2 + (1 : Int32))) fun _ σ2 =>
      ck (tg σ2 x0 = 9) <|
      ck (tg σ2 (gR σ2 x0 6) = 13) <| cl (Wlk_whole σ2 (gR σ2 x0 6) ) fun r4 σ3 =>
      if y1 = x1 then (
        some (x2, σ3))
      else (
        ck (tg σ3 x0 = 9) <|
        ck (tg σ3 (gR σ3 x0 6) = 13) <|
        bn ((gI σ3 (gR σ3 x0 6) 1) + r4) fun y5 =>
        Ldr_section_p3 n σ3 x0 x1 y5))
theorem V.gX8_section_p3 {X : CX}  : ∀ (n : Nat) (σ : HS) (x0 : Nat) (x1 : Int32) (x2 : Int32), G X RX8 "section" cX8_section 5 (some .int) 3 65 enI 3 [(0, av x0), (1, iv x1), (2, iv x2)] [] σ (Ldr_section_p3 n σ x0 x1 x2)
  | 0, σ, x0, x1, x2 => by rw [Ldr_section_p3]; exact G.nul
  | n + 1, σ, x0, x1, x2 => by
    rw [Ldr_section_p3]
    refine g_iload_n 2 2 dX8_section_3 rfl rfl ?_
    refine g_aload_n 0 0 dX8_section_4 rfl rfl ?_
    refine g_getR fdX8_57 dX8_section_5 ?_
    refine g_getI fdX8_110 dX8_section_8 ?_
    refine g_icmp_ge 64 dX8_section_11 (by decide) ?_ ?_
    · refine g_iconst (v := (-1)) dX8_section_64 (by decide) ?_
      exact g_ireturn rfl dX8_section_65
    · refine g_aload_n 0 0 dX8_section_14 rfl rfl ?_
      refine g_getR fdX8_57 dX8_section_15 ?_
      refine g_getR fdX8_62 dX8_section_18 ?_
      refine g_iload_n 2 2 dX8_section_21 rfl rfl ?_
      refine g_baload dX8_section_22 ?_
      refine g_nmI (fun y1 => ?_)
      refine g_istore_n 3 dX8_section_23 rfl (by decide) rfl ?_
      refine g_aload_n 0 1 dX8_section_24 rfl rfl ?_
      refine g_getR fdX8_35 dX8_section_25 ?_
      refine g_iload_n 2 3 dX8_section_28 rfl rfl ?_
      refine g_iconst (v := 1) dX8_section_29 (by decide) ?_
      refine g_iadd dX8_section_30 ?_
      refine g_callV (fc := fun sς => Wlk_go sς (gR σ x0 6) (x2 + (1 : Int32))) (ci := 12) (as := [iv (x2 + (1 : Int32))]) rfl rfl rfl q1572 q1573 mdX8_112 (ctX12_go (gR σ x0 6) (x2 + (1 : Int32))) rfl (Nat.le_of_ble_eq_true rfl) (Nat.le_of_ble_eq_true rfl) (Nat.le_of_ble_eq_true rfl) pu_V dX8_section_31 (fun _ σ2 => ?_)
      refine g_aload_n 0 1 dX8_section_34 rfl rfl ?_
      refine g_getR fdX8_35 dX8_section_35 ?_
      refine g_callV (fc := fun sς => Wlk_whole sς (gR σ2 x0 6) ) (ci := 12) (as := []) rfl rfl rfl q1577 qs39 mdX8_115 (ctX12_whole (gR σ2 x0 6) ) rfl (Nat.le_of_ble_eq_true rfl) (Nat.le_of_ble_eq_true rfl) (Nat.le_of_ble_eq_true rfl) pu_I dX8_section_38 (fun r4 σ3 => ?_)
      refine g_istore dX8_section_41 (by decide) rfl ?_
      refine g_iload_n 3 1 dX8_section_43 rfl rfl ?_
      refine g_iload_n 1 3 dX8_section_44 rfl rfl ?_
      refine g_icmp_ne 50 dX8_section_45 (by decide) ?_ ?_
      · refine g_aload_n 0 2 dX8_section_50 rfl rfl ?_
        refine g_getR fdX8_35 dX8_section_51 ?_
        refine g_getI fdX8_118 dX8_section_54 ?_
        refine g_iload 0 dX8_section_57 rfl ?_
        refine g_iadd dX8_section_59 ?_
        refine g_nmI (fun y5 => ?_)
        refine g_istore_n 2 dX8_section_60 rfl (by decide) rfl ?_
        refine g_goto 3 dX8_section_61 (by decide) ?_
        refine G.sub [3, 4, 0] rfl ?_
        exact gX8_section_p3 n _ _ _ _
      · refine g_iload_n 2 4 dX8_section_48 rfl rfl ?_
        exact g_ireturn rfl dX8_section_49
def V.Ldr_section (σ : HS) (x0 : Nat) (x1 : Int32) : Option (Int32 × HS) :=
  Ldr_section_p3 FU σ x0 x1 (8 : Int32)
theorem V.ctX8_section (x0 : Nat) (x1 : Int32) : Ct yX8_section  cX8_section 5 (some .int) 3 65 eI [av x0, iv x1] (fun σ => Ldr_section σ x0 x1) := by
  refine Ct.of (own := RX8) (nm := "section") (desc := "(I)I") rfl (by decide) (Nat.le_of_ble_eq_true rfl) (by decide) (fun X σ => ?_)
  show G X RX8 "section" cX8_section 5 (some .int) 3 65 enI 0 [(0, av x0), (1, iv x1)] [] σ (Ldr_section σ x0 x1)
  unfold Ldr_section
  refine g_bipush (v := 8) dX8_section_0 (by decide) ?_
  refine g_istore_n 2 dX8_section_2 rfl (by decide) rfl ?_
  refine G.sub [1, 2, 0] rfl ?_
  exact gX8_section_p3 FU _ _ _ _
theorem V.dX8_stop_0 : decode cX8_stop 0 = .ok (.aload_n 0, 1) := by decide +kernel
theorem V.dX8_stop_1 : decode cX8_stop 1 = .ok (.iload_n 1, 1) := by decide +kernel
theorem V.dX8_stop_2 : decode cX8_stop 2 = .ok (.putfield 43, 3) := by decide +kernel
theorem V.dX8_stop_5 : decode cX8_stop 5 = .ok (.aload_n 0, 1) := by decide +kernel
theorem V.dX8_stop_6 : decode cX8_stop 6 = .ok (.iload_n 2, 1) := by decide +kernel
theorem V.dX8_stop_7 : decode cX8_stop 7 = .ok (.putfield 47, 3) := by decide +kernel
theorem V.dX8_stop_10 : decode cX8_stop 10 = .ok (.new 50, 3) := by decide +kernel
theorem V.dX8_stop_13 : decode cX8_stop 13 = .ok (.dup, 1) := by decide +kernel
theorem V.dX8_stop_14 : decode cX8_stop 14 = .ok (.invokespecial 52, 3) := by decide +kernel
theorem V.dX8_stop_17 : decode cX8_stop 17 = .ok (.athrow, 1) := by decide +kernel
theorem V.fpX8_43 {nm : String} : FP RX8 nm 43 8 1 (.int) := ⟨(RX8, TX8, 9), tyX8, rfl, rfl, in_X8, by decide, tyX8_ok, nmX8, rfl, Or.inl ⟨rfl, Or.inl q915⟩⟩
theorem V.fpX8_47 {nm : String} : FP RX8 nm 47 8 2 (.int) := ⟨(RX8, TX8, 9), tyX8, rfl, rfl, in_X8, by decide, tyX8_ok, nmX8, rfl, Or.inl ⟨rfl, Or.inl q916⟩⟩
/-! ModuleEngine$Loader.stop(II)V -/
def V.Ldr_stop (σ : HS) (x0 : Nat) (x1 : Int32) (x2 : Int32) : Option ((Nat ⊕ Unit) × HS) :=
  ck (tg σ x0 = 9) <| bn (sI σ x0 1 x1) fun σ1 =>
  ck (tg σ1 x0 = 9) <| bn (sI σ1 x0 2 x2) fun σ2 =>
  newo σ2 22 6 fun a3 σ4 =>
  ck (¬ a3 = 0) (some (.inl a3, σ4))
theorem V.ctX8_stop (x0 : Nat) (x1 : Int32) (x2 : Int32) : Ct yX8_stop  cX8_stop 3 none 6 85 eXV [av x0, iv x1, iv x2] (fun σ => Ldr_stop σ x0 x1 x2) := by
  refine Ct.of (own := RX8) (nm := "stop") (desc := "(II)V") rfl (by decide) (Nat.le_of_ble_eq_true rfl) (by decide) (fun X σ => ?_)
  show G X RX8 "stop" cX8_stop 3 none 6 85 (enX enV (cxz X)) 0 [(0, av x0), (1, iv x1), (2, iv x2)] [] σ (Ldr_stop σ x0 x1 x2)
  unfold Ldr_stop
  refine g_aload_n 0 0 dX8_stop_0 rfl rfl ?_
  refine g_iload_n 1 1 dX8_stop_1 rfl rfl ?_
  refine g_putI fpX8_43 dX8_stop_2 (fun σ1 => ?_)
  refine g_aload_n 0 0 dX8_stop_5 rfl rfl ?_
  refine g_iload_n 2 2 dX8_stop_6 rfl rfl ?_
  refine g_putI fpX8_47 dX8_stop_7 (fun σ2 => ?_)
  refine g_newexc (ci := 21) rfl rfl (fun C => exA_IAE C) (by decide) q1535 q1297 q384 (Or.inl q1596) (Nat.le_of_ble_eq_true rfl) (Nat.le_of_ble_eq_true rfl) dX8_stop_10 dX8_stop_13 dX8_stop_14 (fun a3 σ4 => ?_)
  exact g_athrow (by decide) dX8_stop_17
theorem V.dX8_need_0 : decode cX8_need 0 = .ok (.iload_n 1, 1) := by decide +kernel
theorem V.dX8_need_1 : decode cX8_need 1 = .ok (.ifCond .ne 9, 3) := by decide +kernel
theorem V.dX8_need_4 : decode cX8_need 4 = .ok (.aload_n 0, 1) := by decide +kernel
theorem V.dX8_need_5 : decode cX8_need 5 = .ok (.iload_n 2, 1) := by decide +kernel
theorem V.dX8_need_6 : decode cX8_need 6 = .ok (.iload_n 3, 1) := by decide +kernel
theorem V.dX8_need_7 : decode cX8_need 7 = .ok (.invokevirtual 53, 3) := by decide +kernel
theorem V.dX8_need_10 : decode cX8_need 10 = .ok (.return_, 1) := by decide +kernel
theorem V.mdX8_53 : MD RX8 53 yX8_stop cX8_stop 3 none 2 := ⟨Or.inl q1592, q368, q1595, by decide, by decide, by decide +kernel⟩
/-! ModuleEngine$Loader.need(ZII)V -/
def V.Ldr_need (σ : HS) (x0 : Nat) (x1 : Int32) (x2 : Int32) (x3 : Int32) : Option ((Nat ⊕ Unit) × HS) :=
  if x1 = 0 then (
    ck (tg σ x0 = 9) <| clT (Ldr_stop σ x0 x2 x3) fun _ σ1 =>
    some (.inr (), σ1))
  else (
    some (.inr (), σ))
theorem V.ctX8_need (x0 : Nat) (x1 : Int32) (x2 : Int32) (x3 : Int32) : Ct yX8_need  cX8_need 4 none 7 107 eXV [av x0, iv x1, iv x2, iv x3] (fun σ => Ldr_need σ x0 x1 x2 x3) := by
  refine Ct.of (own := RX8) (nm := "need") (desc := "(ZII)V") rfl (by decide) (Nat.le_of_ble_eq_true rfl) (by decide) (fun X σ => ?_)
  show G X RX8 "need" cX8_need 4 none 7 107 (enX enV (cxz X)) 0 [(0, av x0), (1, iv x1), (2, iv x2), (3, iv x3)] [] σ (Ldr_need σ x0 x1 x2 x3)
  unfold Ldr_need
  refine g_iload_n 1 1 dX8_need_0 rfl rfl ?_
  refine g_if_ne 10 dX8_need_1 (by decide) ?_ ?_
  · exact g_return rfl dX8_need_10
  · refine g_aload_n 0 0 dX8_need_4 rfl rfl ?_
    refine g_iload_n 2 2 dX8_need_5 rfl rfl ?_
    refine g_iload_n 3 3 dX8_need_6 rfl rfl ?_
    refine g_callVT (fc := fun sς => Ldr_stop sς x0 x2 x3) (ci := 8) (as := [iv x2, iv x3]) rfl rfl rfl q1594 qs43 q1592 mdX8_53 (ctX8_stop x0 x2 x3) rfl (Nat.le_of_ble_eq_true rfl) (Nat.le_of_ble_eq_true rfl) (Nat.le_of_ble_eq_true rfl) pu_V (by decide) dX8_need_7 (fun _ σ1 => ?_)
    exact g_return rfl dX8_need_10
theorem V.dX8_count_0 : decode cX8_count 0 = .ok (.aload_n 0, 1) := by decide +kernel
theorem V.dX8_count_1 : decode cX8_count 1 = .ok (.invokevirtual 100, 3) := by decide +kernel
theorem V.dX8_count_4 : decode cX8_count 4 = .ok (.iload_n 1, 1) := by decide +kernel
theorem V.dX8_count_5 : decode cX8_count 5 = .ok (.idiv, 1) := by decide +kernel
theorem V.dX8_count_6 : decode cX8_count 6 = .ok (.ireturn, 1) := by decide +kernel
theorem V.mdX8_100 : MD RX8 100 yX3_size cX3_size 1 (some .int) 0 := ⟨Or.inl q1600, q363, q1423, by decide, by decide, by decide +kernel⟩
/-! ModuleEngine$Loader.count(LModuleEngine$Row;I)I -/
def V.Ldr_count (σ : HS) (x0 : Nat) (x1 : Int32) : Option (Int32 × HS) :=
  ck (tg σ x0 = 4) <| cl (Row_size σ x0 ) fun r2 σ1 =>
  ck (¬ x1 = 0) <|
  some (r2 / x1, σ1)
theorem V.ctX8_count (x0 : Nat) (x1 : Int32) : Ct yX8_count  cX8_count 2 (some .int) 1 20 eI [av x0, iv x1] (fun σ => Ldr_count σ x0 x1) := by
  refine Ct.of (own := RX8) (nm := "count") (desc := "(LModuleEngine$Row;I)I") rfl (by decide) (Nat.le_of_ble_eq_true rfl) (by decide) (fun X σ => ?_)
  show G X RX8 "count" cX8_count 2 (some .int) 1 20 enI 0 [(0, av x0), (1, iv x1)] [] σ (Ldr_count σ x0 x1)
  unfold Ldr_count
  refine g_aload_n 0 0 dX8_count_0 rfl rfl ?_
  refine g_callV (fc := fun sς => Row_size sς x0 ) (ci := 3) (as := []) rfl rfl rfl q1421 q1422 mdX8_100 (ctX3_size x0 ) rfl (Nat.le_of_ble_eq_true rfl) (Nat.le_of_ble_eq_true rfl) (Nat.le_of_ble_eq_true rfl) pu_I dX8_count_1 (fun r2 σ1 => ?_)
  refine g_iload_n 1 1 dX8_count_4 rfl rfl ?_
  refine g_idiv dX8_count_5 ?_
  exact g_ireturn rfl dX8_count_6
theorem V.dX8_bodyFits_0 : decode cX8_bodyFits 0 = .ok (.iconst 5, 1) := by decide +kernel
theorem V.dX8_bodyFits_1 : decode cX8_bodyFits 1 = .ok (.iload_n 1, 1) := by decide +kernel
theorem V.dX8_bodyFits_2 : decode cX8_bodyFits 2 = .ok (.imul, 1) := by decide +kernel
theorem V.dX8_bodyFits_3 : decode cX8_bodyFits 3 = .ok (.istore_n 2, 1) := by decide +kernel
theorem V.dX8_bodyFits_4 : decode cX8_bodyFits 4 = .ok (.aload_n 0, 1) := by decide +kernel
theorem V.dX8_bodyFits_5 : decode cX8_bodyFits 5 = .ok (.getfield 57, 3) := by decide +kernel
theorem V.dX8_bodyFits_8 : decode cX8_bodyFits 8 = .ok (.getfield 171, 3) := by decide +kernel
theorem V.dX8_bodyFits_11 : decode cX8_bodyFits 11 = .ok (.iload_n 2, 1) := by decide +kernel
theorem V.dX8_bodyFits_12 : decode cX8_bodyFits 12 = .ok (.iconst 2, 1) := by decide +kernel
theorem V.dX8_bodyFits_13 : decode cX8_bodyFits 13 = .ok (.iadd, 1) := by decide +kernel
theorem V.dX8_bodyFits_14 : decode cX8_bodyFits 14 = .ok (.invokevirtual 174, 3) := by decide +kernel
theorem V.dX8_bodyFits_17 : decode cX8_bodyFits 17 = .ok (.invokestatic 176, 3) := by decide +kernel
theorem V.dX8_bodyFits_20 : decode cX8_bodyFits 20 = .ok (.ldc2_w 180, 3) := by decide +kernel
theorem V.dX8_bodyFits_23 : decode cX8_bodyFits 23 = .ok (.lcmp, 1) := by decide +kernel
theorem V.dX8_bodyFits_24 : decode cX8_bodyFits 24 = .ok (.ifCond .le 5, 3) := by decide +kernel
theorem V.dX8_bodyFits_27 : decode cX8_bodyFits 27 = .ok (.iconst 0, 1) := by decide +kernel
theorem V.dX8_bodyFits_28 : decode cX8_bodyFits 28 = .ok (.ireturn, 1) := by decide +kernel
theorem V.dX8_bodyFits_29 : decode cX8_bodyFits 29 = .ok (.aload_n 0, 1) := by decide +kernel
theorem V.dX8_bodyFits_30 : decode cX8_bodyFits 30 = .ok (.getfield 35, 3) := by decide +kernel
theorem V.dX8_bodyFits_33 : decode cX8_bodyFits 33 = .ok (.aload_n 0, 1) := by decide +kernel
theorem V.dX8_bodyFits_34 : decode cX8_bodyFits 34 = .ok (.getfield 57, 3) := by decide +kernel
theorem V.dX8_bodyFits_37 : decode cX8_bodyFits 37 = .ok (.getfield 171, 3) := by decide +kernel
theorem V.dX8_bodyFits_40 : decode cX8_bodyFits 40 = .ok (.iload_n 2, 1) := by decide +kernel
theorem V.dX8_bodyFits_41 : decode cX8_bodyFits 41 = .ok (.iconst 3, 1) := by decide +kernel
theorem V.dX8_bodyFits_42 : decode cX8_bodyFits 42 = .ok (.iadd, 1) := by decide +kernel
theorem V.dX8_bodyFits_43 : decode cX8_bodyFits 43 = .ok (.invokevirtual 174, 3) := by decide +kernel
theorem V.dX8_bodyFits_46 : decode cX8_bodyFits 46 = .ok (.invokevirtual 112, 3) := by decide +kernel
theorem V.dX8_bodyFits_49 : decode cX8_bodyFits 49 = .ok (.aload_n 0, 1) := by decide +kernel
theorem V.dX8_bodyFits_50 : decode cX8_bodyFits 50 = .ok (.getfield 35, 3) := by decide +kernel
theorem V.dX8_bodyFits_53 : decode cX8_bodyFits 53 = .ok (.getfield 118, 3) := by decide +kernel
theorem V.dX8_bodyFits_56 : decode cX8_bodyFits 56 = .ok (.aload_n 0, 1) := by decide +kernel
theorem V.dX8_bodyFits_57 : decode cX8_bodyFits 57 = .ok (.getfield 57, 3) := by decide +kernel
theorem V.dX8_bodyFits_60 : decode cX8_bodyFits 60 = .ok (.getfield 171, 3) := by decide +kernel
theorem V.dX8_bodyFits_63 : decode cX8_bodyFits 63 = .ok (.iload_n 2, 1) := by decide +kernel
theorem V.dX8_bodyFits_64 : decode cX8_bodyFits 64 = .ok (.iconst 4, 1) := by decide +kernel
theorem V.dX8_bodyFits_65 : decode cX8_bodyFits 65 = .ok (.iadd, 1) := by decide +kernel
theorem V.dX8_bodyFits_66 : decode cX8_bodyFits 66 = .ok (.invokevirtual 174, 3) := by decide +kernel
theorem V.dX8_bodyFits_69 : decode cX8_bodyFits 69 = .ok (.if_icmp .ge 66, 3) := by decide +kernel
theorem V.dX8_bodyFits_72 : decode cX8_bodyFits 72 = .ok (.aload_n 0, 1) := by decide +kernel
theorem V.dX8_bodyFits_73 : decode cX8_bodyFits 73 = .ok (.getfield 35, 3) := by decide +kernel
theorem V.dX8_bodyFits_76 : decode cX8_bodyFits 76 = .ok (.invokevirtual 182, 3) := by decide +kernel
theorem V.dX8_bodyFits_79 : decode cX8_bodyFits 79 = .ok (.aload_n 0, 1) := by decide +kernel
theorem V.dX8_bodyFits_80 : decode cX8_bodyFits 80 = .ok (.getfield 35, 3) := by decide +kernel
theorem V.dX8_bodyFits_83 : decode cX8_bodyFits 83 = .ok (.getfield 185, 3) := by decide +kernel
theorem V.dX8_bodyFits_86 : decode cX8_bodyFits 86 = .ok (.bipush 14, 2) := by decide +kernel
theorem V.dX8_bodyFits_88 : decode cX8_bodyFits 88 = .ok (.if_icmp .ne 19, 3) := by decide +kernel
theorem V.dX8_bodyFits_91 : decode cX8_bodyFits 91 = .ok (.aload_n 0, 1) := by decide +kernel
theorem V.dX8_bodyFits_92 : decode cX8_bodyFits 92 = .ok (.getfield 35, 3) := by decide +kernel
theorem V.dX8_bodyFits_95 : decode cX8_bodyFits 95 = .ok (.getfield 188, 3) := by decide +kernel
theorem V.dX8_bodyFits_98 : decode cX8_bodyFits 98 = .ok (.invokevirtual 100, 3) := by decide +kernel
theorem V.dX8_bodyFits_101 : decode cX8_bodyFits 101 = .ok (.sipush 200, 3) := by decide +kernel
theorem V.dX8_bodyFits_104 : decode cX8_bodyFits 104 = .ok (.if_icmp .gt 29, 3) := by decide +kernel
theorem V.dX8_bodyFits_107 : decode cX8_bodyFits 107 = .ok (.aload_n 0, 1) := by decide +kernel
theorem V.dX8_bodyFits_108 : decode cX8_bodyFits 108 = .ok (.getfield 35, 3) := by decide +kernel
theorem V.dX8_bodyFits_111 : decode cX8_bodyFits 111 = .ok (.getfield 185, 3) := by decide +kernel
theorem V.dX8_bodyFits_114 : decode cX8_bodyFits 114 = .ok (.bipush 28, 2) := by decide +kernel
theorem V.dX8_bodyFits_116 : decode cX8_bodyFits 116 = .ok (.if_icmp .ne (-67), 3) := by decide +kernel
theorem V.dX8_bodyFits_119 : decode cX8_bodyFits 119 = .ok (.aload_n 0, 1) := by decide +kernel
theorem V.dX8_bodyFits_120 : decode cX8_bodyFits 120 = .ok (.getfield 35, 3) := by decide +kernel
theorem V.dX8_bodyFits_123 : decode cX8_bodyFits 123 = .ok (.getfield 188, 3) := by decide +kernel
theorem V.dX8_bodyFits_126 : decode cX8_bodyFits 126 = .ok (.invokevirtual 100, 3) := by decide +kernel
theorem V.dX8_bodyFits_129 : decode cX8_bodyFits 129 = .ok (.iconst 1, 1) := by decide +kernel
theorem V.dX8_bodyFits_130 : decode cX8_bodyFits 130 = .ok (.if_icmp .eq (-81), 3) := by decide +kernel
theorem V.dX8_bodyFits_133 : decode cX8_bodyFits 133 = .ok (.iconst 0, 1) := by decide +kernel
theorem V.dX8_bodyFits_134 : decode cX8_bodyFits 134 = .ok (.ireturn, 1) := by decide +kernel
theorem V.dX8_bodyFits_135 : decode cX8_bodyFits 135 = .ok (.iconst 1, 1) := by decide +kernel
theorem V.dX8_bodyFits_136 : decode cX8_bodyFits 136 = .ok (.ireturn, 1) := by decide +kernel
theorem V.fdX8_171 : FD RX8 171 2 11 2 := ⟨(RX2, TX2, 21), tyX2, rfl, rfl, in_X2, by decide, Or.inr ⟨_, q466⟩, rfl⟩
theorem V.mdX8_174 : MD RX8 174 yX3_at cX3_at 2 (some .int) 1 := ⟨Or.inl q1605, q363, q1411, by decide, by decide, by decide +kernel⟩
theorem V.mdX8_176 : MD RX8 176 yX2_wide cX2_wide 1 (some .long) 1 := ⟨Or.inl q1606, q362, q1377, by decide, by decide, by decide +kernel⟩
theorem V.mdX8_182 : MD RX8 182 yX12_next cX12_next 4 none 0 := ⟨Or.inl q1608, q372, q1611, by decide, by decide, by decide +kernel⟩
theorem V.fdX8_185 : FD RX8 185 12 3 0 := ⟨(RX12, TX12, 8), tyX12, rfl, rfl, in_X12, by decide, Or.inr ⟨_, q885⟩, rfl⟩
theorem V.fdX8_188 : FD RX8 188 12 7 2 := ⟨(RX12, TX12, 8), tyX12, rfl, rfl, in_X12, by decide, Or.inr ⟨_, q896⟩, rfl⟩
/-! ModuleEngine$Loader.bodyFits(I)Z -/
def V.Ldr_bodyFits_p107 (rec49 : HS → Nat → Int32 → Option (Int32 × HS)) (σ : HS) (x0 : Nat) (x2 : Int32) : Option (Int32 × HS) :=
  ck (tg σ x0 = 9) <|
  ck (tg σ (gR σ x0 6) = 13) <|
  if (gI σ (gR σ x0 6) 3) = (28 : Int32) then (
    ck (tg σ x0 = 9) <|
    ck (tg σ (gR σ x0 6) = 13) <|
    ck (tg σ (gR σ (gR σ x0 6) 7) = 4) <| cl (Row_size σ (gR σ (gR σ x0 6) 7) ) fun r2 σ1 =>
    if r2 = (1 : Int32) then (
      rec49 σ1 x0 x2)
    else (
      some ((0 : Int32), σ1)))
  else (
    rec49 σ x0 x2)
theorem V.gX8_bodyFits_p107 {X : CX} (rec49 : HS → Nat → Int32 → Option (Int32 × HS)) (hrec49 : ∀ (σ : HS) (x0 : Nat) (x2 : Int32), G X RX8 "bodyFits" cX8_bodyFits 3 (some .boolean) 5 109 enI 49 [(0, av x0), (2, iv x2)] [] σ (rec49 σ x0 x2)) (σ : HS) (x0 : Nat) (x2 : Int32) : G X RX8 "bodyFits" cX8_bodyFits 3 (some .boolean) 5 109 enI 107 [(0, av x0), (2, iv x2)] [] σ (Ldr_bodyFits_p107 rec49 σ x0 x2) := by
  unfold Ldr_bodyFits_p107
  refine g_aload_n 0 0 dX8_bodyFits_107 rfl rfl ?_
  refine g_getR fdX8_35 dX8_bodyFits_108 ?_
  refine g_getI fdX8_185 dX8_bodyFits_111 ?_
  refine g_bipush (v := 28) dX8_bodyFits_114 (by decide) ?_
  refine g_icmp_ne 49 dX8_bodyFits_116 (by decide) ?_ ?_
  · exact hrec49 _ _ _
  · refine g_aload_n 0 0 dX8_bodyFits_119 rfl rfl ?_
    refine g_getR fdX8_35 dX8_bodyFits_120 ?_
    refine g_getR fdX8_188 dX8_bodyFits_123 ?_
    refine g_callV (fc := fun sς => Row_size sς (gR σ (gR σ x0 6) 7) ) (ci := 3) (as := []) rfl rfl rfl q1421 q1422 mdX8_100 (ctX3_size (gR σ (gR σ x0 6) 7) ) rfl (Nat.le_of_ble_eq_true rfl) (Nat.le_of_ble_eq_true rfl) (Nat.le_of_ble_eq_true rfl) pu_I dX8_bodyFits_126 (fun r2 σ1 => ?_)
    refine g_iconst (v := 1) dX8_bodyFits_129 (by decide) ?_
    refine g_icmp_eq 49 dX8_bodyFits_130 (by decide) ?_ ?_
    · exact hrec49 _ _ _
    · refine g_iconst (v := 0) dX8_bodyFits_133 (by decide) ?_
      exact g_zreturn rfl (by decide +kernel) dX8_bodyFits_134
def V.Ldr_bodyFits_p49  : Nat → HS → Nat → Int32 → Option (Int32 × HS)
  | 0, _, _, _ => none
  | n + 1, σ, x0, x2 =>
    ck (tg σ x0 = 9) <|
    ck (tg σ (gR σ x0 6) = 13) <|
    ck (tg σ x0 = 9) <|
    ck (tg σ (gR σ x0 7) = 3) <|
    ck (tg σ (gR σ (gR σ x0 7) 11) = 4) <| cl (Row_at σ (gR σ (gR σ x0 7) 11) (x2 + (4 : Int32))) fun r2 σ1 =>
    if r2 ≤ (gI σ (gR σ x0 6) 1) then (
      some ((1 : Int32), σ1))
    else (
      ck (tg σ1 x0 = 9) <|
      ck (tg σ1 (gR σ1 x0 6) = 13) <| cl (Wlk_next σ1 (gR σ1 x0 6) ) fun _ σ3 =>
      ck (tg σ3 x0 = 9) <|
      ck (tg σ3 (gR σ3 x0 6) = 13) <|
      if (gI σ3 (gR σ3 x0 6) 3) = (14 : Int32) then (
        ck (tg σ3 x0 = 9) <|
        ck (tg σ3 (gR σ3 x0 6) = 13) <|
        ck (tg σ3 (gR σ3 (gR σ3 x0 6) 7) = 4) <| cl (Row_size σ3 (gR σ3 (gR σ3 x0 6) 7) ) fun r5 σ4 =>
        if (200 : Int32) < r5 then (
          some ((0 : Int32), σ4))
        else (
          Ldr_bodyFits_p107 (Ldr_bodyFits_p49 n) σ4 x0 x2))
      else (
        Ldr_bodyFits_p107 (Ldr_bodyFits_p49 n) σ3 x0 x2))
theorem V.gX8_bodyFits_p49 {X : CX}  : ∀ (n : Nat) (σ : HS) (x0 : Nat) (x2 : Int32), G X RX8 "bodyFits" cX8_bodyFits 3 (some .boolean) 5 109 enI 49 [(0, av x0), (2, iv x2)] [] σ (Ldr_bodyFits_p49 n σ x0 x2)
  | 0, σ, x0, x2 => by rw [Ldr_bodyFits_p49]; exact G.nul
  | n + 1, σ, x0, x2 => by
    rw [Ldr_bodyFits_p49]
    refine g_aload_n 0 0 dX8_bodyFits_49 rfl rfl ?_
    refine g_getR fdX8_35 dX8_bodyFits_50 ?_
    refine g_getI fdX8_118 dX8_bodyFits_53 ?_
    refine g_aload_n 0 0 dX8_bodyFits_56 rfl rfl ?_
    refine g_getR fdX8_57 dX8_bodyFits_57 ?_
    refine g_getR fdX8_171 dX8_bodyFits_60 ?_
    refine g_iload_n 2 1 dX8_bodyFits_63 rfl rfl ?_
    refine g_iconst (v := 4) dX8_bodyFits_64 (by decide) ?_
    refine g_iadd dX8_bodyFits_65 ?_
    refine g_callV (fc := fun sς => Row_at sς (gR σ (gR σ x0 7) 11) (x2 + (4 : Int32))) (ci := 3) (as := [iv (x2 + (4 : Int32))]) rfl rfl rfl q1409 q1410 mdX8_174 (ctX3_at (gR σ (gR σ x0 7) 11) (x2 + (4 : Int32))) rfl (Nat.le_of_ble_eq_true rfl) (Nat.le_of_ble_eq_true rfl) (Nat.le_of_ble_eq_true rfl) pu_I dX8_bodyFits_66 (fun r2 σ1 => ?_)
    refine g_icmp_ge 135 dX8_bodyFits_69 (by decide) ?_ ?_
    · refine g_iconst (v := 1) dX8_bodyFits_135 (by decide) ?_
      exact g_zreturn rfl (by decide +kernel) dX8_bodyFits_136
    · refine g_aload_n 0 0 dX8_bodyFits_72 rfl rfl ?_
      refine g_getR fdX8_35 dX8_bodyFits_73 ?_
      refine g_callV (fc := fun sς => Wlk_next sς (gR σ1 x0 6) ) (ci := 12) (as := []) rfl rfl rfl q1609 q1610 mdX8_182 (ctX12_next (gR σ1 x0 6) ) rfl (Nat.le_of_ble_eq_true rfl) (Nat.le_of_ble_eq_true rfl) (Nat.le_of_ble_eq_true rfl) pu_V dX8_bodyFits_76 (fun _ σ3 => ?_)
      refine g_aload_n 0 0 dX8_bodyFits_79 rfl rfl ?_
      refine g_getR fdX8_35 dX8_bodyFits_80 ?_
      refine g_getI fdX8_185 dX8_bodyFits_83 ?_
      refine g_bipush (v := 14) dX8_bodyFits_86 (by decide) ?_
      refine g_icmp_ne 107 dX8_bodyFits_88 (by decide) ?_ ?_
      · exact gX8_bodyFits_p107 (Ldr_bodyFits_p49 n) (gX8_bodyFits_p49 n) _ _ _
      · refine g_aload_n 0 0 dX8_bodyFits_91 rfl rfl ?_
        refine g_getR fdX8_35 dX8_bodyFits_92 ?_
        refine g_getR fdX8_188 dX8_bodyFits_95 ?_
        refine g_callV (fc := fun sς => Row_size sς (gR σ3 (gR σ3 x0 6) 7) ) (ci := 3) (as := []) rfl rfl rfl q1421 q1422 mdX8_100 (ctX3_size (gR σ3 (gR σ3 x0 6) 7) ) rfl (Nat.le_of_ble_eq_true rfl) (Nat.le_of_ble_eq_true rfl) (Nat.le_of_ble_eq_true rfl) pu_I dX8_bodyFits_98 (fun r5 σ4 => ?_)
        refine g_sipush (v := 200) dX8_bodyFits_101 (by decide) ?_
        refine g_icmp_gt 133 dX8_bodyFits_104 (by decide) ?_ ?_
        · refine g_iconst (v := 0) dX8_bodyFits_133 (by decide) ?_
          exact g_zreturn rfl (by decide +kernel) dX8_bodyFits_134
        · exact gX8_bodyFits_p107 (Ldr_bodyFits_p49 n) (gX8_bodyFits_p49 n) _ _ _
def V.Ldr_bodyFits (σ : HS) (x0 : Nat) (x1 : Int32) : Option (Int32 × HS) :=
  bn ((5 : Int32) * x1) fun y1 =>
  ck (tg σ x0 = 9) <|
  ck (tg σ (gR σ x0 7) = 3) <|
  ck (tg σ (gR σ (gR σ x0 7) 11) = 4) <| cl (Row_at σ (gR σ (gR σ x0 7) 11) (y1 + (2 : Int32))) fun r3 σ2 =>
  cl (Mod_wide σ2 r3) fun r5 σ4 =>
  if r5 ≤ (1000 : Int64) then (
    ck (tg σ4 x0 = 9) <|
    ck (tg σ4 x0 = 9) <|
    ck (tg σ4 (gR σ4 x0 7) = 3) <|
    ck (tg σ4 (gR σ4 (gR σ4 x0 7) 11) = 4) <| cl (Row_at σ4 (gR σ4 (gR σ4 x0 7) 11) (y1 + (3 : Int32))) fun r7 σ6 =>
    ck (tg σ6 (gR σ4 x0 6) = 13) <| cl (Wlk_go σ6 (gR σ4 x0 6) r7) fun _ σ8 =>
    Ldr_bodyFits_p49 FU σ8 x0 y1)
  else (
    some ((0 : Int32), σ4))
theorem V.ctX8_bodyFits (x0 : Nat) (x1 : Int32) : Ct yX8_bodyFits  cX8_bodyFits 3 (some .boolean) 5 109 eI [av x0, iv x1] (fun σ => Ldr_bodyFits σ x0 x1) := by
  refine Ct.of (own := RX8) (nm := "bodyFits") (desc := "(I)Z") rfl (by decide) (Nat.le_of_ble_eq_true rfl) (by decide) (fun X σ => ?_)
  show G X RX8 "bodyFits" cX8_bodyFits 3 (some .boolean) 5 109 enI 0 [(0, av x0), (1, iv x1)] [] σ (Ldr_bodyFits σ x0 x1)
  unfold Ldr_bodyFits
  refine g_iconst (v := 5) dX8_bodyFits_0 (by decide) ?_
  refine g_iload_n 1 1 dX8_bodyFits_1 rfl rfl ?_
  refine g_imul dX8_bodyFits_2 ?_
  refine g_nmI (fun y1 => ?_)
  refine g_istore_n 2 dX8_bodyFits_3 rfl (by decide) rfl ?_
  refine g_aload_n 0 1 dX8_bodyFits_4 rfl rfl ?_
  refine g_getR fdX8_57 dX8_bodyFits_5 ?_
  refine g_getR fdX8_171 dX8_bodyFits_8 ?_
  refine g_iload_n 2 0 dX8_bodyFits_11 rfl rfl ?_
  refine g_iconst (v := 2) dX8_bodyFits_12 (by decide) ?_
  refine g_iadd dX8_bodyFits_13 ?_
  refine g_callV (fc := fun sς => Row_at sς (gR σ (gR σ x0 7) 11) (y1 + (2 : Int32))) (ci := 3) (as := [iv (y1 + (2 : Int32))]) rfl rfl rfl q1409 q1410 mdX8_174 (ctX3_at (gR σ (gR σ x0 7) 11) (y1 + (2 : Int32))) rfl (Nat.le_of_ble_eq_true rfl) (Nat.le_of_ble_eq_true rfl) (Nat.le_of_ble_eq_true rfl) pu_I dX8_bodyFits_14 (fun r3 σ2 => ?_)
  refine g_callS (fc := fun sς => Mod_wide sς r3) (as := [iv r3]) q1376 mdX8_176 (ctX2_wide r3) rfl (Nat.le_of_ble_eq_true rfl) (Nat.le_of_ble_eq_true rfl) (Nat.le_of_ble_eq_true rfl) pu_J dX8_bodyFits_17 (fun r5 σ4 => ?_)
  refine g_ldc2 q1607 dX8_bodyFits_20 ?_
  refine g_lcmp_le 29 dX8_bodyFits_23 dX8_bodyFits_24 (by decide) ?_ ?_
  · refine g_aload_n 0 1 dX8_bodyFits_29 rfl rfl ?_
    refine g_getR fdX8_35 dX8_bodyFits_30 ?_
    refine g_aload_n 0 1 dX8_bodyFits_33 rfl rfl ?_
    refine g_getR fdX8_57 dX8_bodyFits_34 ?_
    refine g_getR fdX8_171 dX8_bodyFits_37 ?_
    refine g_iload_n 2 0 dX8_bodyFits_40 rfl rfl ?_
    refine g_iconst (v := 3) dX8_bodyFits_41 (by decide) ?_
    refine g_iadd dX8_bodyFits_42 ?_
    refine g_callV (fc := fun sς => Row_at sς (gR σ4 (gR σ4 x0 7) 11) (y1 + (3 : Int32))) (ci := 3) (as := [iv (y1 + (3 : Int32))]) rfl rfl rfl q1409 q1410 mdX8_174 (ctX3_at (gR σ4 (gR σ4 x0 7) 11) (y1 + (3 : Int32))) rfl (Nat.le_of_ble_eq_true rfl) (Nat.le_of_ble_eq_true rfl) (Nat.le_of_ble_eq_true rfl) pu_I dX8_bodyFits_43 (fun r7 σ6 => ?_)
    refine g_callV (fc := fun sς => Wlk_go sς (gR σ4 x0 6) r7) (ci := 12) (as := [iv r7]) rfl rfl rfl q1572 q1573 mdX8_112 (ctX12_go (gR σ4 x0 6) r7) rfl (Nat.le_of_ble_eq_true rfl) (Nat.le_of_ble_eq_true rfl) (Nat.le_of_ble_eq_true rfl) pu_V dX8_bodyFits_46 (fun _ σ8 => ?_)
    refine G.sub [1, 0] rfl ?_
    exact gX8_bodyFits_p49 FU _ _ _
  · refine g_iconst (v := 0) dX8_bodyFits_27 (by decide) ?_
    exact g_zreturn rfl (by decide +kernel) dX8_bodyFits_28
