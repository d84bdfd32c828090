set_option maxRecDepth 100000
theorem V.dX0_feed_0 : decode cX0_feed 0 = .ok (.aload_n 0, 1) := by decide +kernel
theorem V.dX0_feed_1 : decode cX0_feed 1 = .ok (.getfield 80, 3) := by decide +kernel
theorem V.dX0_feed_4 : decode cX0_feed 4 = .ok (.bipush 20, 2) := by decide +kernel
theorem V.dX0_feed_6 : decode cX0_feed 6 = .ok (.iadd, 1) := by decide +kernel
theorem V.dX0_feed_7 : decode cX0_feed 7 = .ok (.ldc 11, 2) := by decide +kernel
theorem V.dX0_feed_9 : decode cX0_feed 9 = .ok (.if_icmp .le 5, 3) := by decide +kernel
theorem V.dX0_feed_12 : decode cX0_feed 12 = .ok (.iconst (-1), 1) := by decide +kernel
theorem V.dX0_feed_13 : decode cX0_feed 13 = .ok (.ireturn, 1) := by decide +kernel
theorem V.dX0_feed_14 : decode cX0_feed 14 = .ok (.aload_n 0, 1) := by decide +kernel
theorem V.dX0_feed_15 : decode cX0_feed 15 = .ok (.dup, 1) := by decide +kernel
theorem V.dX0_feed_16 : decode cX0_feed 16 = .ok (.getfield 80, 3) := by decide +kernel
theorem V.dX0_feed_19 : decode cX0_feed 19 = .ok (.bipush 20, 2) := by decide +kernel
theorem V.dX0_feed_21 : decode cX0_feed 21 = .ok (.iadd, 1) := by decide +kernel
theorem V.dX0_feed_22 : decode cX0_feed 22 = .ok (.putfield 80, 3) := by decide +kernel
theorem V.dX0_feed_25 : decode cX0_feed 25 = .ok (.aload_n 0, 1) := by decide +kernel
theorem V.dX0_feed_26 : decode cX0_feed 26 = .ok (.getfield 15, 3) := by decide +kernel
theorem V.dX0_feed_29 : decode cX0_feed 29 = .ok (.iload_n 1, 1) := by decide +kernel
theorem V.dX0_feed_30 : decode cX0_feed 30 = .ok (.invokevirtual 83, 3) := by decide +kernel
theorem V.dX0_feed_33 : decode cX0_feed 33 = .ok (.pop, 1) := by decide +kernel
theorem V.dX0_feed_34 : decode cX0_feed 34 = .ok (.aload_n 0, 1) := by decide +kernel
theorem V.dX0_feed_35 : decode cX0_feed 35 = .ok (.getfield 15, 3) := by decide +kernel
theorem V.dX0_feed_38 : decode cX0_feed 38 = .ok (.iload_n 2, 1) := by decide +kernel
theorem V.dX0_feed_39 : decode cX0_feed 39 = .ok (.invokevirtual 83, 3) := by decide +kernel
theorem V.dX0_feed_42 : decode cX0_feed 42 = .ok (.pop, 1) := by decide +kernel
theorem V.dX0_feed_43 : decode cX0_feed 43 = .ok (.aload_n 0, 1) := by decide +kernel
theorem V.dX0_feed_44 : decode cX0_feed 44 = .ok (.getfield 15, 3) := by decide +kernel
theorem V.dX0_feed_47 : decode cX0_feed 47 = .ok (.iload_n 3, 1) := by decide +kernel
theorem V.dX0_feed_48 : decode cX0_feed 48 = .ok (.invokevirtual 83, 3) := by decide +kernel
theorem V.dX0_feed_51 : decode cX0_feed 51 = .ok (.pop, 1) := by decide +kernel
theorem V.dX0_feed_52 : decode cX0_feed 52 = .ok (.aload_n 0, 1) := by decide +kernel
theorem V.dX0_feed_53 : decode cX0_feed 53 = .ok (.getfield 15, 3) := by decide +kernel
theorem V.dX0_feed_56 : decode cX0_feed 56 = .ok (.iload 4, 2) := by decide +kernel
theorem V.dX0_feed_58 : decode cX0_feed 58 = .ok (.invokevirtual 83, 3) := by decide +kernel
theorem V.dX0_feed_61 : decode cX0_feed 61 = .ok (.pop, 1) := by decide +kernel
theorem V.dX0_feed_62 : decode cX0_feed 62 = .ok (.aload_n 0, 1) := by decide +kernel
theorem V.dX0_feed_63 : decode cX0_feed 63 = .ok (.getfield 15, 3) := by decide +kernel
theorem V.dX0_feed_66 : decode cX0_feed 66 = .ok (.iload 5, 2) := by decide +kernel
theorem V.dX0_feed_68 : decode cX0_feed 68 = .ok (.invokevirtual 83, 3) := by decide +kernel
theorem V.dX0_feed_71 : decode cX0_feed 71 = .ok (.ireturn, 1) := by decide +kernel
theorem V.fdX0_80 : FD RX0 80 0 10 0 := ⟨(RX0, TX0, 13), tyX0, rfl, rfl, in_X0, by decide, Or.inl q1222, rfl⟩
theorem V.fpX0_80 {nm : String} : FP RX0 nm 80 0 10 (.int) := ⟨(RX0, TX0, 13), tyX0, rfl, rfl, in_X0, by decide, tyX0_ok, nmX0, rfl, Or.inl ⟨rfl, Or.inl q1222⟩⟩
theorem V.fdX0_15 : FD RX0 15 0 0 2 := ⟨(RX0, TX0, 13), tyX0, rfl, rfl, in_X0, by decide, Or.inl q1212, rfl⟩
theorem V.mdX0_83 : MD RX0 83 yX1_feed cX1_feed 3 (some .int) 1 := ⟨Or.inl q1256, q361, q1259, by decide, by decide, by decide +kernel⟩
/-! ModuleEngine.feed(IIIII)I -/
def V.Eng_feed (σ : HS) (x0 : Nat) (x1 : Int32) (x2 : Int32) (x3 : Int32) (x4 : Int32) (x5 : Int32) : Option (Int32 × HS) :=
  ck (tg σ x0 = 1) <|
  if ((gI σ x0 10) + (20 : Int32)) ≤ (40960 : Int32) then (
    ck (tg σ x0 = 1) <|
    ck (tg σ x0 = 1) <| bn (sI σ x0 10 ((gI σ x0 10) + (20 : Int32))) fun σ1 =>
    ck (tg σ1 x0 = 1) <|
    ck (tg σ1 (gR σ1 x0 0) = 2) <| cl (Byt_feed σ1 (gR σ1 x0 0) x1) fun r3 σ2 =>
    ck (tg σ2 x0 = 1) <|
    ck (tg σ2 (gR σ2 x0 0) = 2) <| cl (Byt_feed σ2 (gR σ2 x0 0) x2) fun r5 σ4 =>
    ck (tg σ4 x0 = 1) <|
    ck (tg σ4 (gR σ4 x0 0) = 2) <| cl (Byt_feed σ4 (gR σ4 x0 0) x3) fun r7 σ6 =>
    ck (tg σ6 x0 = 1) <|
    ck (tg σ6 (gR σ6 x0 0) = 2) <| cl (Byt_feed σ6 (gR σ6 x0 0) x4) fun r9 σ8 =>
    ck (tg σ8 x0 = 1) <|
    ck (tg σ8 (gR σ8 x0 0) = 2) <| cl (Byt_feed σ8 (gR σ8 x0 0) x5) fun r11 σ10 =>
    some (r11, σ10))
  else (
    some ((-1 : Int32), σ))
theorem V.ctX0_feed (x0 : Nat) (x1 : Int32) (x2 : Int32) (x3 : Int32) (x4 : Int32) (x5 : Int32) : Ct yX0_feed  cX0_feed 6 (some .int) 3 68 eI [av x0, iv x1, iv x2, iv x3, iv x4, iv x5] (fun σ => Eng_feed σ x0 x1 x2 x3 x4 x5) := by
  refine Ct.of (own := RX0) (nm := "feed") (desc := "(IIIII)I") rfl (by decide) (Nat.le_of_ble_eq_true rfl) (by decide) (fun X σ => ?_)
  show G X RX0 "feed" cX0_feed 6 (some .int) 3 68 enI 0 [(0, av x0), (1, iv x1), (2, iv x2), (3, iv x3), (4, iv x4), (5, iv x5)] [] σ (Eng_feed σ x0 x1 x2 x3 x4 x5)
  unfold Eng_feed
  refine g_aload_n 0 0 dX0_feed_0 rfl rfl ?_
  refine g_getI fdX0_80 dX0_feed_1 ?_
  refine g_bipush (v := 20) dX0_feed_4 (by decide) ?_
  refine g_iadd dX0_feed_6 ?_
  refine g_ldc q397 dX0_feed_7 ?_
  refine g_icmp_le 14 dX0_feed_9 (by decide) ?_ ?_
  · refine g_aload_n 0 0 dX0_feed_14 rfl rfl ?_
    refine g_dup dX0_feed_15 rfl ?_
    refine g_getI fdX0_80 dX0_feed_16 ?_
    refine g_bipush (v := 20) dX0_feed_19 (by decide) ?_
    refine g_iadd dX0_feed_21 ?_
    refine g_putI fpX0_80 dX0_feed_22 (fun σ1 => ?_)
    refine g_aload_n 0 0 dX0_feed_25 rfl rfl ?_
    refine g_getR fdX0_15 dX0_feed_26 ?_
    refine g_iload_n 1 1 dX0_feed_29 rfl rfl ?_
    refine g_callV (fc := fun sς => Byt_feed sς (gR σ1 x0 0) x1) (ci := 1) (as := [iv x1]) rfl rfl rfl q1257 q1258 mdX0_83 (ctX1_feed (gR σ1 x0 0) x1) rfl (Nat.le_of_ble_eq_true rfl) (Nat.le_of_ble_eq_true rfl) (Nat.le_of_ble_eq_true rfl) pu_I dX0_feed_30 (fun r3 σ2 => ?_)
    refine g_pop dX0_feed_33 rfl ?_
    refine g_aload_n 0 0 dX0_feed_34 rfl rfl ?_
    refine g_getR fdX0_15 dX0_feed_35 ?_
    refine g_iload_n 2 2 dX0_feed_38 rfl rfl ?_
    refine g_callV (fc := fun sς => Byt_feed sς (gR σ2 x0 0) x2) (ci := 1) (as := [iv x2]) rfl rfl rfl q1257 q1258 mdX0_83 (ctX1_feed (gR σ2 x0 0) x2) rfl (Nat.le_of_ble_eq_true rfl) (Nat.le_of_ble_eq_true rfl) (Nat.le_of_ble_eq_true rfl) pu_I dX0_feed_39 (fun r5 σ4 => ?_)
    refine g_pop dX0_feed_42 rfl ?_
    refine g_aload_n 0 0 dX0_feed_43 rfl rfl ?_
    refine g_getR fdX0_15 dX0_feed_44 ?_
    refine g_iload_n 3 3 dX0_feed_47 rfl rfl ?_
    refine g_callV (fc := fun sς => Byt_feed sς (gR σ4 x0 0) x3) (ci := 1) (as := [iv x3]) rfl rfl rfl q1257 q1258 mdX0_83 (ctX1_feed (gR σ4 x0 0) x3) rfl (Nat.le_of_ble_eq_true rfl) (Nat.le_of_ble_eq_true rfl) (Nat.le_of_ble_eq_true rfl) pu_I dX0_feed_48 (fun r7 σ6 => ?_)
    refine g_pop dX0_feed_51 rfl ?_
    refine g_aload_n 0 0 dX0_feed_52 rfl rfl ?_
    refine g_getR fdX0_15 dX0_feed_53 ?_
    refine g_iload 4 dX0_feed_56 rfl ?_
    refine g_callV (fc := fun sς => Byt_feed sς (gR σ6 x0 0) x4) (ci := 1) (as := [iv x4]) rfl rfl rfl q1257 q1258 mdX0_83 (ctX1_feed (gR σ6 x0 0) x4) rfl (Nat.le_of_ble_eq_true rfl) (Nat.le_of_ble_eq_true rfl) (Nat.le_of_ble_eq_true rfl) pu_I dX0_feed_58 (fun r9 σ8 => ?_)
    refine g_pop dX0_feed_61 rfl ?_
    refine g_aload_n 0 0 dX0_feed_62 rfl rfl ?_
    refine g_getR fdX0_15 dX0_feed_63 ?_
    refine g_iload 5 dX0_feed_66 rfl ?_
    refine g_callV (fc := fun sς => Byt_feed sς (gR σ8 x0 0) x5) (ci := 1) (as := [iv x5]) rfl rfl rfl q1257 q1258 mdX0_83 (ctX1_feed (gR σ8 x0 0) x5) rfl (Nat.le_of_ble_eq_true rfl) (Nat.le_of_ble_eq_true rfl) (Nat.le_of_ble_eq_true rfl) pu_I dX0_feed_68 (fun r11 σ10 => ?_)
    exact g_ireturn rfl dX0_feed_71
  · refine g_iconst (v := (-1)) dX0_feed_12 (by decide) ?_
    exact g_ireturn rfl dX0_feed_13
theorem V.dX0_module_0 : decode cX0_module 0 = .ok (.iload_n 1, 1) := by decide +kernel
theorem V.dX0_module_1 : decode cX0_module 1 = .ok (.ifCond .lt 26, 3) := by decide +kernel
theorem V.dX0_module_4 : decode cX0_module 4 = .ok (.iload_n 1, 1) := by decide +kernel
theorem V.dX0_module_5 : decode cX0_module 5 = .ok (.aload_n 0, 1) := by decide +kernel
theorem V.dX0_module_6 : decode cX0_module 6 = .ok (.getfield 15, 3) := by decide +kernel
theorem V.dX0_module_9 : decode cX0_module 9 = .ok (.getfield 87, 3) := by decide +kernel
theorem V.dX0_module_12 : decode cX0_module 12 = .ok (.if_icmp .gt 15, 3) := by decide +kernel
theorem V.dX0_module_15 : decode cX0_module 15 = .ok (.aload_n 0, 1) := by decide +kernel
theorem V.dX0_module_16 : decode cX0_module 16 = .ok (.getfield 56, 3) := by decide +kernel
theorem V.dX0_module_19 : decode cX0_module 19 = .ok (.getfield 90, 3) := by decide +kernel
theorem V.dX0_module_22 : decode cX0_module 22 = .ok (.bipush 16, 2) := by decide +kernel
theorem V.dX0_module_24 : decode cX0_module 24 = .ok (.if_icmp .ne 6, 3) := by decide +kernel
theorem V.dX0_module_27 : decode cX0_module 27 = .ok (.bipush (-2), 2) := by decide +kernel
theorem V.dX0_module_29 : decode cX0_module 29 = .ok (.ireturn, 1) := by decide +kernel
theorem V.dX0_module_30 : decode cX0_module 30 = .ok (.aload_n 0, 1) := by decide +kernel
theorem V.dX0_module_31 : decode cX0_module 31 = .ok (.getfield 15, 3) := by decide +kernel
theorem V.dX0_module_34 : decode cX0_module 34 = .ok (.iload_n 1, 1) := by decide +kernel
theorem V.dX0_module_35 : decode cX0_module 35 = .ok (.aload_n 0, 1) := by decide +kernel
theorem V.dX0_module_36 : decode cX0_module 36 = .ok (.getfield 93, 3) := by decide +kernel
theorem V.dX0_module_39 : decode cX0_module 39 = .ok (.invokevirtual 97, 3) := by decide +kernel
theorem V.dX0_module_42 : decode cX0_module 42 = .ok (.astore_n 2, 1) := by decide +kernel
theorem V.dX0_module_43 : decode cX0_module 43 = .ok (.aload_n 2, 1) := by decide +kernel
theorem V.dX0_module_44 : decode cX0_module 44 = .ok (.ifnull 8, 3) := by decide +kernel
theorem V.dX0_module_47 : decode cX0_module 47 = .ok (.aload_n 0, 1) := by decide +kernel
theorem V.dX0_module_48 : decode cX0_module 48 = .ok (.aconst_null, 1) := by decide +kernel
theorem V.dX0_module_49 : decode cX0_module 49 = .ok (.putfield 93, 3) := by decide +kernel
theorem V.dX0_module_52 : decode cX0_module 52 = .ok (.aload_n 0, 1) := by decide +kernel
theorem V.dX0_module_53 : decode cX0_module 53 = .ok (.getfield 31, 3) := by decide +kernel
theorem V.dX0_module_56 : decode cX0_module 56 = .ok (.invokevirtual 101, 3) := by decide +kernel
theorem V.dX0_module_59 : decode cX0_module 59 = .ok (.istore_n 3, 1) := by decide +kernel
theorem V.dX0_module_60 : decode cX0_module 60 = .ok (.aload_n 2, 1) := by decide +kernel
theorem V.dX0_module_61 : decode cX0_module 61 = .ok (.ifnull 18, 3) := by decide +kernel
theorem V.dX0_module_64 : decode cX0_module 64 = .ok (.aload_n 0, 1) := by decide +kernel
theorem V.dX0_module_65 : decode cX0_module 65 = .ok (.getfield 49, 3) := by decide +kernel
theorem V.dX0_module_68 : decode cX0_module 68 = .ok (.aload_n 2, 1) := by decide +kernel
theorem V.dX0_module_69 : decode cX0_module 69 = .ok (.invokevirtual 105, 3) := by decide +kernel
theorem V.dX0_module_72 : decode cX0_module 72 = .ok (.ifCond .eq 7, 3) := by decide +kernel
theorem V.dX0_module_75 : decode cX0_module 75 = .ok (.iconst 1, 1) := by decide +kernel
theorem V.dX0_module_76 : decode cX0_module 76 = .ok (.goto 4, 3) := by decide +kernel
theorem V.dX0_module_79 : decode cX0_module 79 = .ok (.iconst 0, 1) := by decide +kernel
theorem V.dX0_module_80 : decode cX0_module 80 = .ok (.istore 4, 2) := by decide +kernel
theorem V.dX0_module_82 : decode cX0_module 82 = .ok (.aload_n 0, 1) := by decide +kernel
theorem V.dX0_module_83 : decode cX0_module 83 = .ok (.aload_n 2, 1) := by decide +kernel
theorem V.dX0_module_84 : decode cX0_module 84 = .ok (.ifnonnull 13, 3) := by decide +kernel
theorem V.dX0_module_87 : decode cX0_module 87 = .ok (.aload_n 0, 1) := by decide +kernel
theorem V.dX0_module_88 : decode cX0_module 88 = .ok (.getfield 15, 3) := by decide +kernel
theorem V.dX0_module_91 : decode cX0_module 91 = .ok (.getfield 109, 3) := by decide +kernel
theorem V.dX0_module_94 : decode cX0_module 94 = .ok (.goto 10, 3) := by decide +kernel
theorem V.dX0_module_97 : decode cX0_module 97 = .ok (.aload_n 0, 1) := by decide +kernel
theorem V.dX0_module_98 : decode cX0_module 98 = .ok (.getfield 49, 3) := by decide +kernel
theorem V.dX0_module_101 : decode cX0_module 101 = .ok (.invokevirtual 110, 3) := by decide +kernel
theorem V.dX0_module_104 : decode cX0_module 104 = .ok (.putfield 73, 3) := by decide +kernel
theorem V.dX0_module_107 : decode cX0_module 107 = .ok (.aload_n 0, 1) := by decide +kernel
theorem V.dX0_module_108 : decode cX0_module 108 = .ok (.aload_n 2, 1) := by decide +kernel
theorem V.dX0_module_109 : decode cX0_module 109 = .ok (.ifnonnull 13, 3) := by decide +kernel
theorem V.dX0_module_112 : decode cX0_module 112 = .ok (.aload_n 0, 1) := by decide +kernel
theorem V.dX0_module_113 : decode cX0_module 113 = .ok (.getfield 15, 3) := by decide +kernel
theorem V.dX0_module_116 : decode cX0_module 116 = .ok (.getfield 112, 3) := by decide +kernel
theorem V.dX0_module_119 : decode cX0_module 119 = .ok (.goto 10, 3) := by decide +kernel
theorem V.dX0_module_122 : decode cX0_module 122 = .ok (.aload_n 0, 1) := by decide +kernel
theorem V.dX0_module_123 : decode cX0_module 123 = .ok (.getfield 49, 3) := by decide +kernel
theorem V.dX0_module_126 : decode cX0_module 126 = .ok (.invokevirtual 113, 3) := by decide +kernel
theorem V.dX0_module_129 : decode cX0_module 129 = .ok (.putfield 77, 3) := by decide +kernel
theorem V.dX0_module_132 : decode cX0_module 132 = .ok (.iload 4, 2) := by decide +kernel
theorem V.dX0_module_134 : decode cX0_module 134 = .ok (.ifCond .ne 21, 3) := by decide +kernel
theorem V.dX0_module_137 : decode cX0_module 137 = .ok (.aload_n 0, 1) := by decide +kernel
theorem V.dX0_module_138 : decode cX0_module 138 = .ok (.aload_n 2, 1) := by decide +kernel
theorem V.dX0_module_139 : decode cX0_module 139 = .ok (.ifnonnull 10, 3) := by decide +kernel
theorem V.dX0_module_142 : decode cX0_module 142 = .ok (.aload_n 0, 1) := by decide +kernel
theorem V.dX0_module_143 : decode cX0_module 143 = .ok (.getfield 93, 3) := by decide +kernel
theorem V.dX0_module_146 : decode cX0_module 146 = .ok (.goto 4, 3) := by decide +kernel
theorem V.dX0_module_149 : decode cX0_module 149 = .ok (.aload_n 2, 1) := by decide +kernel
theorem V.dX0_module_150 : decode cX0_module 150 = .ok (.putfield 93, 3) := by decide +kernel
theorem V.dX0_module_153 : decode cX0_module 153 = .ok (.iconst (-1), 1) := by decide +kernel
theorem V.dX0_module_154 : decode cX0_module 154 = .ok (.ireturn, 1) := by decide +kernel
theorem V.dX0_module_155 : decode cX0_module 155 = .ok (.aload_n 0, 1) := by decide +kernel
theorem V.dX0_module_156 : decode cX0_module 156 = .ok (.getfield 56, 3) := by decide +kernel
theorem V.dX0_module_159 : decode cX0_module 159 = .ok (.aload_n 2, 1) := by decide +kernel
theorem V.dX0_module_160 : decode cX0_module 160 = .ok (.iload_n 3, 1) := by decide +kernel
theorem V.dX0_module_161 : decode cX0_module 161 = .ok (.invokevirtual 115, 3) := by decide +kernel
theorem V.dX0_module_164 : decode cX0_module 164 = .ok (.aload_n 0, 1) := by decide +kernel
theorem V.dX0_module_165 : decode cX0_module 165 = .ok (.getfield 56, 3) := by decide +kernel
theorem V.dX0_module_168 : decode cX0_module 168 = .ok (.getfield 90, 3) := by decide +kernel
theorem V.dX0_module_171 : decode cX0_module 171 = .ok (.iconst 1, 1) := by decide +kernel
theorem V.dX0_module_172 : decode cX0_module 172 = .ok (.isub, 1) := by decide +kernel
theorem V.dX0_module_173 : decode cX0_module 173 = .ok (.ireturn, 1) := by decide +kernel
theorem V.fdX0_87 : FD RX0 87 1 2 0 := ⟨(RX1, TX1, 10), tyX1, rfl, rfl, in_X1, by decide, Or.inr ⟨_, q540⟩, rfl⟩
theorem V.fdX0_90 : FD RX0 90 13 2 0 := ⟨(RX13, TX13, 27), tyX13, rfl, rfl, in_X13, by decide, Or.inr ⟨_, q1017⟩, rfl⟩
theorem V.fdX0_93 : FD RX0 93 0 8 2 := ⟨(RX0, TX0, 13), tyX0, rfl, rfl, in_X0, by decide, Or.inl q1220, rfl⟩
theorem V.mdX0_97 : MDW RX0 97 yX1_read cX1_read 4 (some (.object "ModuleEngine$Module")) [(37, 41, 44, 65)] 2 := ⟨q1271, q361, q1274, by decide, by decide, by decide +kernel⟩
theorem V.fpX0_93 {nm : String} : FP RX0 nm 93 0 8 (.object "ModuleEngine$Module") := ⟨(RX0, TX0, 13), tyX0, rfl, rfl, in_X0, by decide, tyX0_ok, nmX0, rfl, Or.inl ⟨rfl, Or.inl q1220⟩⟩
theorem V.mdX0_101 : MD RX0 101 yX6_many cX6_many 1 (some .int) 0 := ⟨Or.inl q1526, q366, q1529, by decide, by decide, by decide +kernel⟩
theorem V.fdX0_49 : FD RX0 49 0 4 2 := ⟨(RX0, TX0, 13), tyX0, rfl, rfl, in_X0, by decide, Or.inl q1216, rfl⟩
theorem V.mdX0_105 : MDW RX0 105 yX8_load cX8_load 3 (some .boolean) [(34, 38, 41, 50)] 1 := ⟨q1531, q368, q1534, by decide, by decide, by decide +kernel⟩
theorem V.mdX0_110 : MD RX0 110 yX8_fault cX8_fault 1 (some .int) 0 := ⟨Or.inl q2132, q368, q2135, by decide, by decide, by decide +kernel⟩
theorem V.fdX0_109 : FD RX0 109 1 4 0 := ⟨(RX1, TX1, 10), tyX1, rfl, rfl, in_X1, by decide, Or.inr ⟨_, q542⟩, rfl⟩
theorem V.mdX0_113 : MD RX0 113 yX8_place cX8_place 1 (some .int) 0 := ⟨Or.inl q2136, q368, q2139, by decide, by decide, by decide +kernel⟩
theorem V.fdX0_112 : FD RX0 112 1 5 0 := ⟨(RX1, TX1, 10), tyX1, rfl, rfl, in_X1, by decide, Or.inr ⟨_, q545⟩, rfl⟩
theorem V.mdX0_115 : MD RX0 115 yX13_add cX13_add 3 none 2 := ⟨Or.inl q2140, q373, q2143, by decide, by decide, by decide +kernel⟩
/-! ModuleEngine.module(I)I -/
def V.Eng_module_p150  (σ : HS) (s0 : Nat) (s1 : Nat) : Option (Int32 × HS) :=
  ck (tg σ s1 = 1) <| bn (sR σ s1 8 s0) fun σ1 =>
  some ((-1 : Int32), σ1)
theorem V.gX0_module_p150 {X : CX}  (σ : HS) (s0 : Nat) (s1 : Nat) : G X RX0 "module" cX0_module 5 (some .int) 20 411 enI 150 [] [av s0, av s1] σ (Eng_module_p150 σ s0 s1) := by
  unfold Eng_module_p150
  refine g_putR fpX0_93 rfl dX0_module_150 (fun σ1 => ?_)
  refine g_iconst (v := (-1)) dX0_module_153 (by decide) ?_
  exact g_ireturn rfl dX0_module_154
def V.Eng_module_p129  (σ : HS) (x0 : Nat) (x2 : Nat) (x3 : Int32) (x4 : Int32) (s0 : Int32) (s1 : Nat) : Option (Int32 × HS) :=
  ck (tg σ s1 = 1) <| bn (sI σ s1 12 s0) fun σ1 =>
  if x4 = 0 then (
    if x2 = 0 then (
      ck (tg σ1 x0 = 1) <|
      Eng_module_p150 σ1 (gR σ1 x0 8) x0)
    else (
      Eng_module_p150 σ1 x2 x0))
  else (
    ck (tg σ1 x0 = 1) <|
    ck (tg σ1 (gR σ1 x0 5) = 14) <| cl (Sto_add σ1 (gR σ1 x0 5) x2 x3) fun _ σ2 =>
    ck (tg σ2 x0 = 1) <|
    ck (tg σ2 (gR σ2 x0 5) = 14) <|
    some ((gI σ2 (gR σ2 x0 5) 2) - (1 : Int32), σ2))
theorem V.gX0_module_p129 {X : CX}  (σ : HS) (x0 : Nat) (x2 : Nat) (x3 : Int32) (x4 : Int32) (s0 : Int32) (s1 : Nat) : G X RX0 "module" cX0_module 5 (some .int) 20 411 enI 129 [(0, av x0), (2, av x2), (3, iv x3), (4, iv x4)] [iv s0, av s1] σ (Eng_module_p129 σ x0 x2 x3 x4 s0 s1) := by
  unfold Eng_module_p129
  refine g_putI fpX0_77 dX0_module_129 (fun σ1 => ?_)
  refine g_iload 3 dX0_module_132 rfl ?_
  refine g_if_ne 155 dX0_module_134 (by decide) ?_ ?_
  · refine g_aload_n 0 0 dX0_module_155 rfl rfl ?_
    refine g_getR fdX0_56 dX0_module_156 ?_
    refine g_aload_n 2 1 dX0_module_159 rfl rfl ?_
    refine g_iload_n 3 2 dX0_module_160 rfl rfl ?_
    refine g_callV (fc := fun sς => Sto_add sς (gR σ1 x0 5) x2 x3) (ci := 13) (as := [av x2, iv x3]) rfl rfl rfl q2141 q2142 mdX0_115 (ctX13_add (gR σ1 x0 5) x2 x3) rfl (Nat.le_of_ble_eq_true rfl) (Nat.le_of_ble_eq_true rfl) (Nat.le_of_ble_eq_true rfl) pu_V dX0_module_161 (fun _ σ2 => ?_)
    refine g_aload_n 0 0 dX0_module_164 rfl rfl ?_
    refine g_getR fdX0_56 dX0_module_165 ?_
    refine g_getI fdX0_90 dX0_module_168 ?_
    refine g_iconst (v := 1) dX0_module_171 (by decide) ?_
    refine g_isub dX0_module_172 ?_
    exact g_ireturn rfl dX0_module_173
  · refine g_aload_n 0 0 dX0_module_137 rfl rfl ?_
    refine g_aload_n 2 1 dX0_module_138 rfl rfl ?_
    refine g_ifnonnull 149 dX0_module_139 (by decide) ?_ ?_
    · refine g_aload_n 2 1 dX0_module_149 rfl rfl ?_
      refine G.sub [] rfl ?_
      exact gX0_module_p150 _ _ _
    · refine g_aload_n 0 0 dX0_module_142 rfl rfl ?_
      refine g_getR fdX0_93 dX0_module_143 ?_
      refine g_goto 150 dX0_module_146 (by decide) ?_
      refine G.sub [] rfl ?_
      exact gX0_module_p150 _ _ _
def V.Eng_module_p104  (σ : HS) (x0 : Nat) (x2 : Nat) (x3 : Int32) (x4 : Int32) (s0 : Int32) (s1 : Nat) : Option (Int32 × HS) :=
  ck (tg σ s1 = 1) <| bn (sI σ s1 11 s0) fun σ1 =>
  if x2 = 0 then (
    ck (tg σ1 x0 = 1) <|
    ck (tg σ1 (gR σ1 x0 0) = 2) <|
    Eng_module_p129 σ1 x0 x2 x3 x4 (gI σ1 (gR σ1 x0 0) 5) x0)
  else (
    ck (tg σ1 x0 = 1) <|
    ck (tg σ1 (gR σ1 x0 4) = 9) <| cl (Ldr_place σ1 (gR σ1 x0 4) ) fun r3 σ2 =>
    Eng_module_p129 σ2 x0 x2 x3 x4 r3 x0)
theorem V.gX0_module_p104 {X : CX}  (σ : HS) (x0 : Nat) (x2 : Nat) (x3 : Int32) (x4 : Int32) (s0 : Int32) (s1 : Nat) : G X RX0 "module" cX0_module 5 (some .int) 20 411 enI 104 [(0, av x0), (2, av x2), (3, iv x3), (4, iv x4)] [iv s0, av s1] σ (Eng_module_p104 σ x0 x2 x3 x4 s0 s1) := by
  unfold Eng_module_p104
  refine g_putI fpX0_73 dX0_module_104 (fun σ1 => ?_)
  refine g_aload_n 0 0 dX0_module_107 rfl rfl ?_
  refine g_aload_n 2 1 dX0_module_108 rfl rfl ?_
  refine g_ifnonnull 122 dX0_module_109 (by decide) ?_ ?_
  · refine g_aload_n 0 0 dX0_module_122 rfl rfl ?_
    refine g_getR fdX0_49 dX0_module_123 ?_
    refine g_callV (fc := fun sς => Ldr_place sς (gR σ1 x0 4) ) (ci := 8) (as := []) rfl rfl rfl q2137 q2138 mdX0_113 (ctX8_place (gR σ1 x0 4) ) rfl (Nat.le_of_ble_eq_true rfl) (Nat.le_of_ble_eq_true rfl) (Nat.le_of_ble_eq_true rfl) pu_I dX0_module_126 (fun r3 σ2 => ?_)
    exact gX0_module_p129 _ _ _ _ _ _ _
  · refine g_aload_n 0 0 dX0_module_112 rfl rfl ?_
    refine g_getR fdX0_15 dX0_module_113 ?_
    refine g_getI fdX0_112 dX0_module_116 ?_
    refine g_goto 129 dX0_module_119 (by decide) ?_
    exact gX0_module_p129 _ _ _ _ _ _ _
def V.Eng_module_p80  (σ : HS) (x0 : Nat) (x2 : Nat) (x3 : Int32) (s0 : Int32) : Option (Int32 × HS) :=
  if x2 = 0 then (
    ck (tg σ x0 = 1) <|
    ck (tg σ (gR σ x0 0) = 2) <|
    Eng_module_p104 σ x0 x2 x3 s0 (gI σ (gR σ x0 0) 4) x0)
  else (
    ck (tg σ x0 = 1) <|
    ck (tg σ (gR σ x0 4) = 9) <| cl (Ldr_fault σ (gR σ x0 4) ) fun r2 σ1 =>
    Eng_module_p104 σ1 x0 x2 x3 s0 r2 x0)
theorem V.gX0_module_p80 {X : CX}  (σ : HS) (x0 : Nat) (x2 : Nat) (x3 : Int32) (s0 : Int32) : G X RX0 "module" cX0_module 5 (some .int) 20 411 enI 80 [(0, av x0), (2, av x2), (3, iv x3)] [iv s0] σ (Eng_module_p80 σ x0 x2 x3 s0) := by
  unfold Eng_module_p80
  refine g_istore dX0_module_80 (by decide) rfl ?_
  refine g_aload_n 0 1 dX0_module_82 rfl rfl ?_
  refine g_aload_n 2 2 dX0_module_83 rfl rfl ?_
  refine g_ifnonnull 97 dX0_module_84 (by decide) ?_ ?_
  · refine g_aload_n 0 1 dX0_module_97 rfl rfl ?_
    refine g_getR fdX0_49 dX0_module_98 ?_
    refine g_callV (fc := fun sς => Ldr_fault sς (gR σ x0 4) ) (ci := 8) (as := []) rfl rfl rfl q2133 q2134 mdX0_110 (ctX8_fault (gR σ x0 4) ) rfl (Nat.le_of_ble_eq_true rfl) (Nat.le_of_ble_eq_true rfl) (Nat.le_of_ble_eq_true rfl) pu_I dX0_module_101 (fun r2 σ1 => ?_)
    refine G.sub [1, 2, 3, 0] rfl ?_
    exact gX0_module_p104 _ _ _ _ _ _ _
  · refine g_aload_n 0 1 dX0_module_87 rfl rfl ?_
    refine g_getR fdX0_15 dX0_module_88 ?_
    refine g_getI fdX0_109 dX0_module_91 ?_
    refine g_goto 104 dX0_module_94 (by decide) ?_
    refine G.sub [1, 2, 3, 0] rfl ?_
    exact gX0_module_p104 _ _ _ _ _ _ _
def V.Eng_module_p79  (σ : HS) (x0 : Nat) (x2 : Nat) (x3 : Int32) : Option (Int32 × HS) :=
  Eng_module_p80 σ x0 x2 x3 (0 : Int32)
theorem V.gX0_module_p79 {X : CX}  (σ : HS) (x0 : Nat) (x2 : Nat) (x3 : Int32) : G X RX0 "module" cX0_module 5 (some .int) 20 411 enI 79 [(0, av x0), (2, av x2), (3, iv x3)] [] σ (Eng_module_p79 σ x0 x2 x3) := by
  unfold Eng_module_p79
  refine g_iconst (v := 0) dX0_module_79 (by decide) ?_
  exact gX0_module_p80 _ _ _ _ _
def V.Eng_module_p52  (σ : HS) (x0 : Nat) (x2 : Nat) : Option (Int32 × HS) :=
  ck (tg σ x0 = 1) <|
  ck (tg σ (gR σ x0 2) = 7) <| cl (Flt_many σ (gR σ x0 2) ) fun r2 σ1 =>
  if x2 = 0 then (
    Eng_module_p79 σ1 x0 x2 r2)
  else (
    ck (tg σ1 x0 = 1) <|
    ck (tg σ1 (gR σ1 x0 4) = 9) <| cl (Ldr_load σ1 (gR σ1 x0 4) x2) fun r4 σ3 =>
    if r4 = 0 then (
      Eng_module_p79 σ3 x0 x2 r2)
    else (
      Eng_module_p80 σ3 x0 x2 r2 (1 : Int32)))
theorem V.gX0_module_p52 {X : CX}  (σ : HS) (x0 : Nat) (x2 : Nat) : G X RX0 "module" cX0_module 5 (some .int) 20 411 enI 52 [(0, av x0), (2, av x2)] [] σ (Eng_module_p52 σ x0 x2) := by
  unfold Eng_module_p52
  refine g_aload_n 0 0 dX0_module_52 rfl rfl ?_
  refine g_getR fdX0_31 dX0_module_53 ?_
  refine g_callV (fc := fun sς => Flt_many sς (gR σ x0 2) ) (ci := 6) (as := []) rfl rfl rfl q1527 q1528 mdX0_101 (ctX6_many (gR σ x0 2) ) rfl (Nat.le_of_ble_eq_true rfl) (Nat.le_of_ble_eq_true rfl) (Nat.le_of_ble_eq_true rfl) pu_I dX0_module_56 (fun r2 σ1 => ?_)
  refine g_istore_n 3 dX0_module_59 rfl (by decide) rfl ?_
  refine g_aload_n 2 2 dX0_module_60 rfl rfl ?_
  refine g_ifnull 79 dX0_module_61 (by decide) ?_ ?_
  · refine G.sub [1, 2, 0] rfl ?_
    exact gX0_module_p79 _ _ _ _
  · refine g_aload_n 0 1 dX0_module_64 rfl rfl ?_
    refine g_getR fdX0_49 dX0_module_65 ?_
    refine g_aload_n 2 2 dX0_module_68 rfl rfl ?_
    refine g_callVW (fc := fun sς => Ldr_load sς (gR σ1 x0 4) x2) (ci := 8) (as := [av x2]) rfl rfl q1532 q1533 mdX0_105 (ctX8_load (gR σ1 x0 4) x2) rfl (Nat.le_of_ble_eq_true rfl) (Nat.le_of_ble_eq_true rfl) (Nat.le_of_ble_eq_true rfl) pu_I dX0_module_69 (fun r4 σ3 => ?_)
    refine g_if_eq 79 dX0_module_72 (by decide) ?_ ?_
    · refine G.sub [1, 2, 0] rfl ?_
      exact gX0_module_p79 _ _ _ _
    · refine g_iconst (v := 1) dX0_module_75 (by decide) ?_
      refine g_goto 80 dX0_module_76 (by decide) ?_
      refine G.sub [1, 2, 0] rfl ?_
      exact gX0_module_p80 _ _ _ _ _
def V.Eng_module (σ : HS) (x0 : Nat) (x1 : Int32) : Option (Int32 × HS) :=
  if x1 < 0 then (
    some ((-2 : Int32), σ))
  else (
    ck (tg σ x0 = 1) <|
    ck (tg σ (gR σ x0 0) = 2) <|
    if (gI σ (gR σ x0 0) 2) < x1 then (
      some ((-2 : Int32), σ))
    else (
      ck (tg σ x0 = 1) <|
      ck (tg σ (gR σ x0 5) = 14) <|
      if (gI σ (gR σ x0 5) 2) = (16 : Int32) then (
        some ((-2 : Int32), σ))
      else (
        ck (tg σ x0 = 1) <|
        ck (tg σ x0 = 1) <|
        ck (tg σ (gR σ x0 0) = 2) <| cl (Byt_read σ (gR σ x0 0) x1 (gR σ x0 8)) fun r2 σ1 =>
        if r2 = 0 then (
          Eng_module_p52 σ1 x0 r2)
        else (
          ck (tg σ1 x0 = 1) <| bn (sR σ1 x0 8 0) fun σ3 =>
          Eng_module_p52 σ3 x0 r2))))
theorem V.ctX0_module (x0 : Nat) (x1 : Int32) : Ct yX0_module  cX0_module 5 (some .int) 20 411 eI [av x0, iv x1] (fun σ => Eng_module σ x0 x1) := by
  refine Ct.of (own := RX0) (nm := "module") (desc := "(I)I") rfl (by decide) (Nat.le_of_ble_eq_true rfl) (by decide) (fun X σ => ?_)
  show G X RX0 "module" cX0_module 5 (some .int) 20 411 enI 0 [(0, av x0), (1, iv x1)] [] σ (Eng_module σ x0 x1)
  unfold Eng_module
  refine g_iload_n 1 1 dX0_module_0 rfl rfl ?_
  refine g_if_lt 27 dX0_module_1 (by decide) ?_ ?_
  · refine g_bipush (v := (-2)) dX0_module_27 (by decide) ?_
    exact g_ireturn rfl dX0_module_29
  · refine g_iload_n 1 1 dX0_module_4 rfl rfl ?_
    refine g_aload_n 0 0 dX0_module_5 rfl rfl ?_
    refine g_getR fdX0_15 dX0_module_6 ?_
    refine g_getI fdX0_87 dX0_module_9 ?_
    refine g_icmp_gt 27 dX0_module_12 (by decide) ?_ ?_
    · refine g_bipush (v := (-2)) dX0_module_27 (by decide) ?_
      exact g_ireturn rfl dX0_module_29
    · refine g_aload_n 0 0 dX0_module_15 rfl rfl ?_
      refine g_getR fdX0_56 dX0_module_16 ?_
      refine g_getI fdX0_90 dX0_module_19 ?_
      refine g_bipush (v := 16) dX0_module_22 (by decide) ?_
      refine g_icmp_ne 30 dX0_module_24 (by decide) ?_ ?_
      · refine g_aload_n 0 0 dX0_module_30 rfl rfl ?_
        refine g_getR fdX0_15 dX0_module_31 ?_
        refine g_iload_n 1 1 dX0_module_34 rfl rfl ?_
        refine g_aload_n 0 0 dX0_module_35 rfl rfl ?_
        refine g_getR fdX0_93 dX0_module_36 ?_
        refine g_callVW (fc := fun sς => Byt_read sς (gR σ x0 0) x1 (gR σ x0 8)) (ci := 1) (as := [iv x1, av (gR σ x0 8)]) rfl rfl q1272 q1273 mdX0_97 (ctX1_read (gR σ x0 0) x1 (gR σ x0 8)) rfl (Nat.le_of_ble_eq_true rfl) (Nat.le_of_ble_eq_true rfl) (Nat.le_of_ble_eq_true rfl) pu_R dX0_module_39 (fun r2 σ1 => ?_)
        refine g_astore_n 2 dX0_module_42 rfl (by decide) rfl ?_
        refine g_aload_n 2 0 dX0_module_43 rfl rfl ?_
        refine g_ifnull 52 dX0_module_44 (by decide) ?_ ?_
        · refine G.sub [1, 0] rfl ?_
          exact gX0_module_p52 _ _ _
        · refine g_aload_n 0 1 dX0_module_47 rfl rfl ?_
          refine g_null dX0_module_48 ?_
          refine g_putR fpX0_93 rfl dX0_module_49 (fun σ3 => ?_)
          refine G.sub [1, 0] rfl ?_
          exact gX0_module_p52 _ _ _
      · refine g_bipush (v := (-2)) dX0_module_27 (by decide) ?_
        exact g_ireturn rfl dX0_module_29
theorem V.dX0_fault_0 : decode cX0_fault 0 = .ok (.iload_n 1, 1) := by decide +kernel
theorem V.dX0_fault_1 : decode cX0_fault 1 = .ok (.ifCond .ne 10, 3) := by decide +kernel
theorem V.dX0_fault_4 : decode cX0_fault 4 = .ok (.aload_n 0, 1) := by decide +kernel
theorem V.dX0_fault_5 : decode cX0_fault 5 = .ok (.getfield 73, 3) := by decide +kernel
theorem V.dX0_fault_8 : decode cX0_fault 8 = .ok (.goto 16, 3) := by decide +kernel
theorem V.dX0_fault_11 : decode cX0_fault 11 = .ok (.iload_n 1, 1) := by decide +kernel
theorem V.dX0_fault_12 : decode cX0_fault 12 = .ok (.iconst 1, 1) := by decide +kernel
theorem V.dX0_fault_13 : decode cX0_fault 13 = .ok (.if_icmp .ne 10, 3) := by decide +kernel
theorem V.dX0_fault_16 : decode cX0_fault 16 = .ok (.aload_n 0, 1) := by decide +kernel
theorem V.dX0_fault_17 : decode cX0_fault 17 = .ok (.getfield 77, 3) := by decide +kernel
theorem V.dX0_fault_20 : decode cX0_fault 20 = .ok (.goto 4, 3) := by decide +kernel
theorem V.dX0_fault_23 : decode cX0_fault 23 = .ok (.iconst (-1), 1) := by decide +kernel
theorem V.dX0_fault_24 : decode cX0_fault 24 = .ok (.ireturn, 1) := by decide +kernel
theorem V.fdX0_77 : FD RX0 77 0 12 0 := ⟨(RX0, TX0, 13), tyX0, rfl, rfl, in_X0, by decide, Or.inl q1224, rfl⟩
theorem V.fdX0_73 : FD RX0 73 0 11 0 := ⟨(RX0, TX0, 13), tyX0, rfl, rfl, in_X0, by decide, Or.inl q1223, rfl⟩
/-! ModuleEngine.fault(I)I -/
def V.Eng_fault (σ : HS) (x0 : Nat) (x1 : Int32) : Option (Int32 × HS) :=
  if x1 = 0 then (
    ck (tg σ x0 = 1) <|
    some (gI σ x0 11, σ))
  else (
    if x1 = (1 : Int32) then (
      ck (tg σ x0 = 1) <|
      some (gI σ x0 12, σ))
    else (
      some ((-1 : Int32), σ)))
theorem V.ctX0_fault (x0 : Nat) (x1 : Int32) : Ct yX0_fault  cX0_fault 2 (some .int) 0 0 eI [av x0, iv x1] (fun σ => Eng_fault σ x0 x1) := by
  refine Ct.of (own := RX0) (nm := "fault") (desc := "(I)I") rfl (by decide) (Nat.le_of_ble_eq_true rfl) (by decide) (fun X σ => ?_)
  show G X RX0 "fault" cX0_fault 2 (some .int) 0 0 enI 0 [(0, av x0), (1, iv x1)] [] σ (Eng_fault σ x0 x1)
  unfold Eng_fault
  refine g_iload_n 1 1 dX0_fault_0 rfl rfl ?_
  refine g_if_ne 11 dX0_fault_1 (by decide) ?_ ?_
  · refine g_iload_n 1 1 dX0_fault_11 rfl rfl ?_
    refine g_iconst (v := 1) dX0_fault_12 (by decide) ?_
    refine g_icmp_ne 23 dX0_fault_13 (by decide) ?_ ?_
    · refine g_iconst (v := (-1)) dX0_fault_23 (by decide) ?_
      exact g_ireturn rfl dX0_fault_24
    · refine g_aload_n 0 0 dX0_fault_16 rfl rfl ?_
      refine g_getI fdX0_77 dX0_fault_17 ?_
      refine g_goto 24 dX0_fault_20 (by decide) ?_
      exact g_ireturn rfl dX0_fault_24
  · refine g_aload_n 0 0 dX0_fault_4 rfl rfl ?_
    refine g_getI fdX0_73 dX0_fault_5 ?_
    refine g_goto 24 dX0_fault_8 (by decide) ?_
    exact g_ireturn rfl dX0_fault_24
theorem V.dX0_offer_0 : decode cX0_offer 0 = .ok (.aload_n 0, 1) := by decide +kernel
theorem V.dX0_offer_1 : decode cX0_offer 1 = .ok (.getfield 56, 3) := by decide +kernel
theorem V.dX0_offer_4 : decode cX0_offer 4 = .ok (.iload_n 1, 1) := by decide +kernel
theorem V.dX0_offer_5 : decode cX0_offer 5 = .ok (.iload_n 2, 1) := by decide +kernel
theorem V.dX0_offer_6 : decode cX0_offer 6 = .ok (.invokevirtual 119, 3) := by decide +kernel
theorem V.dX0_offer_9 : decode cX0_offer 9 = .ok (.ireturn, 1) := by decide +kernel
theorem V.mdX0_119 : MD RX0 119 yX13_offer cX13_offer 4 (some .int) 2 := ⟨Or.inl q2154, q373, q2157, by decide, by decide, by decide +kernel⟩
/-! ModuleEngine.offer(II)I -/
def V.Eng_offer (σ : HS) (x0 : Nat) (x1 : Int32) (x2 : Int32) : Option (Int32 × HS) :=
  ck (tg σ x0 = 1) <|
  ck (tg σ (gR σ x0 5) = 14) <| cl (Sto_offer σ (gR σ x0 5) x1 x2) fun r2 σ1 =>
  some (r2, σ1)
theorem V.ctX0_offer (x0 : Nat) (x1 : Int32) (x2 : Int32) : Ct yX0_offer  cX0_offer 3 (some .int) 4 90 eI [av x0, iv x1, iv x2] (fun σ => Eng_offer σ x0 x1 x2) := by
  refine Ct.of (own := RX0) (nm := "offer") (desc := "(II)I") rfl (by decide) (Nat.le_of_ble_eq_true rfl) (by decide) (fun X σ => ?_)
  show G X RX0 "offer" cX0_offer 3 (some .int) 4 90 enI 0 [(0, av x0), (1, iv x1), (2, iv x2)] [] σ (Eng_offer σ x0 x1 x2)
  unfold Eng_offer
  refine g_aload_n 0 0 dX0_offer_0 rfl rfl ?_
  refine g_getR fdX0_56 dX0_offer_1 ?_
  refine g_iload_n 1 1 dX0_offer_4 rfl rfl ?_
  refine g_iload_n 2 2 dX0_offer_5 rfl rfl ?_
  refine g_callV (fc := fun sς => Sto_offer sς (gR σ x0 5) x1 x2) (ci := 13) (as := [iv x1, iv x2]) rfl rfl rfl q2155 q2156 mdX0_119 (ctX13_offer (gR σ x0 5) x1 x2) rfl (Nat.le_of_ble_eq_true rfl) (Nat.le_of_ble_eq_true rfl) (Nat.le_of_ble_eq_true rfl) pu_I dX0_offer_6 (fun r2 σ1 => ?_)
  exact g_ireturn rfl dX0_offer_9
theorem V.dX0_make_0 : decode cX0_make 0 = .ok (.iload_n 1, 1) := by decide +kernel
theorem V.dX0_make_1 : decode cX0_make 1 = .ok (.ifCond .lt 14, 3) := by decide +kernel
theorem V.dX0_make_4 : decode cX0_make 4 = .ok (.iload_n 1, 1) := by decide +kernel
theorem V.dX0_make_5 : decode cX0_make 5 = .ok (.aload_n 0, 1) := by decide +kernel
theorem V.dX0_make_6 : decode cX0_make 6 = .ok (.getfield 56, 3) := by decide +kernel
theorem V.dX0_make_9 : decode cX0_make 9 = .ok (.getfield 90, 3) := by decide +kernel
theorem V.dX0_make_12 : decode cX0_make 12 = .ok (.if_icmp .lt 5, 3) := by decide +kernel
theorem V.dX0_make_15 : decode cX0_make 15 = .ok (.iconst (-1), 1) := by decide +kernel
theorem V.dX0_make_16 : decode cX0_make 16 = .ok (.ireturn, 1) := by decide +kernel
theorem V.dX0_make_17 : decode cX0_make 17 = .ok (.aload_n 0, 1) := by decide +kernel
theorem V.dX0_make_18 : decode cX0_make 18 = .ok (.getfield 65, 3) := by decide +kernel
theorem V.dX0_make_21 : decode cX0_make 21 = .ok (.invokevirtual 123, 3) := by decide +kernel
theorem V.dX0_make_24 : decode cX0_make 24 = .ok (.ifCond .eq 6, 3) := by decide +kernel
theorem V.dX0_make_27 : decode cX0_make 27 = .ok (.bipush (-10), 2) := by decide +kernel
theorem V.dX0_make_29 : decode cX0_make 29 = .ok (.ireturn, 1) := by decide +kernel
theorem V.dX0_make_30 : decode cX0_make 30 = .ok (.aload_n 0, 1) := by decide +kernel
theorem V.dX0_make_31 : decode cX0_make 31 = .ok (.getfield 56, 3) := by decide +kernel
theorem V.dX0_make_34 : decode cX0_make 34 = .ok (.iload_n 1, 1) := by decide +kernel
theorem V.dX0_make_35 : decode cX0_make 35 = .ok (.invokevirtual 127, 3) := by decide +kernel
theorem V.dX0_make_38 : decode cX0_make 38 = .ok (.istore_n 2, 1) := by decide +kernel
theorem V.dX0_make_39 : decode cX0_make 39 = .ok (.iload_n 2, 1) := by decide +kernel
theorem V.dX0_make_40 : decode cX0_make 40 = .ok (.ifCond .ge 5, 3) := by decide +kernel
theorem V.dX0_make_43 : decode cX0_make 43 = .ok (.iload_n 2, 1) := by decide +kernel
theorem V.dX0_make_44 : decode cX0_make 44 = .ok (.ireturn, 1) := by decide +kernel
theorem V.dX0_make_45 : decode cX0_make 45 = .ok (.aload_n 0, 1) := by decide +kernel
theorem V.dX0_make_46 : decode cX0_make 46 = .ok (.getfield 56, 3) := by decide +kernel
theorem V.dX0_make_49 : decode cX0_make 49 = .ok (.iload_n 2, 1) := by decide +kernel
theorem V.dX0_make_50 : decode cX0_make 50 = .ok (.invokevirtual 130, 3) := by decide +kernel
theorem V.dX0_make_53 : decode cX0_make 53 = .ok (.istore_n 3, 1) := by decide +kernel
theorem V.dX0_make_54 : decode cX0_make 54 = .ok (.aload_n 0, 1) := by decide +kernel
theorem V.dX0_make_55 : decode cX0_make 55 = .ok (.getfield 56, 3) := by decide +kernel
theorem V.dX0_make_58 : decode cX0_make 58 = .ok (.iload_n 2, 1) := by decide +kernel
theorem V.dX0_make_59 : decode cX0_make 59 = .ok (.invokevirtual 133, 3) := by decide +kernel
theorem V.dX0_make_62 : decode cX0_make 62 = .ok (.istore 4, 2) := by decide +kernel
theorem V.dX0_make_64 : decode cX0_make 64 = .ok (.iload_n 3, 1) := by decide +kernel
theorem V.dX0_make_65 : decode cX0_make 65 = .ok (.ifCond .le 21, 3) := by decide +kernel
theorem V.dX0_make_68 : decode cX0_make 68 = .ok (.aload_n 0, 1) := by decide +kernel
theorem V.dX0_make_69 : decode cX0_make 69 = .ok (.getfield 65, 3) := by decide +kernel
theorem V.dX0_make_72 : decode cX0_make 72 = .ok (.invokevirtual 136, 3) := by decide +kernel
theorem V.dX0_make_75 : decode cX0_make 75 = .ok (.aload_n 0, 1) := by decide +kernel
theorem V.dX0_make_76 : decode cX0_make 76 = .ok (.getfield 65, 3) := by decide +kernel
theorem V.dX0_make_79 : decode cX0_make 79 = .ok (.iload_n 3, 1) := by decide +kernel
theorem V.dX0_make_80 : decode cX0_make 80 = .ok (.invokevirtual 139, 3) := by decide +kernel
theorem V.dX0_make_83 : decode cX0_make 83 = .ok (.goto 21, 3) := by decide +kernel
theorem V.dX0_make_86 : decode cX0_make 86 = .ok (.iload 4, 2) := by decide +kernel
theorem V.dX0_make_88 : decode cX0_make 88 = .ok (.ifCond .lt 16, 3) := by decide +kernel
theorem V.dX0_make_91 : decode cX0_make 91 = .ok (.aload_n 0, 1) := by decide +kernel
theorem V.dX0_make_92 : decode cX0_make 92 = .ok (.getfield 65, 3) := by decide +kernel
theorem V.dX0_make_95 : decode cX0_make 95 = .ok (.iload 4, 2) := by decide +kernel
theorem V.dX0_make_97 : decode cX0_make 97 = .ok (.aload_n 0, 1) := by decide +kernel
theorem V.dX0_make_98 : decode cX0_make 98 = .ok (.getfield 69, 3) := by decide +kernel
theorem V.dX0_make_101 : decode cX0_make 101 = .ok (.invokevirtual 142, 3) := by decide +kernel
theorem V.dX0_make_104 : decode cX0_make 104 = .ok (.iload_n 2, 1) := by decide +kernel
theorem V.dX0_make_105 : decode cX0_make 105 = .ok (.ireturn, 1) := by decide +kernel
theorem V.fdX0_65 : FD RX0 65 0 6 2 := ⟨(RX0, TX0, 13), tyX0, rfl, rfl, in_X0, by decide, Or.inl q1218, rfl⟩
theorem V.mdX0_123 : MD RX0 123 yX16_isBusy cX16_isBusy 1 (some .boolean) 0 := ⟨Or.inl q2185, q376, q2188, by decide, by decide, by decide +kernel⟩
theorem V.mdX0_127 : MD RX0 127 yX13_make cX13_make 7 (some .int) 1 := ⟨Or.inl q2189, q373, q2192, by decide, by decide, by decide +kernel⟩
theorem V.mdX0_130 : MD RX0 130 yX13_begin cX13_begin 6 (some .int) 1 := ⟨Or.inl q2318, q373, q2321, by decide, by decide, by decide +kernel⟩
theorem V.mdX0_133 : MD RX0 133 yX13_startOf cX13_startOf 3 (some .int) 1 := ⟨Or.inl q2355, q373, q2358, by decide, by decide, by decide +kernel⟩
theorem V.fdX0_69 : FD RX0 69 0 7 2 := ⟨(RX0, TX0, 13), tyX0, rfl, rfl, in_X0, by decide, Or.inl q1219, rfl⟩
theorem V.mdX0_142 : MD RX0 142 yX16_begin cX16_begin 4 none 2 := ⟨Or.inl q2367, q376, q2370, by decide, by decide, by decide +kernel⟩
theorem V.mdX0_136 : MD RX0 136 yX16_clear cX16_clear 1 none 0 := ⟨Or.inl q2359, q376, q2362, by decide, by decide, by decide +kernel⟩
theorem V.mdX0_139 : MD RX0 139 yX16_stop cX16_stop 2 none 1 := ⟨Or.inl q2363, q376, q2366, by decide, by decide, by decide +kernel⟩
/-! ModuleEngine.make(I)I -/
def V.Eng_make (σ : HS) (x0 : Nat) (x1 : Int32) : Option (Int32 × HS) :=
  if x1 < 0 then (
    some ((-1 : Int32), σ))
  else (
    ck (tg σ x0 = 1) <|
    ck (tg σ (gR σ x0 5) = 14) <|
    if x1 < (gI σ (gR σ x0 5) 2) then (
      ck (tg σ x0 = 1) <|
      ck (tg σ (gR σ x0 6) = 17) <| cl (Run_isBusy σ (gR σ x0 6) ) fun r2 σ1 =>
      if r2 = 0 then (
        ck (tg σ1 x0 = 1) <|
        ck (tg σ1 (gR σ1 x0 5) = 14) <| cl (Sto_make σ1 (gR σ1 x0 5) x1) fun r4 σ3 =>
        if 0 ≤ r4 then (
          ck (tg σ3 x0 = 1) <|
          ck (tg σ3 (gR σ3 x0 5) = 14) <| cl (Sto_begin σ3 (gR σ3 x0 5) r4) fun r6 σ5 =>
          ck (tg σ5 x0 = 1) <|
          ck (tg σ5 (gR σ5 x0 5) = 14) <| cl (Sto_startOf σ5 (gR σ5 x0 5) r4) fun r8 σ7 =>
          if r6 ≤ 0 then (
            if r8 < 0 then (
              some (r4, σ7))
            else (
              ck (tg σ7 x0 = 1) <|
              ck (tg σ7 x0 = 1) <|
              ck (tg σ7 (gR σ7 x0 6) = 17) <| cl (Run_begin σ7 (gR σ7 x0 6) r8 (gR σ7 x0 7)) fun _ σ9 =>
              some (r4, σ9)))
          else (
            ck (tg σ7 x0 = 1) <|
            ck (tg σ7 (gR σ7 x0 6) = 17) <| cl (Run_clear σ7 (gR σ7 x0 6) ) fun _ σ10 =>
            ck (tg σ10 x0 = 1) <|
            ck (tg σ10 (gR σ10 x0 6) = 17) <| cl (Run_stop σ10 (gR σ10 x0 6) r6) fun _ σ11 =>
            some (r4, σ11)))
        else (
          some (r4, σ3)))
      else (
        some ((-10 : Int32), σ1)))
    else (
      some ((-1 : Int32), σ)))
theorem V.ctX0_make (x0 : Nat) (x1 : Int32) : Ct yX0_make  cX0_make 5 (some .int) 19 488 eI [av x0, iv x1] (fun σ => Eng_make σ x0 x1) := by
  refine Ct.of (own := RX0) (nm := "make") (desc := "(I)I") rfl (by decide) (Nat.le_of_ble_eq_true rfl) (by decide) (fun X σ => ?_)
  show G X RX0 "make" cX0_make 5 (some .int) 19 488 enI 0 [(0, av x0), (1, iv x1)] [] σ (Eng_make σ x0 x1)
  unfold Eng_make
  refine g_iload_n 1 1 dX0_make_0 rfl rfl ?_
  refine g_if_lt 15 dX0_make_1 (by decide) ?_ ?_
  · refine g_iconst (v := (-1)) dX0_make_15 (by decide) ?_
    exact g_ireturn rfl dX0_make_16
  · refine g_iload_n 1 1 dX0_make_4 rfl rfl ?_
    refine g_aload_n 0 0 dX0_make_5 rfl rfl ?_
    refine g_getR fdX0_56 dX0_make_6 ?_
    refine g_getI fdX0_90 dX0_make_9 ?_
    refine g_icmp_lt 17 dX0_make_12 (by decide) ?_ ?_
    · refine g_aload_n 0 0 dX0_make_17 rfl rfl ?_
      refine g_getR fdX0_65 dX0_make_18 ?_
      refine g_callV (fc := fun sς => Run_isBusy sς (gR σ x0 6) ) (ci := 16) (as := []) rfl rfl rfl q2186 q2187 mdX0_123 (ctX16_isBusy (gR σ x0 6) ) rfl (Nat.le_of_ble_eq_true rfl) (Nat.le_of_ble_eq_true rfl) (Nat.le_of_ble_eq_true rfl) pu_I dX0_make_21 (fun r2 σ1 => ?_)
      refine g_if_eq 30 dX0_make_24 (by decide) ?_ ?_
      · refine g_aload_n 0 0 dX0_make_30 rfl rfl ?_
        refine g_getR fdX0_56 dX0_make_31 ?_
        refine g_iload_n 1 1 dX0_make_34 rfl rfl ?_
        refine g_callV (fc := fun sς => Sto_make sς (gR σ1 x0 5) x1) (ci := 13) (as := [iv x1]) rfl rfl rfl q2190 q2191 mdX0_127 (ctX13_make (gR σ1 x0 5) x1) rfl (Nat.le_of_ble_eq_true rfl) (Nat.le_of_ble_eq_true rfl) (Nat.le_of_ble_eq_true rfl) pu_I dX0_make_35 (fun r4 σ3 => ?_)
        refine g_istore_n 2 dX0_make_38 rfl (by decide) rfl ?_
        refine g_iload_n 2 0 dX0_make_39 rfl rfl ?_
        refine g_if_ge 45 dX0_make_40 (by decide) ?_ ?_
        · refine g_aload_n 0 1 dX0_make_45 rfl rfl ?_
          refine g_getR fdX0_56 dX0_make_46 ?_
          refine g_iload_n 2 0 dX0_make_49 rfl rfl ?_
          refine g_callV (fc := fun sς => Sto_begin sς (gR σ3 x0 5) r4) (ci := 13) (as := [iv r4]) rfl rfl rfl q2319 q2320 mdX0_130 (ctX13_begin (gR σ3 x0 5) r4) rfl (Nat.le_of_ble_eq_true rfl) (Nat.le_of_ble_eq_true rfl) (Nat.le_of_ble_eq_true rfl) pu_I dX0_make_50 (fun r6 σ5 => ?_)
          refine g_istore_n 3 dX0_make_53 rfl (by decide) rfl ?_
          refine g_aload_n 0 2 dX0_make_54 rfl rfl ?_
          refine g_getR fdX0_56 dX0_make_55 ?_
          refine g_iload_n 2 1 dX0_make_58 rfl rfl ?_
          refine g_callV (fc := fun sς => Sto_startOf sς (gR σ5 x0 5) r4) (ci := 13) (as := [iv r4]) rfl rfl rfl q2356 q2357 mdX0_133 (ctX13_startOf (gR σ5 x0 5) r4) rfl (Nat.le_of_ble_eq_true rfl) (Nat.le_of_ble_eq_true rfl) (Nat.le_of_ble_eq_true rfl) pu_I dX0_make_59 (fun r8 σ7 => ?_)
          refine g_istore dX0_make_62 (by decide) rfl ?_
          refine g_iload_n 3 1 dX0_make_64 rfl rfl ?_
          refine g_if_le 86 dX0_make_65 (by decide) ?_ ?_
          · refine g_iload 0 dX0_make_86 rfl ?_
            refine g_if_lt 104 dX0_make_88 (by decide) ?_ ?_
            · refine g_iload_n 2 2 dX0_make_104 rfl rfl ?_
              exact g_ireturn rfl dX0_make_105
            · refine g_aload_n 0 3 dX0_make_91 rfl rfl ?_
              refine g_getR fdX0_65 dX0_make_92 ?_
              refine g_iload 0 dX0_make_95 rfl ?_
              refine g_aload_n 0 3 dX0_make_97 rfl rfl ?_
              refine g_getR fdX0_69 dX0_make_98 ?_
              refine g_callV (fc := fun sς => Run_begin sς (gR σ7 x0 6) r8 (gR σ7 x0 7)) (ci := 16) (as := [iv r8, av (gR σ7 x0 7)]) rfl rfl rfl q2368 q2369 mdX0_142 (ctX16_begin (gR σ7 x0 6) r8 (gR σ7 x0 7)) rfl (Nat.le_of_ble_eq_true rfl) (Nat.le_of_ble_eq_true rfl) (Nat.le_of_ble_eq_true rfl) pu_V dX0_make_101 (fun _ σ9 => ?_)
              refine g_iload_n 2 2 dX0_make_104 rfl rfl ?_
              exact g_ireturn rfl dX0_make_105
          · refine g_aload_n 0 3 dX0_make_68 rfl rfl ?_
            refine g_getR fdX0_65 dX0_make_69 ?_
            refine g_callV (fc := fun sς => Run_clear sς (gR σ7 x0 6) ) (ci := 16) (as := []) rfl rfl rfl q2360 q2361 mdX0_136 (ctX16_clear (gR σ7 x0 6) ) rfl (Nat.le_of_ble_eq_true rfl) (Nat.le_of_ble_eq_true rfl) (Nat.le_of_ble_eq_true rfl) pu_V dX0_make_72 (fun _ σ10 => ?_)
            refine g_aload_n 0 3 dX0_make_75 rfl rfl ?_
            refine g_getR fdX0_65 dX0_make_76 ?_
            refine g_iload_n 3 1 dX0_make_79 rfl rfl ?_
            refine g_callV (fc := fun sς => Run_stop sς (gR σ10 x0 6) r6) (ci := 16) (as := [iv r6]) rfl rfl rfl q2364 q2365 mdX0_139 (ctX16_stop (gR σ10 x0 6) r6) rfl (Nat.le_of_ble_eq_true rfl) (Nat.le_of_ble_eq_true rfl) (Nat.le_of_ble_eq_true rfl) pu_V dX0_make_80 (fun _ σ11 => ?_)
            refine g_goto 104 dX0_make_83 (by decide) ?_
            refine g_iload_n 2 2 dX0_make_104 rfl rfl ?_
            exact g_ireturn rfl dX0_make_105
        · refine g_iload_n 2 0 dX0_make_43 rfl rfl ?_
          exact g_ireturn rfl dX0_make_44
      · refine g_bipush (v := (-10)) dX0_make_27 (by decide) ?_
        exact g_ireturn rfl dX0_make_29
    · refine g_iconst (v := (-1)) dX0_make_15 (by decide) ?_
      exact g_ireturn rfl dX0_make_16
theorem V.dX0_argument_0 : decode cX0_argument 0 = .ok (.aload_n 0, 1) := by decide +kernel
theorem V.dX0_argument_1 : decode cX0_argument 1 = .ok (.getfield 145, 3) := by decide +kernel
theorem V.dX0_argument_4 : decode cX0_argument 4 = .ok (.bipush 16, 2) := by decide +kernel
theorem V.dX0_argument_6 : decode cX0_argument 6 = .ok (.if_icmp .ne 5, 3) := by decide +kernel
theorem V.dX0_argument_9 : decode cX0_argument 9 = .ok (.iconst (-1), 1) := by decide +kernel
theorem V.dX0_argument_10 : decode cX0_argument 10 = .ok (.ireturn, 1) := by decide +kernel
theorem V.dX0_argument_11 : decode cX0_argument 11 = .ok (.aload_n 0, 1) := by decide +kernel
theorem V.dX0_argument_12 : decode cX0_argument 12 = .ok (.getfield 69, 3) := by decide +kernel
theorem V.dX0_argument_15 : decode cX0_argument 15 = .ok (.aload_n 0, 1) := by decide +kernel
theorem V.dX0_argument_16 : decode cX0_argument 16 = .ok (.getfield 145, 3) := by decide +kernel
theorem V.dX0_argument_19 : decode cX0_argument 19 = .ok (.lload_n 1, 1) := by decide +kernel
theorem V.dX0_argument_20 : decode cX0_argument 20 = .ok (.lastore, 1) := by decide +kernel
theorem V.dX0_argument_21 : decode cX0_argument 21 = .ok (.aload_n 0, 1) := by decide +kernel
theorem V.dX0_argument_22 : decode cX0_argument 22 = .ok (.dup, 1) := by decide +kernel
theorem V.dX0_argument_23 : decode cX0_argument 23 = .ok (.getfield 145, 3) := by decide +kernel
theorem V.dX0_argument_26 : decode cX0_argument 26 = .ok (.iconst 1, 1) := by decide +kernel
theorem V.dX0_argument_27 : decode cX0_argument 27 = .ok (.iadd, 1) := by decide +kernel
theorem V.dX0_argument_28 : decode cX0_argument 28 = .ok (.putfield 145, 3) := by decide +kernel
theorem V.dX0_argument_31 : decode cX0_argument 31 = .ok (.aload_n 0, 1) := by decide +kernel
theorem V.dX0_argument_32 : decode cX0_argument 32 = .ok (.getfield 145, 3) := by decide +kernel
theorem V.dX0_argument_35 : decode cX0_argument 35 = .ok (.ireturn, 1) := by decide +kernel
theorem V.fdX0_145 : FD RX0 145 0 9 0 := ⟨(RX0, TX0, 13), tyX0, rfl, rfl, in_X0, by decide, Or.inl q1221, rfl⟩
theorem V.fpX0_145 {nm : String} : FP RX0 nm 145 0 9 (.int) := ⟨(RX0, TX0, 13), tyX0, rfl, rfl, in_X0, by decide, tyX0_ok, nmX0, rfl, Or.inl ⟨rfl, Or.inl q1221⟩⟩
/-! ModuleEngine.argument(J)I -/
def V.Eng_argument (σ : HS) (x0 : Nat) (x1 : Int64) : Option (Int32 × HS) :=
  ck (tg σ x0 = 1) <|
  if (gI σ x0 9) = (16 : Int32) then (
    some ((-1 : Int32), σ))
  else (
    ck (tg σ x0 = 1) <|
    ck (tg σ x0 = 1) <|
    ck (tg σ (gR σ x0 7) = 101 ∧ inb (gI σ x0 9) (ln σ (gR σ x0 7))) <| bn (sJ σ (gR σ x0 7) (ix (gI σ x0 9)) x1) fun σ1 =>
    ck (tg σ1 x0 = 1) <|
    ck (tg σ1 x0 = 1) <| bn (sI σ1 x0 9 ((gI σ1 x0 9) + (1 : Int32))) fun σ2 =>
    ck (tg σ2 x0 = 1) <|
    some (gI σ2 x0 9, σ2))
theorem V.ctX0_argument (x0 : Nat) (x1 : Int64) : Ct yX0_argument  cX0_argument 3 (some .int) 0 0 eI [av x0, jv x1] (fun σ => Eng_argument σ x0 x1) := by
  refine Ct.of (own := RX0) (nm := "argument") (desc := "(J)I") rfl (by decide) (Nat.le_of_ble_eq_true rfl) (by decide) (fun X σ => ?_)
  show G X RX0 "argument" cX0_argument 3 (some .int) 0 0 enI 0 [(0, av x0), (1, jv x1)] [] σ (Eng_argument σ x0 x1)
  unfold Eng_argument
  refine g_aload_n 0 0 dX0_argument_0 rfl rfl ?_
  refine g_getI fdX0_145 dX0_argument_1 ?_
  refine g_bipush (v := 16) dX0_argument_4 (by decide) ?_
  refine g_icmp_ne 11 dX0_argument_6 (by decide) ?_ ?_
  · refine g_aload_n 0 0 dX0_argument_11 rfl rfl ?_
    refine g_getR fdX0_69 dX0_argument_12 ?_
    refine g_aload_n 0 0 dX0_argument_15 rfl rfl ?_
    refine g_getI fdX0_145 dX0_argument_16 ?_
    refine g_lload_n 1 1 dX0_argument_19 rfl rfl ?_
    refine g_lastore dX0_argument_20 (fun σ1 => ?_)
    refine g_aload_n 0 0 dX0_argument_21 rfl rfl ?_
    refine g_dup dX0_argument_22 rfl ?_
    refine g_getI fdX0_145 dX0_argument_23 ?_
    refine g_iconst (v := 1) dX0_argument_26 (by decide) ?_
    refine g_iadd dX0_argument_27 ?_
    refine g_putI fpX0_145 dX0_argument_28 (fun σ2 => ?_)
    refine g_aload_n 0 0 dX0_argument_31 rfl rfl ?_
    refine g_getI fdX0_145 dX0_argument_32 ?_
    exact g_ireturn rfl dX0_argument_35
  · refine g_iconst (v := (-1)) dX0_argument_9 (by decide) ?_
    exact g_ireturn rfl dX0_argument_10
theorem V.dX0_isReference_0 : decode cX0_isReference 0 = .ok (.lload_n 1, 1) := by decide +kernel
theorem V.dX0_isReference_1 : decode cX0_isReference 1 = .ok (.ldc2_w 147, 3) := by decide +kernel
theorem V.dX0_isReference_4 : decode cX0_isReference 4 = .ok (.lcmp, 1) := by decide +kernel
theorem V.dX0_isReference_5 : decode cX0_isReference 5 = .ok (.ifCond .lt 11, 3) := by decide +kernel
theorem V.dX0_isReference_8 : decode cX0_isReference 8 = .ok (.lload_n 1, 1) := by decide +kernel
theorem V.dX0_isReference_9 : decode cX0_isReference 9 = .ok (.ldc2_w 149, 3) := by decide +kernel
theorem V.dX0_isReference_12 : decode cX0_isReference 12 = .ok (.lcmp, 1) := by decide +kernel
theorem V.dX0_isReference_13 : decode cX0_isReference 13 = .ok (.ifCond .le 5, 3) := by decide +kernel
theorem V.dX0_isReference_16 : decode cX0_isReference 16 = .ok (.iconst 0, 1) := by decide +kernel
theorem V.dX0_isReference_17 : decode cX0_isReference 17 = .ok (.ireturn, 1) := by decide +kernel
theorem V.dX0_isReference_18 : decode cX0_isReference 18 = .ok (.iload_n 3, 1) := by decide +kernel
theorem V.dX0_isReference_19 : decode cX0_isReference 19 = .ok (.bipush 112, 2) := by decide +kernel
theorem V.dX0_isReference_21 : decode cX0_isReference 21 = .ok (.if_icmp .ne 16, 3) := by decide +kernel
theorem V.dX0_isReference_24 : decode cX0_isReference 24 = .ok (.lload_n 1, 1) := by decide +kernel
theorem V.dX0_isReference_25 : decode cX0_isReference 25 = .ok (.aload_n 0, 1) := by decide +kernel
theorem V.dX0_isReference_26 : decode cX0_isReference 26 = .ok (.getfield 56, 3) := by decide +kernel
theorem V.dX0_isReference_29 : decode cX0_isReference 29 = .ok (.invokevirtual 153, 3) := by decide +kernel
theorem V.dX0_isReference_32 : decode cX0_isReference 32 = .ok (.i2l, 1) := by decide +kernel
theorem V.dX0_isReference_33 : decode cX0_isReference 33 = .ok (.lcmp, 1) := by decide +kernel
theorem V.dX0_isReference_34 : decode cX0_isReference 34 = .ok (.ifCond .ge 7, 3) := by decide +kernel
theorem V.dX0_isReference_37 : decode cX0_isReference 37 = .ok (.iconst 1, 1) := by decide +kernel
theorem V.dX0_isReference_38 : decode cX0_isReference 38 = .ok (.goto 4, 3) := by decide +kernel
theorem V.dX0_isReference_41 : decode cX0_isReference 41 = .ok (.iconst 0, 1) := by decide +kernel
theorem V.dX0_isReference_42 : decode cX0_isReference 42 = .ok (.ireturn, 1) := by decide +kernel
theorem V.mdX0_153 : MD RX0 153 yX13_functionCount cX13_functionCount 1 (some .int) 0 := ⟨Or.inl q2911, q373, q2245, by decide, by decide, by decide +kernel⟩
/-! ModuleEngine.isReference(JI)Z -/
def V.Eng_isReference_p37  (σ : HS)  : Option (Int32 × HS) :=
  some ((1 : Int32), σ)
theorem V.gX0_isReference_p37 {X : CX}  (σ : HS)  : G X RX0 "isReference" cX0_isReference 4 (some .boolean) 2 40 enI 37 [] [] σ (Eng_isReference_p37 σ ) := by
  unfold Eng_isReference_p37
  refine g_iconst (v := 1) dX0_isReference_37 (by decide) ?_
  refine g_goto 42 dX0_isReference_38 (by decide) ?_
  exact g_zreturn rfl (by decide +kernel) dX0_isReference_42
def V.Eng_isReference (σ : HS) (x0 : Nat) (x1 : Int64) (x3 : Int32) : Option (Int32 × HS) :=
  if x1 < (-1 : Int64) then (
    some ((0 : Int32), σ))
  else (
    if x1 ≤ (2147483647 : Int64) then (
      if x3 = (112 : Int32) then (
        ck (tg σ x0 = 1) <|
        ck (tg σ (gR σ x0 5) = 14) <| cl (Sto_functionCount σ (gR σ x0 5) ) fun r2 σ1 =>
        if r2.toInt64 ≤ x1 then (
          some ((0 : Int32), σ1))
        else (
          Eng_isReference_p37 σ1))
      else (
        Eng_isReference_p37 σ))
    else (
      some ((0 : Int32), σ)))
theorem V.ctX0_isReference (x0 : Nat) (x1 : Int64) (x3 : Int32) : Ct yX0_isReference  cX0_isReference 4 (some .boolean) 2 40 eI [av x0, jv x1, iv x3] (fun σ => Eng_isReference σ x0 x1 x3) := by
  refine Ct.of (own := RX0) (nm := "isReference") (desc := "(JI)Z") rfl (by decide) (Nat.le_of_ble_eq_true rfl) (by decide) (fun X σ => ?_)
  show G X RX0 "isReference" cX0_isReference 4 (some .boolean) 2 40 enI 0 [(0, av x0), (1, jv x1), (3, iv x3)] [] σ (Eng_isReference σ x0 x1 x3)
  unfold Eng_isReference
  refine g_lload_n 1 1 dX0_isReference_0 rfl rfl ?_
  refine g_ldc2 q2909 dX0_isReference_1 ?_
  refine g_lcmp_lt 16 dX0_isReference_4 dX0_isReference_5 (by decide) ?_ ?_
  · refine g_iconst (v := 0) dX0_isReference_16 (by decide) ?_
    exact g_zreturn rfl (by decide +kernel) dX0_isReference_17
  · refine g_lload_n 1 1 dX0_isReference_8 rfl rfl ?_
    refine g_ldc2 q2910 dX0_isReference_9 ?_
    refine g_lcmp_le 18 dX0_isReference_12 dX0_isReference_13 (by decide) ?_ ?_
    · refine g_iload_n 3 2 dX0_isReference_18 rfl rfl ?_
      refine g_bipush (v := 112) dX0_isReference_19 (by decide) ?_
      refine g_icmp_ne 37 dX0_isReference_21 (by decide) ?_ ?_
      · refine G.sub [] rfl ?_
        exact gX0_isReference_p37 _
      · refine g_lload_n 1 1 dX0_isReference_24 rfl rfl ?_
        refine g_aload_n 0 0 dX0_isReference_25 rfl rfl ?_
        refine g_getR fdX0_56 dX0_isReference_26 ?_
        refine g_callV (fc := fun sς => Sto_functionCount sς (gR σ x0 5) ) (ci := 13) (as := []) rfl rfl rfl q2243 q2244 mdX0_153 (ctX13_functionCount (gR σ x0 5) ) rfl (Nat.le_of_ble_eq_true rfl) (Nat.le_of_ble_eq_true rfl) (Nat.le_of_ble_eq_true rfl) pu_I dX0_isReference_29 (fun r2 σ1 => ?_)
        refine g_i2l dX0_isReference_32 ?_
        refine g_lcmp_ge 41 dX0_isReference_33 dX0_isReference_34 (by decide) ?_ ?_
        · refine g_iconst (v := 0) dX0_isReference_41 (by decide) ?_
          exact g_zreturn rfl (by decide +kernel) dX0_isReference_42
        · refine G.sub [] rfl ?_
          exact gX0_isReference_p37 _
    · refine g_iconst (v := 0) dX0_isReference_16 (by decide) ?_
      exact g_zreturn rfl (by decide +kernel) dX0_isReference_17
theorem V.dX0_takes_0 : decode cX0_takes 0 = .ok (.iload_n 2, 1) := by decide +kernel
theorem V.dX0_takes_1 : decode cX0_takes 1 = .ok (.ifCond .eq 14, 3) := by decide +kernel
theorem V.dX0_takes_4 : decode cX0_takes 4 = .ok (.aload_n 0, 1) := by decide +kernel
theorem V.dX0_takes_5 : decode cX0_takes 5 = .ok (.getfield 56, 3) := by decide +kernel
theorem V.dX0_takes_8 : decode cX0_takes 8 = .ok (.iload_n 1, 1) := by decide +kernel
theorem V.dX0_takes_9 : decode cX0_takes 9 = .ok (.invokevirtual 156, 3) := by decide +kernel
theorem V.dX0_takes_12 : decode cX0_takes 12 = .ok (.goto 11, 3) := by decide +kernel
theorem V.dX0_takes_15 : decode cX0_takes 15 = .ok (.aload_n 0, 1) := by decide +kernel
theorem V.dX0_takes_16 : decode cX0_takes 16 = .ok (.getfield 56, 3) := by decide +kernel
theorem V.dX0_takes_19 : decode cX0_takes 19 = .ok (.iload_n 1, 1) := by decide +kernel
theorem V.dX0_takes_20 : decode cX0_takes 20 = .ok (.invokevirtual 159, 3) := by decide +kernel
theorem V.dX0_takes_23 : decode cX0_takes 23 = .ok (.istore_n 3, 1) := by decide +kernel
theorem V.dX0_takes_24 : decode cX0_takes 24 = .ok (.aload_n 0, 1) := by decide +kernel
theorem V.dX0_takes_25 : decode cX0_takes 25 = .ok (.getfield 145, 3) := by decide +kernel
theorem V.dX0_takes_28 : decode cX0_takes 28 = .ok (.iload_n 3, 1) := by decide +kernel
theorem V.dX0_takes_29 : decode cX0_takes 29 = .ok (.if_icmp .eq 5, 3) := by decide +kernel
theorem V.dX0_takes_32 : decode cX0_takes 32 = .ok (.iconst 0, 1) := by decide +kernel
theorem V.dX0_takes_33 : decode cX0_takes 33 = .ok (.ireturn, 1) := by decide +kernel
theorem V.dX0_takes_34 : decode cX0_takes 34 = .ok (.iconst 0, 1) := by decide +kernel
theorem V.dX0_takes_35 : decode cX0_takes 35 = .ok (.istore 4, 2) := by decide +kernel
theorem V.dX0_takes_37 : decode cX0_takes 37 = .ok (.iload 4, 2) := by decide +kernel
theorem V.dX0_takes_39 : decode cX0_takes 39 = .ok (.iload_n 3, 1) := by decide +kernel
theorem V.dX0_takes_40 : decode cX0_takes 40 = .ok (.if_icmp .ge 64, 3) := by decide +kernel
theorem V.dX0_takes_43 : decode cX0_takes 43 = .ok (.iload_n 2, 1) := by decide +kernel
theorem V.dX0_takes_44 : decode cX0_takes 44 = .ok (.ifCond .eq 16, 3) := by decide +kernel
theorem V.dX0_takes_47 : decode cX0_takes 47 = .ok (.aload_n 0, 1) := by decide +kernel
theorem V.dX0_takes_48 : decode cX0_takes 48 = .ok (.getfield 56, 3) := by decide +kernel
theorem V.dX0_takes_51 : decode cX0_takes 51 = .ok (.iload_n 1, 1) := by decide +kernel
theorem V.dX0_takes_52 : decode cX0_takes 52 = .ok (.iload 4, 2) := by decide +kernel
theorem V.dX0_takes_54 : decode cX0_takes 54 = .ok (.invokevirtual 162, 3) := by decide +kernel
theorem V.dX0_takes_57 : decode cX0_takes 57 = .ok (.goto 13, 3) := by decide +kernel
theorem V.dX0_takes_60 : decode cX0_takes 60 = .ok (.aload_n 0, 1) := by decide +kernel
theorem V.dX0_takes_61 : decode cX0_takes 61 = .ok (.getfield 56, 3) := by decide +kernel
theorem V.dX0_takes_64 : decode cX0_takes 64 = .ok (.iload_n 1, 1) := by decide +kernel
theorem V.dX0_takes_65 : decode cX0_takes 65 = .ok (.iload 4, 2) := by decide +kernel
theorem V.dX0_takes_67 : decode cX0_takes 67 = .ok (.invokevirtual 165, 3) := by decide +kernel
theorem V.dX0_takes_70 : decode cX0_takes 70 = .ok (.istore 5, 2) := by decide +kernel
theorem V.dX0_takes_72 : decode cX0_takes 72 = .ok (.iload 5, 2) := by decide +kernel
theorem V.dX0_takes_74 : decode cX0_takes 74 = .ok (.invokestatic 168, 3) := by decide +kernel
theorem V.dX0_takes_77 : decode cX0_takes 77 = .ok (.ifCond .eq 21, 3) := by decide +kernel
theorem V.dX0_takes_80 : decode cX0_takes 80 = .ok (.aload_n 0, 1) := by decide +kernel
theorem V.dX0_takes_81 : decode cX0_takes 81 = .ok (.aload_n 0, 1) := by decide +kernel
theorem V.dX0_takes_82 : decode cX0_takes 82 = .ok (.getfield 69, 3) := by decide +kernel
theorem V.dX0_takes_85 : decode cX0_takes 85 = .ok (.iload 4, 2) := by decide +kernel
theorem V.dX0_takes_87 : decode cX0_takes 87 = .ok (.laload, 1) := by decide +kernel
theorem V.dX0_takes_88 : decode cX0_takes 88 = .ok (.iload 5, 2) := by decide +kernel
theorem V.dX0_takes_90 : decode cX0_takes 90 = .ok (.invokevirtual 172, 3) := by decide +kernel
theorem V.dX0_takes_93 : decode cX0_takes 93 = .ok (.ifCond .ne 5, 3) := by decide +kernel
theorem V.dX0_takes_96 : decode cX0_takes 96 = .ok (.iconst 0, 1) := by decide +kernel
theorem V.dX0_takes_97 : decode cX0_takes 97 = .ok (.ireturn, 1) := by decide +kernel
theorem V.dX0_takes_98 : decode cX0_takes 98 = .ok (.iinc 4 1, 3) := by decide +kernel
theorem V.dX0_takes_101 : decode cX0_takes 101 = .ok (.goto (-64), 3) := by decide +kernel
theorem V.dX0_takes_104 : decode cX0_takes 104 = .ok (.iconst 0, 1) := by decide +kernel
theorem V.dX0_takes_105 : decode cX0_takes 105 = .ok (.istore 4, 2) := by decide +kernel
theorem V.dX0_takes_107 : decode cX0_takes 107 = .ok (.iload 4, 2) := by decide +kernel
theorem V.dX0_takes_109 : decode cX0_takes 109 = .ok (.iload_n 3, 1) := by decide +kernel
theorem V.dX0_takes_110 : decode cX0_takes 110 = .ok (.if_icmp .ge 70, 3) := by decide +kernel
theorem V.dX0_takes_113 : decode cX0_takes 113 = .ok (.iload_n 2, 1) := by decide +kernel
theorem V.dX0_takes_114 : decode cX0_takes 114 = .ok (.ifCond .eq 16, 3) := by decide +kernel
theorem V.dX0_takes_117 : decode cX0_takes 117 = .ok (.aload_n 0, 1) := by decide +kernel
theorem V.dX0_takes_118 : decode cX0_takes 118 = .ok (.getfield 56, 3) := by decide +kernel
theorem V.dX0_takes_121 : decode cX0_takes 121 = .ok (.iload_n 1, 1) := by decide +kernel
theorem V.dX0_takes_122 : decode cX0_takes 122 = .ok (.iload 4, 2) := by decide +kernel
theorem V.dX0_takes_124 : decode cX0_takes 124 = .ok (.invokevirtual 162, 3) := by decide +kernel
theorem V.dX0_takes_127 : decode cX0_takes 127 = .ok (.goto 13, 3) := by decide +kernel
theorem V.dX0_takes_130 : decode cX0_takes 130 = .ok (.aload_n 0, 1) := by decide +kernel
theorem V.dX0_takes_131 : decode cX0_takes 131 = .ok (.getfield 56, 3) := by decide +kernel
theorem V.dX0_takes_134 : decode cX0_takes 134 = .ok (.iload_n 1, 1) := by decide +kernel
theorem V.dX0_takes_135 : decode cX0_takes 135 = .ok (.iload 4, 2) := by decide +kernel
theorem V.dX0_takes_137 : decode cX0_takes 137 = .ok (.invokevirtual 165, 3) := by decide +kernel
theorem V.dX0_takes_140 : decode cX0_takes 140 = .ok (.istore 5, 2) := by decide +kernel
theorem V.dX0_takes_142 : decode cX0_takes 142 = .ok (.iload 5, 2) := by decide +kernel
theorem V.dX0_takes_144 : decode cX0_takes 144 = .ok (.bipush 127, 2) := by decide +kernel
theorem V.dX0_takes_146 : decode cX0_takes 146 = .ok (.if_icmp .eq 10, 3) := by decide +kernel
theorem V.dX0_takes_149 : decode cX0_takes 149 = .ok (.iload 5, 2) := by decide +kernel
theorem V.dX0_takes_151 : decode cX0_takes 151 = .ok (.bipush 125, 2) := by decide +kernel
theorem V.dX0_takes_153 : decode cX0_takes 153 = .ok (.if_icmp .ne 21, 3) := by decide +kernel
theorem V.dX0_takes_156 : decode cX0_takes 156 = .ok (.aload_n 0, 1) := by decide +kernel
theorem V.dX0_takes_157 : decode cX0_takes 157 = .ok (.getfield 69, 3) := by decide +kernel
theorem V.dX0_takes_160 : decode cX0_takes 160 = .ok (.iload 4, 2) := by decide +kernel
theorem V.dX0_takes_162 : decode cX0_takes 162 = .ok (.aload_n 0, 1) := by decide +kernel
theorem V.dX0_takes_163 : decode cX0_takes 163 = .ok (.getfield 69, 3) := by decide +kernel
theorem V.dX0_takes_166 : decode cX0_takes 166 = .ok (.iload 4, 2) := by decide +kernel
theorem V.dX0_takes_168 : decode cX0_takes 168 = .ok (.laload, 1) := by decide +kernel
theorem V.dX0_takes_169 : decode cX0_takes 169 = .ok (.ldc2_w 175, 3) := by decide +kernel
theorem V.dX0_takes_172 : decode cX0_takes 172 = .ok (.land, 1) := by decide +kernel
theorem V.dX0_takes_173 : decode cX0_takes 173 = .ok (.lastore, 1) := by decide +kernel
theorem V.dX0_takes_174 : decode cX0_takes 174 = .ok (.iinc 4 1, 3) := by decide +kernel
theorem V.dX0_takes_177 : decode cX0_takes 177 = .ok (.goto (-70), 3) := by decide +kernel
theorem V.dX0_takes_180 : decode cX0_takes 180 = .ok (.aload_n 0, 1) := by decide +kernel
theorem V.dX0_takes_181 : decode cX0_takes 181 = .ok (.iconst 0, 1) := by decide +kernel
theorem V.dX0_takes_182 : decode cX0_takes 182 = .ok (.putfield 145, 3) := by decide +kernel
theorem V.dX0_takes_185 : decode cX0_takes 185 = .ok (.iconst 1, 1) := by decide +kernel
theorem V.dX0_takes_186 : decode cX0_takes 186 = .ok (.ireturn, 1) := by decide +kernel
theorem V.mdX0_159 : MD RX0 159 yX13_parametersOf cX13_parametersOf 2 (some .int) 1 := ⟨Or.inl q2895, q373, q2375, by decide, by decide, by decide +kernel⟩
theorem V.mdX0_156 : MD RX0 156 yX13_resultsOf cX13_resultsOf 2 (some .int) 1 := ⟨Or.inl q2891, q373, q2894, by decide, by decide, by decide +kernel⟩
theorem V.mdX0_165 : MD RX0 165 yX13_parameterOf cX13_parameterOf 3 (some .int) 2 := ⟨Or.inl q2900, q373, q2903, by decide, by decide, by decide +kernel⟩
theorem V.mdX0_162 : MD RX0 162 yX13_resultOf cX13_resultOf 3 (some .int) 2 := ⟨Or.inl q2896, q373, q2899, by decide, by decide, by decide +kernel⟩
theorem V.mdX0_168 : MD RX0 168 yX11_isReference cX11_isReference 1 (some .boolean) 1 := ⟨Or.inl q2904, q371, q1803, by decide, by decide, by decide +kernel⟩
theorem V.mdX0_172 : MD RX0 172 yX0_isReference cX0_isReference 4 (some .boolean) 2 := ⟨Or.inl q2905, q360, q2908, by decide, by decide, by decide +kernel⟩
/-! ModuleEngine.takes(IZ)Z -/
def V.Eng_takes_p174 (rec107 : HS → Nat → Int32 → Int32 → Int32 → Int32 → Option (Int32 × HS)) (σ : HS) (x0 : Nat) (x1 : Int32) (x2 : Int32) (x3 : Int32) (x4 : Int32) : Option (Int32 × HS) :=
  bn (x4 + (1 : Int32)) fun y1 =>
  rec107 σ x0 x1 x2 x3 y1
theorem V.gX0_takes_p174 {X : CX} (rec107 : HS → Nat → Int32 → Int32 → Int32 → Int32 → Option (Int32 × HS)) (hrec107 : ∀ (σ : HS) (x0 : Nat) (x1 : Int32) (x2 : Int32) (x3 : Int32) (x4 : Int32), G X RX0 "takes" cX0_takes 6 (some .boolean) 4 86 enI 107 [(0, av x0), (1, iv x1), (2, iv x2), (3, iv x3), (4, iv x4)] [] σ (rec107 σ x0 x1 x2 x3 x4)) (σ : HS) (x0 : Nat) (x1 : Int32) (x2 : Int32) (x3 : Int32) (x4 : Int32) : G X RX0 "takes" cX0_takes 6 (some .boolean) 4 86 enI 174 [(0, av x0), (1, iv x1), (2, iv x2), (3, iv x3), (4, iv x4)] [] σ (Eng_takes_p174 rec107 σ x0 x1 x2 x3 x4) := by
  unfold Eng_takes_p174
  refine g_iincB (w := 1) 4 dX0_takes_174 rfl (by decide) (by decide) (fun _ => rfl) (fun y1 => ?_)
  refine g_goto 107 dX0_takes_177 (by decide) ?_
  refine G.sub [1, 2, 3, 4, 0] rfl ?_
  exact hrec107 _ _ _ _ _ _
def V.Eng_takes_p156 (rec107 : HS → Nat → Int32 → Int32 → Int32 → Int32 → Option (Int32 × HS)) (σ : HS) (x0 : Nat) (x1 : Int32) (x2 : Int32) (x3 : Int32) (x4 : Int32) : Option (Int32 × HS) :=
  ck (tg σ x0 = 1) <|
  ck (tg σ x0 = 1) <|
  ck (tg σ (gR σ x0 7) = 101 ∧ inb x4 (ln σ (gR σ x0 7))) <|
  ck (tg σ (gR σ x0 7) = 101 ∧ inb x4 (ln σ (gR σ x0 7))) <| bn (sJ σ (gR σ x0 7) (ix x4) ((gJ σ (gR σ x0 7) (ix x4)) &&& (4294967295 : Int64))) fun σ1 =>
  Eng_takes_p174 rec107 σ1 x0 x1 x2 x3 x4
theorem V.gX0_takes_p156 {X : CX} (rec107 : HS → Nat → Int32 → Int32 → Int32 → Int32 → Option (Int32 × HS)) (hrec107 : ∀ (σ : HS) (x0 : Nat) (x1 : Int32) (x2 : Int32) (x3 : Int32) (x4 : Int32), G X RX0 "takes" cX0_takes 6 (some .boolean) 4 86 enI 107 [(0, av x0), (1, iv x1), (2, iv x2), (3, iv x3), (4, iv x4)] [] σ (rec107 σ x0 x1 x2 x3 x4)) (σ : HS) (x0 : Nat) (x1 : Int32) (x2 : Int32) (x3 : Int32) (x4 : Int32) : G X RX0 "takes" cX0_takes 6 (some .boolean) 4 86 enI 156 [(0, av x0), (1, iv x1), (2, iv x2), (3, iv x3), (4, iv x4)] [] σ (Eng_takes_p156 rec107 σ x0 x1 x2 x3 x4) := by
  unfold Eng_takes_p156
  refine g_aload_n 0 0 dX0_takes_156 rfl rfl ?_
  refine g_getR fdX0_69 dX0_takes_157 ?_
  refine g_iload 4 dX0_takes_160 rfl ?_
  refine g_aload_n 0 0 dX0_takes_162 rfl rfl ?_
  refine g_getR fdX0_69 dX0_takes_163 ?_
  refine g_iload 4 dX0_takes_166 rfl ?_
  refine g_laload dX0_takes_168 ?_
  refine g_ldc2 q2912 dX0_takes_169 ?_
  refine g_land dX0_takes_172 ?_
  refine g_lastore dX0_takes_173 (fun σ1 => ?_)
  exact gX0_takes_p174 rec107 hrec107 _ _ _ _ _ _
def V.Eng_takes_p140 (rec107 : HS → Nat → Int32 → Int32 → Int32 → Int32 → Option (Int32 × HS)) (σ : HS) (x0 : Nat) (x1 : Int32) (x2 : Int32) (x3 : Int32) (x4 : Int32) (s0 : Int32) : Option (Int32 × HS) :=
  if s0 = (127 : Int32) then (
    Eng_takes_p156 rec107 σ x0 x1 x2 x3 x4)
  else (
    if s0 = (125 : Int32) then (
      Eng_takes_p156 rec107 σ x0 x1 x2 x3 x4)
    else (
      Eng_takes_p174 rec107 σ x0 x1 x2 x3 x4))
theorem V.gX0_takes_p140 {X : CX} (rec107 : HS → Nat → Int32 → Int32 → Int32 → Int32 → Option (Int32 × HS)) (hrec107 : ∀ (σ : HS) (x0 : Nat) (x1 : Int32) (x2 : Int32) (x3 : Int32) (x4 : Int32), G X RX0 "takes" cX0_takes 6 (some .boolean) 4 86 enI 107 [(0, av x0), (1, iv x1), (2, iv x2), (3, iv x3), (4, iv x4)] [] σ (rec107 σ x0 x1 x2 x3 x4)) (σ : HS) (x0 : Nat) (x1 : Int32) (x2 : Int32) (x3 : Int32) (x4 : Int32) (s0 : Int32) : G X RX0 "takes" cX0_takes 6 (some .boolean) 4 86 enI 140 [(0, av x0), (1, iv x1), (2, iv x2), (3, iv x3), (4, iv x4)] [iv s0] σ (Eng_takes_p140 rec107 σ x0 x1 x2 x3 x4 s0) := by
  unfold Eng_takes_p140
  refine g_istore dX0_takes_140 (by decide) rfl ?_
  refine g_iload 0 dX0_takes_142 rfl ?_
  refine g_bipush (v := 127) dX0_takes_144 (by decide) ?_
  refine g_icmp_eq 156 dX0_takes_146 (by decide) ?_ ?_
  · refine G.sub [1, 2, 3, 4, 5] rfl ?_
    exact gX0_takes_p156 rec107 hrec107 _ _ _ _ _ _
  · refine g_iload 0 dX0_takes_149 rfl ?_
    refine g_bipush (v := 125) dX0_takes_151 (by decide) ?_
    refine g_icmp_ne 174 dX0_takes_153 (by decide) ?_ ?_
    · refine G.sub [1, 2, 3, 4, 5] rfl ?_
      exact gX0_takes_p174 rec107 hrec107 _ _ _ _ _ _
    · refine G.sub [1, 2, 3, 4, 5] rfl ?_
      exact gX0_takes_p156 rec107 hrec107 _ _ _ _ _ _
def V.Eng_takes_p107  : Nat → HS → Nat → Int32 → Int32 → Int32 → Int32 → Option (Int32 × HS)
  | 0, _, _, _, _, _, _ => none
  | n + 1, σ, x0, x1, x2, x3, x4 =>
    if x3 ≤ x4 then (
      ck (tg σ x0 = 1) <| bn (sI σ x0 9 (0 : Int32)) fun σ1 =>
      some ((1 : Int32), σ1))
    else (
      if x2 = 0 then (
        ck (tg σ x0 = 1) <|
        ck (tg σ (gR σ x0 5) = 14) <| cl (Sto_parameterOf σ (gR σ x0 5) x1 x4) fun r3 σ2 =>
        Eng_takes_p140 (Eng_takes_p107 n) σ2 x0 x1 x2 x3 x4 r3)
      else (
        ck (tg σ x0 = 1) <|
        ck (tg σ (gR σ x0 5) = 14) <| cl (Sto_resultOf σ (gR σ x0 5) x1 x4) fun r5 σ4 =>
        Eng_takes_p140 (Eng_takes_p107 n) σ4 x0 x1 x2 x3 x4 r5))
theorem V.gX0_takes_p107 {X : CX}  : ∀ (n : Nat) (σ : HS) (x0 : Nat) (x1 : Int32) (x2 : Int32) (x3 : Int32) (x4 : Int32), G X RX0 "takes" cX0_takes 6 (some .boolean) 4 86 enI 107 [(0, av x0), (1, iv x1), (2, iv x2), (3, iv x3), (4, iv x4)] [] σ (Eng_takes_p107 n σ x0 x1 x2 x3 x4)
  | 0, σ, x0, x1, x2, x3, x4 => by rw [Eng_takes_p107]; exact G.nul
  | n + 1, σ, x0, x1, x2, x3, x4 => by
    rw [Eng_takes_p107]
    refine g_iload 4 dX0_takes_107 rfl ?_
    refine g_iload_n 3 3 dX0_takes_109 rfl rfl ?_
    refine g_icmp_ge 180 dX0_takes_110 (by decide) ?_ ?_
    · refine g_aload_n 0 0 dX0_takes_180 rfl rfl ?_
      refine g_iconst (v := 0) dX0_takes_181 (by decide) ?_
      refine g_putI fpX0_145 dX0_takes_182 (fun σ1 => ?_)
      refine g_iconst (v := 1) dX0_takes_185 (by decide) ?_
      exact g_zreturn rfl (by decide +kernel) dX0_takes_186
    · refine g_iload_n 2 2 dX0_takes_113 rfl rfl ?_
      refine g_if_eq 130 dX0_takes_114 (by decide) ?_ ?_
      · refine g_aload_n 0 0 dX0_takes_130 rfl rfl ?_
        refine g_getR fdX0_56 dX0_takes_131 ?_
        refine g_iload_n 1 1 dX0_takes_134 rfl rfl ?_
        refine g_iload 4 dX0_takes_135 rfl ?_
        refine g_callV (fc := fun sς => Sto_parameterOf sς (gR σ x0 5) x1 x4) (ci := 13) (as := [iv x1, iv x4]) rfl rfl rfl q2901 q2902 mdX0_165 (ctX13_parameterOf (gR σ x0 5) x1 x4) rfl (Nat.le_of_ble_eq_true rfl) (Nat.le_of_ble_eq_true rfl) (Nat.le_of_ble_eq_true rfl) pu_I dX0_takes_137 (fun r3 σ2 => ?_)
        exact gX0_takes_p140 (Eng_takes_p107 n) (gX0_takes_p107 n) _ _ _ _ _ _ _
      · refine g_aload_n 0 0 dX0_takes_117 rfl rfl ?_
        refine g_getR fdX0_56 dX0_takes_118 ?_
        refine g_iload_n 1 1 dX0_takes_121 rfl rfl ?_
        refine g_iload 4 dX0_takes_122 rfl ?_
        refine g_callV (fc := fun sς => Sto_resultOf sς (gR σ x0 5) x1 x4) (ci := 13) (as := [iv x1, iv x4]) rfl rfl rfl q2897 q2898 mdX0_162 (ctX13_resultOf (gR σ x0 5) x1 x4) rfl (Nat.le_of_ble_eq_true rfl) (Nat.le_of_ble_eq_true rfl) (Nat.le_of_ble_eq_true rfl) pu_I dX0_takes_124 (fun r5 σ4 => ?_)
        refine g_goto 140 dX0_takes_127 (by decide) ?_
        exact gX0_takes_p140 (Eng_takes_p107 n) (gX0_takes_p107 n) _ _ _ _ _ _ _
def V.Eng_takes_p98 (rec37 : HS → Nat → Int32 → Int32 → Int32 → Int32 → Option (Int32 × HS)) (σ : HS) (x0 : Nat) (x1 : Int32) (x2 : Int32) (x3 : Int32) (x4 : Int32) : Option (Int32 × HS) :=
  bn (x4 + (1 : Int32)) fun y1 =>
  rec37 σ x0 x1 x2 x3 y1
theorem V.gX0_takes_p98 {X : CX} (rec37 : HS → Nat → Int32 → Int32 → Int32 → Int32 → Option (Int32 × HS)) (hrec37 : ∀ (σ : HS) (x0 : Nat) (x1 : Int32) (x2 : Int32) (x3 : Int32) (x4 : Int32), G X RX0 "takes" cX0_takes 6 (some .boolean) 4 86 enI 37 [(0, av x0), (1, iv x1), (2, iv x2), (3, iv x3), (4, iv x4)] [] σ (rec37 σ x0 x1 x2 x3 x4)) (σ : HS) (x0 : Nat) (x1 : Int32) (x2 : Int32) (x3 : Int32) (x4 : Int32) : G X RX0 "takes" cX0_takes 6 (some .boolean) 4 86 enI 98 [(0, av x0), (1, iv x1), (2, iv x2), (3, iv x3), (4, iv x4)] [] σ (Eng_takes_p98 rec37 σ x0 x1 x2 x3 x4) := by
  unfold Eng_takes_p98
  refine g_iincB (w := 1) 4 dX0_takes_98 rfl (by decide) (by decide) (fun _ => rfl) (fun y1 => ?_)
  refine g_goto 37 dX0_takes_101 (by decide) ?_
  refine G.sub [1, 2, 3, 4, 0] rfl ?_
  exact hrec37 _ _ _ _ _ _
def V.Eng_takes_p70 (rec37 : HS → Nat → Int32 → Int32 → Int32 → Int32 → Option (Int32 × HS)) (σ : HS) (x0 : Nat) (x1 : Int32) (x2 : Int32) (x3 : Int32) (x4 : Int32) (s0 : Int32) : Option (Int32 × HS) :=
  cl (Chk_isReference σ s0) fun r2 σ1 =>
  if r2 = 0 then (
    Eng_takes_p98 rec37 σ1 x0 x1 x2 x3 x4)
  else (
    ck (tg σ1 x0 = 1) <|
    ck (tg σ1 (gR σ1 x0 7) = 101 ∧ inb x4 (ln σ1 (gR σ1 x0 7))) <|
    ck (tg σ1 x0 = 1) <| cl (Eng_isReference σ1 x0 (gJ σ1 (gR σ1 x0 7) (ix x4)) s0) fun r4 σ3 =>
    if r4 = 0 then (
      some ((0 : Int32), σ3))
    else (
      Eng_takes_p98 rec37 σ3 x0 x1 x2 x3 x4))
theorem V.gX0_takes_p70 {X : CX} (rec37 : HS → Nat → Int32 → Int32 → Int32 → Int32 → Option (Int32 × HS)) (hrec37 : ∀ (σ : HS) (x0 : Nat) (x1 : Int32) (x2 : Int32) (x3 : Int32) (x4 : Int32), G X RX0 "takes" cX0_takes 6 (some .boolean) 4 86 enI 37 [(0, av x0), (1, iv x1), (2, iv x2), (3, iv x3), (4, iv x4)] [] σ (rec37 σ x0 x1 x2 x3 x4)) (σ : HS) (x0 : Nat) (x1 : Int32) (x2 : Int32) (x3 : Int32) (x4 : Int32) (s0 : Int32) : G X RX0 "takes" cX0_takes 6 (some .boolean) 4 86 enI 70 [(0, av x0), (1, iv x1), (2, iv x2), (3, iv x3), (4, iv x4)] [iv s0] σ (Eng_takes_p70 rec37 σ x0 x1 x2 x3 x4 s0) := by
  unfold Eng_takes_p70
  refine g_istore dX0_takes_70 (by decide) rfl ?_
  refine g_iload 0 dX0_takes_72 rfl ?_
  refine g_callS (fc := fun sς => Chk_isReference sς s0) (as := [iv s0]) q1802 mdX0_168 (ctX11_isReference s0) rfl (Nat.le_of_ble_eq_true rfl) (Nat.le_of_ble_eq_true rfl) (Nat.le_of_ble_eq_true rfl) pu_I dX0_takes_74 (fun r2 σ1 => ?_)
  refine g_if_eq 98 dX0_takes_77 (by decide) ?_ ?_
  · refine G.sub [1, 2, 3, 4, 5] rfl ?_
    exact gX0_takes_p98 rec37 hrec37 _ _ _ _ _ _
  · refine g_aload_n 0 1 dX0_takes_80 rfl rfl ?_
    refine g_aload_n 0 1 dX0_takes_81 rfl rfl ?_
    refine g_getR fdX0_69 dX0_takes_82 ?_
    refine g_iload 5 dX0_takes_85 rfl ?_
    refine g_laload dX0_takes_87 ?_
    refine g_iload 0 dX0_takes_88 rfl ?_
    refine g_callV (fc := fun sς => Eng_isReference sς x0 (gJ σ1 (gR σ1 x0 7) (ix x4)) s0) (ci := 0) (as := [jv (gJ σ1 (gR σ1 x0 7) (ix x4)), iv s0]) rfl rfl rfl q2907 qs209 mdX0_172 (ctX0_isReference x0 (gJ σ1 (gR σ1 x0 7) (ix x4)) s0) rfl (Nat.le_of_ble_eq_true rfl) (Nat.le_of_ble_eq_true rfl) (Nat.le_of_ble_eq_true rfl) pu_I dX0_takes_90 (fun r4 σ3 => ?_)
    refine g_if_ne 98 dX0_takes_93 (by decide) ?_ ?_
    · refine G.sub [1, 2, 3, 4, 5] rfl ?_
      exact gX0_takes_p98 rec37 hrec37 _ _ _ _ _ _
    · refine g_iconst (v := 0) dX0_takes_96 (by decide) ?_
      exact g_zreturn rfl (by decide +kernel) dX0_takes_97
def V.Eng_takes_p37  : Nat → HS → Nat → Int32 → Int32 → Int32 → Int32 → Option (Int32 × HS)
  | 0, _, _, _, _, _, _ => none
  | n + 1, σ, x0, x1, x2, x3, x4 =>
    if x3 ≤ x4 then (
      Eng_takes_p107 FU σ x0 x1 x2 x3 (0 : Int32))
    else (
      if x2 = 0 then (
        ck (tg σ x0 = 1) <|
        ck (tg σ (gR σ x0 5) = 14) <| cl (Sto_parameterOf σ (gR σ x0 5) x1 x4) fun r2 σ1 =>
        Eng_takes_p70 (Eng_takes_p37 n) σ1 x0 x1 x2 x3 x4 r2)
      else (
        ck (tg σ x0 = 1) <|
        ck (tg σ (gR σ x0 5) = 14) <| cl (Sto_resultOf σ (gR σ x0 5) x1 x4) fun r4 σ3 =>
        Eng_takes_p70 (Eng_takes_p37 n) σ3 x0 x1 x2 x3 x4 r4))
theorem V.gX0_takes_p37 {X : CX}  : ∀ (n : Nat) (σ : HS) (x0 : Nat) (x1 : Int32) (x2 : Int32) (x3 : Int32) (x4 : Int32), G X RX0 "takes" cX0_takes 6 (some .boolean) 4 86 enI 37 [(0, av x0), (1, iv x1), (2, iv x2), (3, iv x3), (4, iv x4)] [] σ (Eng_takes_p37 n σ x0 x1 x2 x3 x4)
  | 0, σ, x0, x1, x2, x3, x4 => by rw [Eng_takes_p37]; exact G.nul
  | n + 1, σ, x0, x1, x2, x3, x4 => by
    rw [Eng_takes_p37]
    refine g_iload 4 dX0_takes_37 rfl ?_
    refine g_iload_n 3 3 dX0_takes_39 rfl rfl ?_
    refine g_icmp_ge 104 dX0_takes_40 (by decide) ?_ ?_
    · refine g_iconst (v := 0) dX0_takes_104 (by decide) ?_
      refine g_istore dX0_takes_105 (by decide) rfl ?_
      refine G.sub [1, 2, 3, 4, 0] rfl ?_
      exact gX0_takes_p107 FU _ _ _ _ _ _
    · refine g_iload_n 2 2 dX0_takes_43 rfl rfl ?_
      refine g_if_eq 60 dX0_takes_44 (by decide) ?_ ?_
      · refine g_aload_n 0 0 dX0_takes_60 rfl rfl ?_
        refine g_getR fdX0_56 dX0_takes_61 ?_
        refine g_iload_n 1 1 dX0_takes_64 rfl rfl ?_
        refine g_iload 4 dX0_takes_65 rfl ?_
        refine g_callV (fc := fun sς => Sto_parameterOf sς (gR σ x0 5) x1 x4) (ci := 13) (as := [iv x1, iv x4]) rfl rfl rfl q2901 q2902 mdX0_165 (ctX13_parameterOf (gR σ x0 5) x1 x4) rfl (Nat.le_of_ble_eq_true rfl) (Nat.le_of_ble_eq_true rfl) (Nat.le_of_ble_eq_true rfl) pu_I dX0_takes_67 (fun r2 σ1 => ?_)
        exact gX0_takes_p70 (Eng_takes_p37 n) (gX0_takes_p37 n) _ _ _ _ _ _ _
      · refine g_aload_n 0 0 dX0_takes_47 rfl rfl ?_
        refine g_getR fdX0_56 dX0_takes_48 ?_
        refine g_iload_n 1 1 dX0_takes_51 rfl rfl ?_
        refine g_iload 4 dX0_takes_52 rfl ?_
        refine g_callV (fc := fun sς => Sto_resultOf sς (gR σ x0 5) x1 x4) (ci := 13) (as := [iv x1, iv x4]) rfl rfl rfl q2897 q2898 mdX0_162 (ctX13_resultOf (gR σ x0 5) x1 x4) rfl (Nat.le_of_ble_eq_true rfl) (Nat.le_of_ble_eq_true rfl) (Nat.le_of_ble_eq_true rfl) pu_I dX0_takes_54 (fun r4 σ3 => ?_)
        refine g_goto 70 dX0_takes_57 (by decide) ?_
        exact gX0_takes_p70 (Eng_takes_p37 n) (gX0_takes_p37 n) _ _ _ _ _ _ _
def V.Eng_takes_p23  (σ : HS) (x0 : Nat) (x1 : Int32) (x2 : Int32) (s0 : Int32) : Option (Int32 × HS) :=
  ck (tg σ x0 = 1) <|
  if (gI σ x0 9) = s0 then (
    Eng_takes_p37 FU σ x0 x1 x2 s0 (0 : Int32))
  else (
    some ((0 : Int32), σ))
theorem V.gX0_takes_p23 {X : CX}  (σ : HS) (x0 : Nat) (x1 : Int32) (x2 : Int32) (s0 : Int32) : G X RX0 "takes" cX0_takes 6 (some .boolean) 4 86 enI 23 [(0, av x0), (1, iv x1), (2, iv x2)] [iv s0] σ (Eng_takes_p23 σ x0 x1 x2 s0) := by
  unfold Eng_takes_p23
  refine g_istore_n 3 dX0_takes_23 rfl (by decide) rfl ?_
  refine g_aload_n 0 1 dX0_takes_24 rfl rfl ?_
  refine g_getI fdX0_145 dX0_takes_25 ?_
  refine g_iload_n 3 0 dX0_takes_28 rfl rfl ?_
  refine g_icmp_eq 34 dX0_takes_29 (by decide) ?_ ?_
  · refine g_iconst (v := 0) dX0_takes_34 (by decide) ?_
    refine g_istore dX0_takes_35 (by decide) rfl ?_
    refine G.sub [2, 3, 4, 1, 0] rfl ?_
    exact gX0_takes_p37 FU _ _ _ _ _ _
  · refine g_iconst (v := 0) dX0_takes_32 (by decide) ?_
    exact g_zreturn rfl (by decide +kernel) dX0_takes_33
def V.Eng_takes (σ : HS) (x0 : Nat) (x1 : Int32) (x2 : Int32) : Option (Int32 × HS) :=
  if x2 = 0 then (
    ck (tg σ x0 = 1) <|
    ck (tg σ (gR σ x0 5) = 14) <| cl (Sto_parametersOf σ (gR σ x0 5) x1) fun r2 σ1 =>
    Eng_takes_p23 σ1 x0 x1 x2 r2)
  else (
    ck (tg σ x0 = 1) <|
    ck (tg σ (gR σ x0 5) = 14) <| cl (Sto_resultsOf σ (gR σ x0 5) x1) fun r4 σ3 =>
    Eng_takes_p23 σ3 x0 x1 x2 r4)
theorem V.ctX0_takes (x0 : Nat) (x1 : Int32) (x2 : Int32) : Ct yX0_takes  cX0_takes 6 (some .boolean) 4 86 eI [av x0, iv x1, iv x2] (fun σ => Eng_takes σ x0 x1 x2) := by
  refine Ct.of (own := RX0) (nm := "takes") (desc := "(IZ)Z") rfl (by decide) (Nat.le_of_ble_eq_true rfl) (by decide) (fun X σ => ?_)
  show G X RX0 "takes" cX0_takes 6 (some .boolean) 4 86 enI 0 [(0, av x0), (1, iv x1), (2, iv x2)] [] σ (Eng_takes σ x0 x1 x2)
  unfold Eng_takes
  refine g_iload_n 2 2 dX0_takes_0 rfl rfl ?_
  refine g_if_eq 15 dX0_takes_1 (by decide) ?_ ?_
  · refine g_aload_n 0 0 dX0_takes_15 rfl rfl ?_
    refine g_getR fdX0_56 dX0_takes_16 ?_
    refine g_iload_n 1 1 dX0_takes_19 rfl rfl ?_
    refine g_callV (fc := fun sς => Sto_parametersOf sς (gR σ x0 5) x1) (ci := 13) (as := [iv x1]) rfl rfl rfl q2373 q2374 mdX0_159 (ctX13_parametersOf (gR σ x0 5) x1) rfl (Nat.le_of_ble_eq_true rfl) (Nat.le_of_ble_eq_true rfl) (Nat.le_of_ble_eq_true rfl) pu_I dX0_takes_20 (fun r2 σ1 => ?_)
    exact gX0_takes_p23 _ _ _ _ _
  · refine g_aload_n 0 0 dX0_takes_4 rfl rfl ?_
    refine g_getR fdX0_56 dX0_takes_5 ?_
    refine g_iload_n 1 1 dX0_takes_8 rfl rfl ?_
    refine g_callV (fc := fun sς => Sto_resultsOf sς (gR σ x0 5) x1) (ci := 13) (as := [iv x1]) rfl rfl rfl q2892 q2893 mdX0_156 (ctX13_resultsOf (gR σ x0 5) x1) rfl (Nat.le_of_ble_eq_true rfl) (Nat.le_of_ble_eq_true rfl) (Nat.le_of_ble_eq_true rfl) pu_I dX0_takes_9 (fun r4 σ3 => ?_)
    refine g_goto 23 dX0_takes_12 (by decide) ?_
    exact gX0_takes_p23 _ _ _ _ _
theorem V.dX0_call_0 : decode cX0_call 0 = .ok (.aload_n 0, 1) := by decide +kernel
theorem V.dX0_call_1 : decode cX0_call 1 = .ok (.getfield 56, 3) := by decide +kernel
theorem V.dX0_call_4 : decode cX0_call 4 = .ok (.iload_n 1, 1) := by decide +kernel
theorem V.dX0_call_5 : decode cX0_call 5 = .ok (.iload_n 2, 1) := by decide +kernel
theorem V.dX0_call_6 : decode cX0_call 6 = .ok (.iconst 0, 1) := by decide +kernel
theorem V.dX0_call_7 : decode cX0_call 7 = .ok (.invokevirtual 177, 3) := by decide +kernel
theorem V.dX0_call_10 : decode cX0_call 10 = .ok (.ifCond .eq 13, 3) := by decide +kernel
theorem V.dX0_call_13 : decode cX0_call 13 = .ok (.aload_n 0, 1) := by decide +kernel
theorem V.dX0_call_14 : decode cX0_call 14 = .ok (.getfield 65, 3) := by decide +kernel
theorem V.dX0_call_17 : decode cX0_call 17 = .ok (.invokevirtual 123, 3) := by decide +kernel
theorem V.dX0_call_20 : decode cX0_call 20 = .ok (.ifCond .eq 5, 3) := by decide +kernel
theorem V.dX0_call_23 : decode cX0_call 23 = .ok (.iconst 0, 1) := by decide +kernel
theorem V.dX0_call_24 : decode cX0_call 24 = .ok (.ireturn, 1) := by decide +kernel
theorem V.dX0_call_25 : decode cX0_call 25 = .ok (.aload_n 0, 1) := by decide +kernel
theorem V.dX0_call_26 : decode cX0_call 26 = .ok (.getfield 56, 3) := by decide +kernel
theorem V.dX0_call_29 : decode cX0_call 29 = .ok (.iload_n 1, 1) := by decide +kernel
theorem V.dX0_call_30 : decode cX0_call 30 = .ok (.iload_n 2, 1) := by decide +kernel
theorem V.dX0_call_31 : decode cX0_call 31 = .ok (.invokevirtual 181, 3) := by decide +kernel
theorem V.dX0_call_34 : decode cX0_call 34 = .ok (.istore_n 3, 1) := by decide +kernel
theorem V.dX0_call_35 : decode cX0_call 35 = .ok (.aload_n 0, 1) := by decide +kernel
theorem V.dX0_call_36 : decode cX0_call 36 = .ok (.iload_n 3, 1) := by decide +kernel
theorem V.dX0_call_37 : decode cX0_call 37 = .ok (.iconst 0, 1) := by decide +kernel
theorem V.dX0_call_38 : decode cX0_call 38 = .ok (.invokevirtual 184, 3) := by decide +kernel
theorem V.dX0_call_41 : decode cX0_call 41 = .ok (.ifCond .ne 5, 3) := by decide +kernel
theorem V.dX0_call_44 : decode cX0_call 44 = .ok (.iconst 0, 1) := by decide +kernel
theorem V.dX0_call_45 : decode cX0_call 45 = .ok (.ireturn, 1) := by decide +kernel
theorem V.dX0_call_46 : decode cX0_call 46 = .ok (.aload_n 0, 1) := by decide +kernel
theorem V.dX0_call_47 : decode cX0_call 47 = .ok (.getfield 65, 3) := by decide +kernel
theorem V.dX0_call_50 : decode cX0_call 50 = .ok (.iload_n 3, 1) := by decide +kernel
theorem V.dX0_call_51 : decode cX0_call 51 = .ok (.aload_n 0, 1) := by decide +kernel
theorem V.dX0_call_52 : decode cX0_call 52 = .ok (.getfield 69, 3) := by decide +kernel
theorem V.dX0_call_55 : decode cX0_call 55 = .ok (.invokevirtual 142, 3) := by decide +kernel
theorem V.dX0_call_58 : decode cX0_call 58 = .ok (.iconst 1, 1) := by decide +kernel
theorem V.dX0_call_59 : decode cX0_call 59 = .ok (.ireturn, 1) := by decide +kernel
theorem V.mdX0_177 : MD RX0 177 yX13_is cX13_is 4 (some .boolean) 3 := ⟨Or.inl q2882, q373, q2885, by decide, by decide, by decide +kernel⟩
theorem V.mdX0_181 : MD RX0 181 yX13_exported cX13_exported 5 (some .int) 2 := ⟨Or.inl q2886, q373, q2180, by decide, by decide, by decide +kernel⟩
theorem V.mdX0_184 : MD RX0 184 yX0_takes cX0_takes 6 (some .boolean) 2 := ⟨Or.inl q2887, q360, q2890, by decide, by decide, by decide +kernel⟩
/-! ModuleEngine.call(II)Z -/
def V.Eng_call (σ : HS) (x0 : Nat) (x1 : Int32) (x2 : Int32) : Option (Int32 × HS) :=
  ck (tg σ x0 = 1) <|
  ck (tg σ (gR σ x0 5) = 14) <| cl (Sto_is σ (gR σ x0 5) x1 x2 (0 : Int32)) fun r2 σ1 =>
  if r2 = 0 then (
    some ((0 : Int32), σ1))
  else (
    ck (tg σ1 x0 = 1) <|
    ck (tg σ1 (gR σ1 x0 6) = 17) <| cl (Run_isBusy σ1 (gR σ1 x0 6) ) fun r4 σ3 =>
    if r4 = 0 then (
      ck (tg σ3 x0 = 1) <|
      ck (tg σ3 (gR σ3 x0 5) = 14) <| cl (Sto_exported σ3 (gR σ3 x0 5) x1 x2) fun r6 σ5 =>
      ck (tg σ5 x0 = 1) <| cl (Eng_takes σ5 x0 r6 (0 : Int32)) fun r8 σ7 =>
      if r8 = 0 then (
        some ((0 : Int32), σ7))
      else (
        ck (tg σ7 x0 = 1) <|
        ck (tg σ7 x0 = 1) <|
        ck (tg σ7 (gR σ7 x0 6) = 17) <| cl (Run_begin σ7 (gR σ7 x0 6) r6 (gR σ7 x0 7)) fun _ σ9 =>
        some ((1 : Int32), σ9)))
    else (
      some ((0 : Int32), σ3)))
theorem V.ctX0_call (x0 : Nat) (x1 : Int32) (x2 : Int32) : Ct yX0_call  cX0_call 4 (some .boolean) 19 488 eI [av x0, iv x1, iv x2] (fun σ => Eng_call σ x0 x1 x2) := by
  refine Ct.of (own := RX0) (nm := "call") (desc := "(II)Z") rfl (by decide) (Nat.le_of_ble_eq_true rfl) (by decide) (fun X σ => ?_)
  show G X RX0 "call" cX0_call 4 (some .boolean) 19 488 enI 0 [(0, av x0), (1, iv x1), (2, iv x2)] [] σ (Eng_call σ x0 x1 x2)
  unfold Eng_call
  refine g_aload_n 0 0 dX0_call_0 rfl rfl ?_
  refine g_getR fdX0_56 dX0_call_1 ?_
  refine g_iload_n 1 1 dX0_call_4 rfl rfl ?_
  refine g_iload_n 2 2 dX0_call_5 rfl rfl ?_
  refine g_iconst (v := 0) dX0_call_6 (by decide) ?_
  refine g_callV (fc := fun sς => Sto_is sς (gR σ x0 5) x1 x2 (0 : Int32)) (ci := 13) (as := [iv x1, iv x2, iv (0 : Int32)]) rfl rfl rfl q2883 q2884 mdX0_177 (ctX13_is (gR σ x0 5) x1 x2 (0 : Int32)) rfl (Nat.le_of_ble_eq_true rfl) (Nat.le_of_ble_eq_true rfl) (Nat.le_of_ble_eq_true rfl) pu_I dX0_call_7 (fun r2 σ1 => ?_)
  refine g_if_eq 23 dX0_call_10 (by decide) ?_ ?_
  · refine g_iconst (v := 0) dX0_call_23 (by decide) ?_
    exact g_zreturn rfl (by decide +kernel) dX0_call_24
  · refine g_aload_n 0 0 dX0_call_13 rfl rfl ?_
    refine g_getR fdX0_65 dX0_call_14 ?_
    refine g_callV (fc := fun sς => Run_isBusy sς (gR σ1 x0 6) ) (ci := 16) (as := []) rfl rfl rfl q2186 q2187 mdX0_123 (ctX16_isBusy (gR σ1 x0 6) ) rfl (Nat.le_of_ble_eq_true rfl) (Nat.le_of_ble_eq_true rfl) (Nat.le_of_ble_eq_true rfl) pu_I dX0_call_17 (fun r4 σ3 => ?_)
    refine g_if_eq 25 dX0_call_20 (by decide) ?_ ?_
    · refine g_aload_n 0 0 dX0_call_25 rfl rfl ?_
      refine g_getR fdX0_56 dX0_call_26 ?_
      refine g_iload_n 1 1 dX0_call_29 rfl rfl ?_
      refine g_iload_n 2 2 dX0_call_30 rfl rfl ?_
      refine g_callV (fc := fun sς => Sto_exported sς (gR σ3 x0 5) x1 x2) (ci := 13) (as := [iv x1, iv x2]) rfl rfl rfl q2178 q2179 mdX0_181 (ctX13_exported (gR σ3 x0 5) x1 x2) rfl (Nat.le_of_ble_eq_true rfl) (Nat.le_of_ble_eq_true rfl) (Nat.le_of_ble_eq_true rfl) pu_I dX0_call_31 (fun r6 σ5 => ?_)
      refine g_istore_n 3 dX0_call_34 rfl (by decide) rfl ?_
      refine g_aload_n 0 1 dX0_call_35 rfl rfl ?_
      refine g_iload_n 3 0 dX0_call_36 rfl rfl ?_
      refine g_iconst (v := 0) dX0_call_37 (by decide) ?_
      refine g_callV (fc := fun sς => Eng_takes sς x0 r6 (0 : Int32)) (ci := 0) (as := [iv r6, iv (0 : Int32)]) rfl rfl rfl q2889 qs208 mdX0_184 (ctX0_takes x0 r6 (0 : Int32)) rfl (Nat.le_of_ble_eq_true rfl) (Nat.le_of_ble_eq_true rfl) (Nat.le_of_ble_eq_true rfl) pu_I dX0_call_38 (fun r8 σ7 => ?_)
      refine g_if_ne 46 dX0_call_41 (by decide) ?_ ?_
      · refine g_aload_n 0 1 dX0_call_46 rfl rfl ?_
        refine g_getR fdX0_65 dX0_call_47 ?_
        refine g_iload_n 3 0 dX0_call_50 rfl rfl ?_
        refine g_aload_n 0 1 dX0_call_51 rfl rfl ?_
        refine g_getR fdX0_69 dX0_call_52 ?_
        refine g_callV (fc := fun sς => Run_begin sς (gR σ7 x0 6) r6 (gR σ7 x0 7)) (ci := 16) (as := [iv r6, av (gR σ7 x0 7)]) rfl rfl rfl q2368 q2369 mdX0_142 (ctX16_begin (gR σ7 x0 6) r6 (gR σ7 x0 7)) rfl (Nat.le_of_ble_eq_true rfl) (Nat.le_of_ble_eq_true rfl) (Nat.le_of_ble_eq_true rfl) pu_V dX0_call_55 (fun _ σ9 => ?_)
        refine g_iconst (v := 1) dX0_call_58 (by decide) ?_
        exact g_zreturn rfl (by decide +kernel) dX0_call_59
      · refine g_iconst (v := 0) dX0_call_44 (by decide) ?_
        exact g_zreturn rfl (by decide +kernel) dX0_call_45
    · refine g_iconst (v := 0) dX0_call_23 (by decide) ?_
      exact g_zreturn rfl (by decide +kernel) dX0_call_24
theorem V.dX0_run_0 : decode cX0_run 0 = .ok (.iload_n 1, 1) := by decide +kernel
theorem V.dX0_run_1 : decode cX0_run 1 = .ok (.ifCond .lt 9, 3) := by decide +kernel
theorem V.dX0_run_4 : decode cX0_run 4 = .ok (.iload_n 1, 1) := by decide +kernel
theorem V.dX0_run_5 : decode cX0_run 5 = .ok (.ldc 188, 2) := by decide +kernel
theorem V.dX0_run_7 : decode cX0_run 7 = .ok (.if_icmp .le 7, 3) := by decide +kernel
theorem V.dX0_run_10 : decode cX0_run 10 = .ok (.iconst (-1), 1) := by decide +kernel
theorem V.dX0_run_11 : decode cX0_run 11 = .ok (.goto 11, 3) := by decide +kernel
theorem V.dX0_run_14 : decode cX0_run 14 = .ok (.aload_n 0, 1) := by decide +kernel
theorem V.dX0_run_15 : decode cX0_run 15 = .ok (.getfield 65, 3) := by decide +kernel
theorem V.dX0_run_18 : decode cX0_run 18 = .ok (.iload_n 1, 1) := by decide +kernel
theorem V.dX0_run_19 : decode cX0_run 19 = .ok (.invokevirtual 189, 3) := by decide +kernel
theorem V.dX0_run_22 : decode cX0_run 22 = .ok (.ireturn, 1) := by decide +kernel
theorem V.mdX0_189 : MD RX0 189 yX16_run cX16_run 4 (some .int) 1 := ⟨Or.inl q2918, q376, q2921, by decide, by decide, by decide +kernel⟩
/-! ModuleEngine.run(I)I -/
def V.Eng_run_p10  (σ : HS)  : Option (Int32 × HS) :=
  some ((-1 : Int32), σ)
theorem V.gX0_run_p10 {X : CX}  (σ : HS)  : G X RX0 "run" cX0_run 2 (some .int) 19 488 enI 10 [] [] σ (Eng_run_p10 σ ) := by
  unfold Eng_run_p10
  refine g_iconst (v := (-1)) dX0_run_10 (by decide) ?_
  refine g_goto 22 dX0_run_11 (by decide) ?_
  exact g_ireturn rfl dX0_run_22
def V.Eng_run (σ : HS) (x0 : Nat) (x1 : Int32) : Option (Int32 × HS) :=
  if x1 < 0 then (
    Eng_run_p10 σ)
  else (
    if x1 ≤ (100000 : Int32) then (
      ck (tg σ x0 = 1) <|
      ck (tg σ (gR σ x0 6) = 17) <| cl (Run_run σ (gR σ x0 6) x1) fun r2 σ1 =>
      some (r2, σ1))
    else (
      Eng_run_p10 σ))
theorem V.ctX0_run (x0 : Nat) (x1 : Int32) : Ct yX0_run  cX0_run 2 (some .int) 19 488 eI [av x0, iv x1] (fun σ => Eng_run σ x0 x1) := by
  refine Ct.of (own := RX0) (nm := "run") (desc := "(I)I") rfl (by decide) (Nat.le_of_ble_eq_true rfl) (by decide) (fun X σ => ?_)
  show G X RX0 "run" cX0_run 2 (some .int) 19 488 enI 0 [(0, av x0), (1, iv x1)] [] σ (Eng_run σ x0 x1)
  unfold Eng_run
  refine g_iload_n 1 1 dX0_run_0 rfl rfl ?_
  refine g_if_lt 10 dX0_run_1 (by decide) ?_ ?_
  · refine G.sub [] rfl ?_
    exact gX0_run_p10 _
  · refine g_iload_n 1 1 dX0_run_4 rfl rfl ?_
    refine g_ldc q2917 dX0_run_5 ?_
    refine g_icmp_le 14 dX0_run_7 (by decide) ?_ ?_
    · refine g_aload_n 0 0 dX0_run_14 rfl rfl ?_
      refine g_getR fdX0_65 dX0_run_15 ?_
      refine g_iload_n 1 1 dX0_run_18 rfl rfl ?_
      refine g_callV (fc := fun sς => Run_run sς (gR σ x0 6) x1) (ci := 16) (as := [iv x1]) rfl rfl rfl q2919 q2920 mdX0_189 (ctX16_run (gR σ x0 6) x1) rfl (Nat.le_of_ble_eq_true rfl) (Nat.le_of_ble_eq_true rfl) (Nat.le_of_ble_eq_true rfl) pu_I dX0_run_19 (fun r2 σ1 => ?_)
      exact g_ireturn rfl dX0_run_22
    · refine G.sub [] rfl ?_
      exact gX0_run_p10 _
theorem V.dX0_give_0 : decode cX0_give 0 = .ok (.aload_n 0, 1) := by decide +kernel
theorem V.dX0_give_1 : decode cX0_give 1 = .ok (.getfield 65, 3) := by decide +kernel
theorem V.dX0_give_4 : decode cX0_give 4 = .ok (.invokevirtual 123, 3) := by decide +kernel
theorem V.dX0_give_7 : decode cX0_give 7 = .ok (.ifCond .ne 5, 3) := by decide +kernel
theorem V.dX0_give_10 : decode cX0_give 10 = .ok (.iconst 0, 1) := by decide +kernel
theorem V.dX0_give_11 : decode cX0_give 11 = .ok (.ireturn, 1) := by decide +kernel
theorem V.dX0_give_12 : decode cX0_give 12 = .ok (.aload_n 0, 1) := by decide +kernel
theorem V.dX0_give_13 : decode cX0_give 13 = .ok (.getfield 65, 3) := by decide +kernel
theorem V.dX0_give_16 : decode cX0_give 16 = .ok (.bipush 6, 2) := by decide +kernel
theorem V.dX0_give_18 : decode cX0_give 18 = .ok (.putfield 192, 3) := by decide +kernel
theorem V.dX0_give_21 : decode cX0_give 21 = .ok (.aload_n 0, 1) := by decide +kernel
theorem V.dX0_give_22 : decode cX0_give 22 = .ok (.getfield 65, 3) := by decide +kernel
theorem V.dX0_give_25 : decode cX0_give 25 = .ok (.iconst (-1), 1) := by decide +kernel
theorem V.dX0_give_26 : decode cX0_give 26 = .ok (.putfield 195, 3) := by decide +kernel
theorem V.dX0_give_29 : decode cX0_give 29 = .ok (.iconst 1, 1) := by decide +kernel
theorem V.dX0_give_30 : decode cX0_give 30 = .ok (.ireturn, 1) := by decide +kernel
theorem V.fpX0_192 {nm : String} : FP RX0 nm 192 16 18 (.int) := ⟨(RX16, TX16, 26), tyX16, rfl, rfl, in_X16, by decide, tyX16_ok, nmX16, rfl, Or.inl ⟨rfl, Or.inr ⟨_, q1143⟩⟩⟩
theorem V.fpX0_195 {nm : String} : FP RX0 nm 195 16 21 (.int) := ⟨(RX16, TX16, 26), tyX16, rfl, rfl, in_X16, by decide, tyX16_ok, nmX16, rfl, Or.inl ⟨rfl, Or.inr ⟨_, q1149⟩⟩⟩
/-! ModuleEngine.give()Z -/
def V.Eng_give (σ : HS) (x0 : Nat) : Option (Int32 × HS) :=
  ck (tg σ x0 = 1) <|
  ck (tg σ (gR σ x0 6) = 17) <| cl (Run_isBusy σ (gR σ x0 6) ) fun r2 σ1 =>
  if r2 = 0 then (
    some ((0 : Int32), σ1))
  else (
    ck (tg σ1 x0 = 1) <|
    ck (tg σ1 (gR σ1 x0 6) = 17) <| bn (sI σ1 (gR σ1 x0 6) 18 (6 : Int32)) fun σ3 =>
    ck (tg σ3 x0 = 1) <|
    ck (tg σ3 (gR σ3 x0 6) = 17) <| bn (sI σ3 (gR σ3 x0 6) 21 (-1 : Int32)) fun σ4 =>
    some ((1 : Int32), σ4))
theorem V.ctX0_give (x0 : Nat) : Ct yX0_give  cX0_give 1 (some .boolean) 1 20 eI [av x0] (fun σ => Eng_give σ x0) := by
  refine Ct.of (own := RX0) (nm := "give") (desc := "()Z") rfl (by decide) (Nat.le_of_ble_eq_true rfl) (by decide) (fun X σ => ?_)
  show G X RX0 "give" cX0_give 1 (some .boolean) 1 20 enI 0 [(0, av x0)] [] σ (Eng_give σ x0)
  unfold Eng_give
  refine g_aload_n 0 0 dX0_give_0 rfl rfl ?_
  refine g_getR fdX0_65 dX0_give_1 ?_
  refine g_callV (fc := fun sς => Run_isBusy sς (gR σ x0 6) ) (ci := 16) (as := []) rfl rfl rfl q2186 q2187 mdX0_123 (ctX16_isBusy (gR σ x0 6) ) rfl (Nat.le_of_ble_eq_true rfl) (Nat.le_of_ble_eq_true rfl) (Nat.le_of_ble_eq_true rfl) pu_I dX0_give_4 (fun r2 σ1 => ?_)
  refine g_if_ne 12 dX0_give_7 (by decide) ?_ ?_
  · refine g_aload_n 0 0 dX0_give_12 rfl rfl ?_
    refine g_getR fdX0_65 dX0_give_13 ?_
    refine g_bipush (v := 6) dX0_give_16 (by decide) ?_
    refine g_putI fpX0_192 dX0_give_18 (fun σ3 => ?_)
    refine g_aload_n 0 0 dX0_give_21 rfl rfl ?_
    refine g_getR fdX0_65 dX0_give_22 ?_
    refine g_iconst (v := (-1)) dX0_give_25 (by decide) ?_
    refine g_putI fpX0_195 dX0_give_26 (fun σ4 => ?_)
    refine g_iconst (v := 1) dX0_give_29 (by decide) ?_
    exact g_zreturn rfl (by decide +kernel) dX0_give_30
  · refine g_iconst (v := 0) dX0_give_10 (by decide) ?_
    exact g_zreturn rfl (by decide +kernel) dX0_give_11
theorem V.dX0_answer_0 : decode cX0_answer 0 = .ok (.aload_n 0, 1) := by decide +kernel
theorem V.dX0_answer_1 : decode cX0_answer 1 = .ok (.getfield 65, 3) := by decide +kernel
theorem V.dX0_answer_4 : decode cX0_answer 4 = .ok (.getfield 192, 3) := by decide +kernel
theorem V.dX0_answer_7 : decode cX0_answer 7 = .ok (.iconst 5, 1) := by decide +kernel
theorem V.dX0_answer_8 : decode cX0_answer 8 = .ok (.if_icmp .ne 18, 3) := by decide +kernel
theorem V.dX0_answer_11 : decode cX0_answer 11 = .ok (.aload_n 0, 1) := by decide +kernel
theorem V.dX0_answer_12 : decode cX0_answer 12 = .ok (.aload_n 0, 1) := by decide +kernel
theorem V.dX0_answer_13 : decode cX0_answer 13 = .ok (.getfield 65, 3) := by decide +kernel
theorem V.dX0_answer_16 : decode cX0_answer 16 = .ok (.getfield 198, 3) := by decide +kernel
theorem V.dX0_answer_19 : decode cX0_answer 19 = .ok (.iconst 1, 1) := by decide +kernel
theorem V.dX0_answer_20 : decode cX0_answer 20 = .ok (.invokevirtual 184, 3) := by decide +kernel
theorem V.dX0_answer_23 : decode cX0_answer 23 = .ok (.ifCond .ne 5, 3) := by decide +kernel
theorem V.dX0_answer_26 : decode cX0_answer 26 = .ok (.iconst 0, 1) := by decide +kernel
theorem V.dX0_answer_27 : decode cX0_answer 27 = .ok (.ireturn, 1) := by decide +kernel
theorem V.dX0_answer_28 : decode cX0_answer 28 = .ok (.aload_n 0, 1) := by decide +kernel
theorem V.dX0_answer_29 : decode cX0_answer 29 = .ok (.getfield 65, 3) := by decide +kernel
theorem V.dX0_answer_32 : decode cX0_answer 32 = .ok (.aload_n 0, 1) := by decide +kernel
theorem V.dX0_answer_33 : decode cX0_answer 33 = .ok (.getfield 69, 3) := by decide +kernel
theorem V.dX0_answer_36 : decode cX0_answer 36 = .ok (.invokevirtual 201, 3) := by decide +kernel
theorem V.dX0_answer_39 : decode cX0_answer 39 = .ok (.iconst 1, 1) := by decide +kernel
theorem V.dX0_answer_40 : decode cX0_answer 40 = .ok (.ireturn, 1) := by decide +kernel
theorem V.fdX0_192 : FD RX0 192 16 18 0 := ⟨(RX16, TX16, 26), tyX16, rfl, rfl, in_X16, by decide, Or.inr ⟨_, q1143⟩, rfl⟩
theorem V.fdX0_198 : FD RX0 198 16 22 0 := ⟨(RX16, TX16, 26), tyX16, rfl, rfl, in_X16, by decide, Or.inr ⟨_, q1151⟩, rfl⟩
theorem V.mdX0_201 : MD RX0 201 yX16_answer cX16_answer 4 none 1 := ⟨Or.inl q2930, q376, q2933, by decide, by decide, by decide +kernel⟩
/-! ModuleEngine.answer()Z -/
def V.Eng_answer (σ : HS) (x0 : Nat) : Option (Int32 × HS) :=
  ck (tg σ x0 = 1) <|
  ck (tg σ (gR σ x0 6) = 17) <|
  if (gI σ (gR σ x0 6) 18) = (5 : Int32) then (
    ck (tg σ x0 = 1) <|
    ck (tg σ (gR σ x0 6) = 17) <|
    ck (tg σ x0 = 1) <| cl (Eng_takes σ x0 (gI σ (gR σ x0 6) 22) (1 : Int32)) fun r2 σ1 =>
    if r2 = 0 then (
      some ((0 : Int32), σ1))
    else (
      ck (tg σ1 x0 = 1) <|
      ck (tg σ1 x0 = 1) <|
      ck (tg σ1 (gR σ1 x0 6) = 17) <| cl (Run_answer σ1 (gR σ1 x0 6) (gR σ1 x0 7)) fun _ σ3 =>
      some ((1 : Int32), σ3)))
  else (
    some ((0 : Int32), σ))
theorem V.ctX0_answer (x0 : Nat) : Ct yX0_answer  cX0_answer 1 (some .boolean) 19 488 eI [av x0] (fun σ => Eng_answer σ x0) := by
  refine Ct.of (own := RX0) (nm := "answer") (desc := "()Z") rfl (by decide) (Nat.le_of_ble_eq_true rfl) (by decide) (fun X σ => ?_)
  show G X RX0 "answer" cX0_answer 1 (some .boolean) 19 488 enI 0 [(0, av x0)] [] σ (Eng_answer σ x0)
  unfold Eng_answer
  refine g_aload_n 0 0 dX0_answer_0 rfl rfl ?_
  refine g_getR fdX0_65 dX0_answer_1 ?_
  refine g_getI fdX0_192 dX0_answer_4 ?_
  refine g_iconst (v := 5) dX0_answer_7 (by decide) ?_
  refine g_icmp_ne 26 dX0_answer_8 (by decide) ?_ ?_
  · refine g_iconst (v := 0) dX0_answer_26 (by decide) ?_
    exact g_zreturn rfl (by decide +kernel) dX0_answer_27
  · refine g_aload_n 0 0 dX0_answer_11 rfl rfl ?_
    refine g_aload_n 0 0 dX0_answer_12 rfl rfl ?_
    refine g_getR fdX0_65 dX0_answer_13 ?_
    refine g_getI fdX0_198 dX0_answer_16 ?_
    refine g_iconst (v := 1) dX0_answer_19 (by decide) ?_
    refine g_callV (fc := fun sς => Eng_takes sς x0 (gI σ (gR σ x0 6) 22) (1 : Int32)) (ci := 0) (as := [iv (gI σ (gR σ x0 6) 22), iv (1 : Int32)]) rfl rfl rfl q2889 qs208 mdX0_184 (ctX0_takes x0 (gI σ (gR σ x0 6) 22) (1 : Int32)) rfl (Nat.le_of_ble_eq_true rfl) (Nat.le_of_ble_eq_true rfl) (Nat.le_of_ble_eq_true rfl) pu_I dX0_answer_20 (fun r2 σ1 => ?_)
    refine g_if_ne 28 dX0_answer_23 (by decide) ?_ ?_
    · refine g_aload_n 0 0 dX0_answer_28 rfl rfl ?_
      refine g_getR fdX0_65 dX0_answer_29 ?_
      refine g_aload_n 0 0 dX0_answer_32 rfl rfl ?_
      refine g_getR fdX0_69 dX0_answer_33 ?_
      refine g_callV (fc := fun sς => Run_answer sς (gR σ1 x0 6) (gR σ1 x0 7)) (ci := 16) (as := [av (gR σ1 x0 7)]) rfl rfl rfl q2931 q2932 mdX0_201 (ctX16_answer (gR σ1 x0 6) (gR σ1 x0 7)) rfl (Nat.le_of_ble_eq_true rfl) (Nat.le_of_ble_eq_true rfl) (Nat.le_of_ble_eq_true rfl) pu_V dX0_answer_36 (fun _ σ3 => ?_)
      refine g_iconst (v := 1) dX0_answer_39 (by decide) ?_
      exact g_zreturn rfl (by decide +kernel) dX0_answer_40
    · refine g_iconst (v := 0) dX0_answer_26 (by decide) ?_
      exact g_zreturn rfl (by decide +kernel) dX0_answer_27
theorem V.dX0_state_0 : decode cX0_state 0 = .ok (.iload_n 1, 1) := by decide +kernel
theorem V.dX0_state_1 : decode cX0_state 1 = .ok (.tableswitch 200 0 12 #[67, 75, 83, 91, 113, 136, 144, 152, 160, 171, 182, 190, 198], 67) := by decide +kernel
theorem V.dX0_state_68 : decode cX0_state 68 = .ok (.aload_n 0, 1) := by decide +kernel
theorem V.dX0_state_69 : decode cX0_state 69 = .ok (.getfield 65, 3) := by decide +kernel
theorem V.dX0_state_72 : decode cX0_state 72 = .ok (.getfield 192, 3) := by decide +kernel
theorem V.dX0_state_75 : decode cX0_state 75 = .ok (.ireturn, 1) := by decide +kernel
theorem V.dX0_state_76 : decode cX0_state 76 = .ok (.aload_n 0, 1) := by decide +kernel
theorem V.dX0_state_77 : decode cX0_state 77 = .ok (.getfield 65, 3) := by decide +kernel
theorem V.dX0_state_80 : decode cX0_state 80 = .ok (.getfield 205, 3) := by decide +kernel
theorem V.dX0_state_83 : decode cX0_state 83 = .ok (.ireturn, 1) := by decide +kernel
theorem V.dX0_state_84 : decode cX0_state 84 = .ok (.aload_n 0, 1) := by decide +kernel
theorem V.dX0_state_85 : decode cX0_state 85 = .ok (.getfield 65, 3) := by decide +kernel
theorem V.dX0_state_88 : decode cX0_state 88 = .ok (.getfield 208, 3) := by decide +kernel
theorem V.dX0_state_91 : decode cX0_state 91 = .ok (.ireturn, 1) := by decide +kernel
theorem V.dX0_state_92 : decode cX0_state 92 = .ok (.aload_n 0, 1) := by decide +kernel
theorem V.dX0_state_93 : decode cX0_state 93 = .ok (.getfield 65, 3) := by decide +kernel
theorem V.dX0_state_96 : decode cX0_state 96 = .ok (.invokevirtual 123, 3) := by decide +kernel
theorem V.dX0_state_99 : decode cX0_state 99 = .ok (.ifCond .eq 13, 3) := by decide +kernel
theorem V.dX0_state_102 : decode cX0_state 102 = .ok (.aload_n 0, 1) := by decide +kernel
theorem V.dX0_state_103 : decode cX0_state 103 = .ok (.getfield 65, 3) := by decide +kernel
theorem V.dX0_state_106 : decode cX0_state 106 = .ok (.getfield 211, 3) := by decide +kernel
theorem V.dX0_state_109 : decode cX0_state 109 = .ok (.goto 4, 3) := by decide +kernel
theorem V.dX0_state_112 : decode cX0_state 112 = .ok (.iconst 0, 1) := by decide +kernel
theorem V.dX0_state_113 : decode cX0_state 113 = .ok (.ireturn, 1) := by decide +kernel
theorem V.dX0_state_114 : decode cX0_state 114 = .ok (.aload_n 0, 1) := by decide +kernel
theorem V.dX0_state_115 : decode cX0_state 115 = .ok (.getfield 65, 3) := by decide +kernel
theorem V.dX0_state_118 : decode cX0_state 118 = .ok (.getfield 192, 3) := by decide +kernel
theorem V.dX0_state_121 : decode cX0_state 121 = .ok (.iconst 5, 1) := by decide +kernel
theorem V.dX0_state_122 : decode cX0_state 122 = .ok (.if_icmp .ne 13, 3) := by decide +kernel
theorem V.dX0_state_125 : decode cX0_state 125 = .ok (.aload_n 0, 1) := by decide +kernel
theorem V.dX0_state_126 : decode cX0_state 126 = .ok (.getfield 65, 3) := by decide +kernel
theorem V.dX0_state_129 : decode cX0_state 129 = .ok (.getfield 195, 3) := by decide +kernel
theorem V.dX0_state_132 : decode cX0_state 132 = .ok (.goto 4, 3) := by decide +kernel
theorem V.dX0_state_135 : decode cX0_state 135 = .ok (.iconst (-1), 1) := by decide +kernel
theorem V.dX0_state_136 : decode cX0_state 136 = .ok (.ireturn, 1) := by decide +kernel
theorem V.dX0_state_137 : decode cX0_state 137 = .ok (.aload_n 0, 1) := by decide +kernel
theorem V.dX0_state_138 : decode cX0_state 138 = .ok (.getfield 56, 3) := by decide +kernel
theorem V.dX0_state_141 : decode cX0_state 141 = .ok (.getfield 90, 3) := by decide +kernel
theorem V.dX0_state_144 : decode cX0_state 144 = .ok (.ireturn, 1) := by decide +kernel
theorem V.dX0_state_145 : decode cX0_state 145 = .ok (.aload_n 0, 1) := by decide +kernel
theorem V.dX0_state_146 : decode cX0_state 146 = .ok (.getfield 56, 3) := by decide +kernel
theorem V.dX0_state_149 : decode cX0_state 149 = .ok (.getfield 214, 3) := by decide +kernel
theorem V.dX0_state_152 : decode cX0_state 152 = .ok (.ireturn, 1) := by decide +kernel
theorem V.dX0_state_153 : decode cX0_state 153 = .ok (.aload_n 0, 1) := by decide +kernel
theorem V.dX0_state_154 : decode cX0_state 154 = .ok (.getfield 56, 3) := by decide +kernel
theorem V.dX0_state_157 : decode cX0_state 157 = .ok (.invokevirtual 153, 3) := by decide +kernel
theorem V.dX0_state_160 : decode cX0_state 160 = .ok (.ireturn, 1) := by decide +kernel
theorem V.dX0_state_161 : decode cX0_state 161 = .ok (.aload_n 0, 1) := by decide +kernel
theorem V.dX0_state_162 : decode cX0_state 162 = .ok (.getfield 56, 3) := by decide +kernel
theorem V.dX0_state_165 : decode cX0_state 165 = .ok (.getfield 217, 3) := by decide +kernel
theorem V.dX0_state_168 : decode cX0_state 168 = .ok (.invokevirtual 221, 3) := by decide +kernel
theorem V.dX0_state_171 : decode cX0_state 171 = .ok (.ireturn, 1) := by decide +kernel
theorem V.dX0_state_172 : decode cX0_state 172 = .ok (.aload_n 0, 1) := by decide +kernel
theorem V.dX0_state_173 : decode cX0_state 173 = .ok (.getfield 56, 3) := by decide +kernel
theorem V.dX0_state_176 : decode cX0_state 176 = .ok (.getfield 226, 3) := by decide +kernel
theorem V.dX0_state_179 : decode cX0_state 179 = .ok (.invokevirtual 230, 3) := by decide +kernel
theorem V.dX0_state_182 : decode cX0_state 182 = .ok (.ireturn, 1) := by decide +kernel
theorem V.dX0_state_183 : decode cX0_state 183 = .ok (.aload_n 0, 1) := by decide +kernel
theorem V.dX0_state_184 : decode cX0_state 184 = .ok (.getfield 15, 3) := by decide +kernel
theorem V.dX0_state_187 : decode cX0_state 187 = .ok (.getfield 87, 3) := by decide +kernel
theorem V.dX0_state_190 : decode cX0_state 190 = .ok (.ireturn, 1) := by decide +kernel
theorem V.dX0_state_191 : decode cX0_state 191 = .ok (.aload_n 0, 1) := by decide +kernel
theorem V.dX0_state_192 : decode cX0_state 192 = .ok (.getfield 65, 3) := by decide +kernel
theorem V.dX0_state_195 : decode cX0_state 195 = .ok (.getfield 233, 3) := by decide +kernel
theorem V.dX0_state_198 : decode cX0_state 198 = .ok (.ireturn, 1) := by decide +kernel
theorem V.dX0_state_199 : decode cX0_state 199 = .ok (.iconst 0, 1) := by decide +kernel
theorem V.dX0_state_200 : decode cX0_state 200 = .ok (.ireturn, 1) := by decide +kernel
theorem V.dX0_state_201 : decode cX0_state 201 = .ok (.iconst (-1), 1) := by decide +kernel
theorem V.dX0_state_202 : decode cX0_state 202 = .ok (.ireturn, 1) := by decide +kernel
theorem V.fdX0_205 : FD RX0 205 16 19 0 := ⟨(RX16, TX16, 26), tyX16, rfl, rfl, in_X16, by decide, Or.inr ⟨_, q1145⟩, rfl⟩
theorem V.fdX0_208 : FD RX0 208 16 20 0 := ⟨(RX16, TX16, 26), tyX16, rfl, rfl, in_X16, by decide, Or.inr ⟨_, q1147⟩, rfl⟩
theorem V.fdX0_211 : FD RX0 211 16 13 0 := ⟨(RX16, TX16, 26), tyX16, rfl, rfl, in_X16, by decide, Or.inr ⟨_, q1137⟩, rfl⟩
theorem V.fdX0_195 : FD RX0 195 16 21 0 := ⟨(RX16, TX16, 26), tyX16, rfl, rfl, in_X16, by decide, Or.inr ⟨_, q1149⟩, rfl⟩
theorem V.fdX0_214 : FD RX0 214 13 22 0 := ⟨(RX13, TX13, 27), tyX13, rfl, rfl, in_X13, by decide, Or.inr ⟨_, q1054⟩, rfl⟩
theorem V.fdX0_217 : FD RX0 217 13 8 2 := ⟨(RX13, TX13, 27), tyX13, rfl, rfl, in_X13, by decide, Or.inr ⟨_, q1031⟩, rfl⟩
theorem V.mdX0_221 : MD RX0 221 yX15_left cX15_left 1 (some .int) 0 := ⟨Or.inl q2939, q375, q2268, by decide, by decide, by decide +kernel⟩
theorem V.fdX0_226 : FD RX0 226 13 7 2 := ⟨(RX13, TX13, 27), tyX13, rfl, rfl, in_X13, by decide, Or.inr ⟨_, q1028⟩, rfl⟩
theorem V.mdX0_230 : MD RX0 230 yX14_left cX14_left 1 (some .int) 0 := ⟨Or.inl q2940, q374, q2264, by decide, by decide, by decide +kernel⟩
theorem V.fdX0_233 : FD RX0 233 16 11 0 := ⟨(RX16, TX16, 26), tyX16, rfl, rfl, in_X16, by decide, Or.inr ⟨_, q1133⟩, rfl⟩
/-! ModuleEngine.state(I)I -/
def V.Eng_state (σ : HS) (x0 : Nat) (x1 : Int32) : Option (Int32 × HS) :=
  swx x1 [
    (0, (
      ck (tg σ x0 = 1) <|
      ck (tg σ (gR σ x0 6) = 17) <|
      some (gI σ (gR σ x0 6) 18, σ))),
    (1, (
      ck (tg σ x0 = 1) <|
      ck (tg σ (gR σ x0 6) = 17) <|
      some (gI σ (gR σ x0 6) 19, σ))),
    (2, (
      ck (tg σ x0 = 1) <|
      ck (tg σ (gR σ x0 6) = 17) <|
      some (gI σ (gR σ x0 6) 20, σ))),
    (3, (
      ck (tg σ x0 = 1) <|
      ck (tg σ (gR σ x0 6) = 17) <| cl (Run_isBusy σ (gR σ x0 6) ) fun r2 σ1 =>
      if r2 = 0 then (
        some ((0 : Int32), σ1))
      else (
        ck (tg σ1 x0 = 1) <|
        ck (tg σ1 (gR σ1 x0 6) = 17) <|
        some (gI σ1 (gR σ1 x0 6) 13, σ1)))),
    (4, (
      ck (tg σ x0 = 1) <|
      ck (tg σ (gR σ x0 6) = 17) <|
      if (gI σ (gR σ x0 6) 18) = (5 : Int32) then (
        ck (tg σ x0 = 1) <|
        ck (tg σ (gR σ x0 6) = 17) <|
        some (gI σ (gR σ x0 6) 21, σ))
      else (
        some ((-1 : Int32), σ)))),
    (5, (
      ck (tg σ x0 = 1) <|
      ck (tg σ (gR σ x0 5) = 14) <|
      some (gI σ (gR σ x0 5) 2, σ))),
    (6, (
      ck (tg σ x0 = 1) <|
      ck (tg σ (gR σ x0 5) = 14) <|
      some (gI σ (gR σ x0 5) 22, σ))),
    (7, (
      ck (tg σ x0 = 1) <|
      ck (tg σ (gR σ x0 5) = 14) <| cl (Sto_functionCount σ (gR σ x0 5) ) fun r4 σ3 =>
      some (r4, σ3))),
    (8, (
      ck (tg σ x0 = 1) <|
      ck (tg σ (gR σ x0 5) = 14) <|
      ck (tg σ (gR σ (gR σ x0 5) 8) = 16) <| cl (Pag_left σ (gR σ (gR σ x0 5) 8) ) fun r6 σ5 =>
      some (r6, σ5))),
    (9, (
      ck (tg σ x0 = 1) <|
      ck (tg σ (gR σ x0 5) = 14) <|
      ck (tg σ (gR σ (gR σ x0 5) 7) = 15) <| cl (Tab_left σ (gR σ (gR σ x0 5) 7) ) fun r8 σ7 =>
      some (r8, σ7))),
    (10, (
      ck (tg σ x0 = 1) <|
      ck (tg σ (gR σ x0 0) = 2) <|
      some (gI σ (gR σ x0 0) 2, σ))),
    (11, (
      ck (tg σ x0 = 1) <|
      ck (tg σ (gR σ x0 6) = 17) <|
      some (gI σ (gR σ x0 6) 11, σ))),
    (12, (
      some ((0 : Int32), σ)))
    ] (
    some ((-1 : Int32), σ))
theorem V.ctX0_state (x0 : Nat) (x1 : Int32) : Ct yX0_state  cX0_state 2 (some .int) 2 40 eI [av x0, iv x1] (fun σ => Eng_state σ x0 x1) := by
  refine Ct.of (own := RX0) (nm := "state") (desc := "(I)I") rfl (by decide) (Nat.le_of_ble_eq_true rfl) (by decide) (fun X σ => ?_)
  show G X RX0 "state" cX0_state 2 (some .int) 2 40 enI 0 [(0, av x0), (1, iv x1)] [] σ (Eng_state σ x0 x1)
  unfold Eng_state
  refine g_iload_n 1 1 dX0_state_0 rfl rfl ?_
  refine g_tsw dX0_state_1 (by decide +kernel) ?_
  refine g_case ex0 (t := 68) (by decide +kernel) ?_ (fun hx => ?_)
  · refine g_aload_n 0 0 dX0_state_68 rfl rfl ?_
    refine g_getR fdX0_65 dX0_state_69 ?_
    refine g_getI fdX0_192 dX0_state_72 ?_
    exact g_ireturn rfl dX0_state_75
  refine g_case hx (t := 76) (by decide +kernel) ?_ (fun hx => ?_)
  · refine g_aload_n 0 0 dX0_state_76 rfl rfl ?_
    refine g_getR fdX0_65 dX0_state_77 ?_
    refine g_getI fdX0_205 dX0_state_80 ?_
    exact g_ireturn rfl dX0_state_83
  refine g_case hx (t := 84) (by decide +kernel) ?_ (fun hx => ?_)
  · refine g_aload_n 0 0 dX0_state_84 rfl rfl ?_
    refine g_getR fdX0_65 dX0_state_85 ?_
    refine g_getI fdX0_208 dX0_state_88 ?_
    exact g_ireturn rfl dX0_state_91
  refine g_case hx (t := 92) (by decide +kernel) ?_ (fun hx => ?_)
  · refine g_aload_n 0 0 dX0_state_92 rfl rfl ?_
    refine g_getR fdX0_65 dX0_state_93 ?_
    refine g_callV (fc := fun sς => Run_isBusy sς (gR σ x0 6) ) (ci := 16) (as := []) rfl rfl rfl q2186 q2187 mdX0_123 (ctX16_isBusy (gR σ x0 6) ) rfl (Nat.le_of_ble_eq_true rfl) (Nat.le_of_ble_eq_true rfl) (Nat.le_of_ble_eq_true rfl) pu_I dX0_state_96 (fun r2 σ1 => ?_)
    refine g_if_eq 112 dX0_state_99 (by decide) ?_ ?_
    · refine g_iconst (v := 0) dX0_state_112 (by decide) ?_
      exact g_ireturn rfl dX0_state_113
    · refine g_aload_n 0 0 dX0_state_102 rfl rfl ?_
      refine g_getR fdX0_65 dX0_state_103 ?_
      refine g_getI fdX0_211 dX0_state_106 ?_
      refine g_goto 113 dX0_state_109 (by decide) ?_
      exact g_ireturn rfl dX0_state_113
  refine g_case hx (t := 114) (by decide +kernel) ?_ (fun hx => ?_)
  · refine g_aload_n 0 0 dX0_state_114 rfl rfl ?_
    refine g_getR fdX0_65 dX0_state_115 ?_
    refine g_getI fdX0_192 dX0_state_118 ?_
    refine g_iconst (v := 5) dX0_state_121 (by decide) ?_
    refine g_icmp_ne 135 dX0_state_122 (by decide) ?_ ?_
    · refine g_iconst (v := (-1)) dX0_state_135 (by decide) ?_
      exact g_ireturn rfl dX0_state_136
    · refine g_aload_n 0 0 dX0_state_125 rfl rfl ?_
      refine g_getR fdX0_65 dX0_state_126 ?_
      refine g_getI fdX0_195 dX0_state_129 ?_
      refine g_goto 136 dX0_state_132 (by decide) ?_
      exact g_ireturn rfl dX0_state_136
  refine g_case hx (t := 137) (by decide +kernel) ?_ (fun hx => ?_)
  · refine g_aload_n 0 0 dX0_state_137 rfl rfl ?_
    refine g_getR fdX0_56 dX0_state_138 ?_
    refine g_getI fdX0_90 dX0_state_141 ?_
    exact g_ireturn rfl dX0_state_144
  refine g_case hx (t := 145) (by decide +kernel) ?_ (fun hx => ?_)
  · refine g_aload_n 0 0 dX0_state_145 rfl rfl ?_
    refine g_getR fdX0_56 dX0_state_146 ?_
    refine g_getI fdX0_214 dX0_state_149 ?_
    exact g_ireturn rfl dX0_state_152
  refine g_case hx (t := 153) (by decide +kernel) ?_ (fun hx => ?_)
  · refine g_aload_n 0 0 dX0_state_153 rfl rfl ?_
    refine g_getR fdX0_56 dX0_state_154 ?_
    refine g_callV (fc := fun sς => Sto_functionCount sς (gR σ x0 5) ) (ci := 13) (as := []) rfl rfl rfl q2243 q2244 mdX0_153 (ctX13_functionCount (gR σ x0 5) ) rfl (Nat.le_of_ble_eq_true rfl) (Nat.le_of_ble_eq_true rfl) (Nat.le_of_ble_eq_true rfl) pu_I dX0_state_157 (fun r4 σ3 => ?_)
    exact g_ireturn rfl dX0_state_160
  refine g_case hx (t := 161) (by decide +kernel) ?_ (fun hx => ?_)
  · refine g_aload_n 0 0 dX0_state_161 rfl rfl ?_
    refine g_getR fdX0_56 dX0_state_162 ?_
    refine g_getR fdX0_217 dX0_state_165 ?_
    refine g_callV (fc := fun sς => Pag_left sς (gR σ (gR σ x0 5) 8) ) (ci := 15) (as := []) rfl rfl rfl q2266 q2267 mdX0_221 (ctX15_left (gR σ (gR σ x0 5) 8) ) rfl (Nat.le_of_ble_eq_true rfl) (Nat.le_of_ble_eq_true rfl) (Nat.le_of_ble_eq_true rfl) pu_I dX0_state_168 (fun r6 σ5 => ?_)
    exact g_ireturn rfl dX0_state_171
  refine g_case hx (t := 172) (by decide +kernel) ?_ (fun hx => ?_)
  · refine g_aload_n 0 0 dX0_state_172 rfl rfl ?_
    refine g_getR fdX0_56 dX0_state_173 ?_
    refine g_getR fdX0_226 dX0_state_176 ?_
    refine g_callV (fc := fun sς => Tab_left sς (gR σ (gR σ x0 5) 7) ) (ci := 14) (as := []) rfl rfl rfl q2262 q2263 mdX0_230 (ctX14_left (gR σ (gR σ x0 5) 7) ) rfl (Nat.le_of_ble_eq_true rfl) (Nat.le_of_ble_eq_true rfl) (Nat.le_of_ble_eq_true rfl) pu_I dX0_state_179 (fun r8 σ7 => ?_)
    exact g_ireturn rfl dX0_state_182
  refine g_case hx (t := 183) (by decide +kernel) ?_ (fun hx => ?_)
  · refine g_aload_n 0 0 dX0_state_183 rfl rfl ?_
    refine g_getR fdX0_15 dX0_state_184 ?_
    refine g_getI fdX0_87 dX0_state_187 ?_
    exact g_ireturn rfl dX0_state_190
  refine g_case hx (t := 191) (by decide +kernel) ?_ (fun hx => ?_)
  · refine g_aload_n 0 0 dX0_state_191 rfl rfl ?_
    refine g_getR fdX0_65 dX0_state_192 ?_
    refine g_getI fdX0_233 dX0_state_195 ?_
    exact g_ireturn rfl dX0_state_198
  refine g_case hx (t := 199) (by decide +kernel) ?_ (fun hx => ?_)
  · refine g_iconst (v := 0) dX0_state_199 (by decide) ?_
    exact g_ireturn rfl dX0_state_200
  refine g_dflt (t := 201) (tswT_d (by decide +kernel) (by decide +kernel) hx) ?_
  refine g_iconst (v := (-1)) dX0_state_201 (by decide) ?_
  exact g_ireturn rfl dX0_state_202
theorem V.dX0_value_0 : decode cX0_value 0 = .ok (.iload_n 1, 1) := by decide +kernel
theorem V.dX0_value_1 : decode cX0_value 1 = .ok (.ifCond .ge 5, 3) := by decide +kernel
theorem V.dX0_value_4 : decode cX0_value 4 = .ok (.lconst 0, 1) := by decide +kernel
theorem V.dX0_value_5 : decode cX0_value 5 = .ok (.lreturn, 1) := by decide +kernel
theorem V.dX0_value_6 : decode cX0_value 6 = .ok (.aload_n 0, 1) := by decide +kernel
theorem V.dX0_value_7 : decode cX0_value 7 = .ok (.getfield 65, 3) := by decide +kernel
theorem V.dX0_value_10 : decode cX0_value 10 = .ok (.getfield 192, 3) := by decide +kernel
theorem V.dX0_value_13 : decode cX0_value 13 = .ok (.iconst 2, 1) := by decide +kernel
theorem V.dX0_value_14 : decode cX0_value 14 = .ok (.if_icmp .ne 28, 3) := by decide +kernel
theorem V.dX0_value_17 : decode cX0_value 17 = .ok (.iload_n 1, 1) := by decide +kernel
theorem V.dX0_value_18 : decode cX0_value 18 = .ok (.aload_n 0, 1) := by decide +kernel
theorem V.dX0_value_19 : decode cX0_value 19 = .ok (.getfield 65, 3) := by decide +kernel
theorem V.dX0_value_22 : decode cX0_value 22 = .ok (.getfield 236, 3) := by decide +kernel
theorem V.dX0_value_25 : decode cX0_value 25 = .ok (.if_icmp .ge 15, 3) := by decide +kernel
theorem V.dX0_value_28 : decode cX0_value 28 = .ok (.aload_n 0, 1) := by decide +kernel
theorem V.dX0_value_29 : decode cX0_value 29 = .ok (.getfield 65, 3) := by decide +kernel
theorem V.dX0_value_32 : decode cX0_value 32 = .ok (.getfield 237, 3) := by decide +kernel
theorem V.dX0_value_35 : decode cX0_value 35 = .ok (.iload_n 1, 1) := by decide +kernel
theorem V.dX0_value_36 : decode cX0_value 36 = .ok (.laload, 1) := by decide +kernel
theorem V.dX0_value_37 : decode cX0_value 37 = .ok (.goto 4, 3) := by decide +kernel
theorem V.dX0_value_40 : decode cX0_value 40 = .ok (.lconst 0, 1) := by decide +kernel
theorem V.dX0_value_41 : decode cX0_value 41 = .ok (.lreturn, 1) := by decide +kernel
theorem V.dX0_value_42 : decode cX0_value 42 = .ok (.aload_n 0, 1) := by decide +kernel
theorem V.dX0_value_43 : decode cX0_value 43 = .ok (.getfield 65, 3) := by decide +kernel
theorem V.dX0_value_46 : decode cX0_value 46 = .ok (.getfield 192, 3) := by decide +kernel
theorem V.dX0_value_49 : decode cX0_value 49 = .ok (.iconst 5, 1) := by decide +kernel
theorem V.dX0_value_50 : decode cX0_value 50 = .ok (.if_icmp .ne 43, 3) := by decide +kernel
theorem V.dX0_value_53 : decode cX0_value 53 = .ok (.iload_n 1, 1) := by decide +kernel
theorem V.dX0_value_54 : decode cX0_value 54 = .ok (.aload_n 0, 1) := by decide +kernel
theorem V.dX0_value_55 : decode cX0_value 55 = .ok (.getfield 56, 3) := by decide +kernel
theorem V.dX0_value_58 : decode cX0_value 58 = .ok (.aload_n 0, 1) := by decide +kernel
theorem V.dX0_value_59 : decode cX0_value 59 = .ok (.getfield 65, 3) := by decide +kernel
theorem V.dX0_value_62 : decode cX0_value 62 = .ok (.getfield 198, 3) := by decide +kernel
theorem V.dX0_value_65 : decode cX0_value 65 = .ok (.invokevirtual 159, 3) := by decide +kernel
theorem V.dX0_value_68 : decode cX0_value 68 = .ok (.if_icmp .ge 23, 3) := by decide +kernel
theorem V.dX0_value_71 : decode cX0_value 71 = .ok (.aload_n 0, 1) := by decide +kernel
theorem V.dX0_value_72 : decode cX0_value 72 = .ok (.getfield 65, 3) := by decide +kernel
theorem V.dX0_value_75 : decode cX0_value 75 = .ok (.getfield 240, 3) := by decide +kernel
theorem V.dX0_value_78 : decode cX0_value 78 = .ok (.aload_n 0, 1) := by decide +kernel
theorem V.dX0_value_79 : decode cX0_value 79 = .ok (.getfield 65, 3) := by decide +kernel
theorem V.dX0_value_82 : decode cX0_value 82 = .ok (.getfield 243, 3) := by decide +kernel
theorem V.dX0_value_85 : decode cX0_value 85 = .ok (.iload_n 1, 1) := by decide +kernel
theorem V.dX0_value_86 : decode cX0_value 86 = .ok (.iadd, 1) := by decide +kernel
theorem V.dX0_value_87 : decode cX0_value 87 = .ok (.laload, 1) := by decide +kernel
theorem V.dX0_value_88 : decode cX0_value 88 = .ok (.goto 4, 3) := by decide +kernel
theorem V.dX0_value_91 : decode cX0_value 91 = .ok (.lconst 0, 1) := by decide +kernel
theorem V.dX0_value_92 : decode cX0_value 92 = .ok (.lreturn, 1) := by decide +kernel
theorem V.dX0_value_93 : decode cX0_value 93 = .ok (.lconst 0, 1) := by decide +kernel
theorem V.dX0_value_94 : decode cX0_value 94 = .ok (.lreturn, 1) := by decide +kernel
theorem V.fdX0_240 : FD RX0 240 16 4 2 := ⟨(RX16, TX16, 26), tyX16, rfl, rfl, in_X16, by decide, Or.inr ⟨_, q1125⟩, rfl⟩
theorem V.fdX0_243 : FD RX0 243 16 23 0 := ⟨(RX16, TX16, 26), tyX16, rfl, rfl, in_X16, by decide, Or.inr ⟨_, q1153⟩, rfl⟩
theorem V.fdX0_236 : FD RX0 236 16 25 0 := ⟨(RX16, TX16, 26), tyX16, rfl, rfl, in_X16, by decide, Or.inr ⟨_, q1157⟩, rfl⟩
theorem V.fdX0_237 : FD RX0 237 16 24 2 := ⟨(RX16, TX16, 26), tyX16, rfl, rfl, in_X16, by decide, Or.inr ⟨_, q1155⟩, rfl⟩
/-! ModuleEngine.value(I)J -/
def V.Eng_value (σ : HS) (x0 : Nat) (x1 : Int32) : Option (Int64 × HS) :=
  if 0 ≤ x1 then (
    ck (tg σ x0 = 1) <|
    ck (tg σ (gR σ x0 6) = 17) <|
    if (gI σ (gR σ x0 6) 18) = (2 : Int32) then (
      ck (tg σ x0 = 1) <|
      ck (tg σ (gR σ x0 6) = 17) <|
      if (gI σ (gR σ x0 6) 25) ≤ x1 then (
        some ((0 : Int64), σ))
      else (
        ck (tg σ x0 = 1) <|
        ck (tg σ (gR σ x0 6) = 17) <|
        ck (tg σ (gR σ (gR σ x0 6) 24) = 101 ∧ inb x1 (ln σ (gR σ (gR σ x0 6) 24))) <|
        some (gJ σ (gR σ (gR σ x0 6) 24) (ix x1), σ)))
    else (
      ck (tg σ x0 = 1) <|
      ck (tg σ (gR σ x0 6) = 17) <|
      if (gI σ (gR σ x0 6) 18) = (5 : Int32) then (
        ck (tg σ x0 = 1) <|
        ck (tg σ x0 = 1) <|
        ck (tg σ (gR σ x0 6) = 17) <|
        ck (tg σ (gR σ x0 5) = 14) <| cl (Sto_parametersOf σ (gR σ x0 5) (gI σ (gR σ x0 6) 22)) fun r2 σ1 =>
        if r2 ≤ x1 then (
          some ((0 : Int64), σ1))
        else (
          ck (tg σ1 x0 = 1) <|
          ck (tg σ1 (gR σ1 x0 6) = 17) <|
          ck (tg σ1 x0 = 1) <|
          ck (tg σ1 (gR σ1 x0 6) = 17) <|
          ck (tg σ1 (gR σ1 (gR σ1 x0 6) 4) = 101 ∧ inb ((gI σ1 (gR σ1 x0 6) 23) + x1) (ln σ1 (gR σ1 (gR σ1 x0 6) 4))) <|
          some (gJ σ1 (gR σ1 (gR σ1 x0 6) 4) (ix ((gI σ1 (gR σ1 x0 6) 23) + x1)), σ1)))
      else (
        some ((0 : Int64), σ))))
  else (
    some ((0 : Int64), σ))
theorem V.ctX0_value (x0 : Nat) (x1 : Int32) : Ct yX0_value  cX0_value 2 (some .long) 3 63 eJ [av x0, iv x1] (fun σ => Eng_value σ x0 x1) := by
  refine Ct.of (own := RX0) (nm := "value") (desc := "(I)J") rfl (by decide) (Nat.le_of_ble_eq_true rfl) (by decide) (fun X σ => ?_)
  show G X RX0 "value" cX0_value 2 (some .long) 3 63 enJ 0 [(0, av x0), (1, iv x1)] [] σ (Eng_value σ x0 x1)
  unfold Eng_value
  refine g_iload_n 1 1 dX0_value_0 rfl rfl ?_
  refine g_if_ge 6 dX0_value_1 (by decide) ?_ ?_
  · refine g_aload_n 0 0 dX0_value_6 rfl rfl ?_
    refine g_getR fdX0_65 dX0_value_7 ?_
    refine g_getI fdX0_192 dX0_value_10 ?_
    refine g_iconst (v := 2) dX0_value_13 (by decide) ?_
    refine g_icmp_ne 42 dX0_value_14 (by decide) ?_ ?_
    · refine g_aload_n 0 0 dX0_value_42 rfl rfl ?_
      refine g_getR fdX0_65 dX0_value_43 ?_
      refine g_getI fdX0_192 dX0_value_46 ?_
      refine g_iconst (v := 5) dX0_value_49 (by decide) ?_
      refine g_icmp_ne 93 dX0_value_50 (by decide) ?_ ?_
      · refine g_lconst (v := 0) dX0_value_93 (by decide) ?_
        exact g_lreturn rfl dX0_value_94
      · refine g_iload_n 1 1 dX0_value_53 rfl rfl ?_
        refine g_aload_n 0 0 dX0_value_54 rfl rfl ?_
        refine g_getR fdX0_56 dX0_value_55 ?_
        refine g_aload_n 0 0 dX0_value_58 rfl rfl ?_
        refine g_getR fdX0_65 dX0_value_59 ?_
        refine g_getI fdX0_198 dX0_value_62 ?_
        refine g_callV (fc := fun sς => Sto_parametersOf sς (gR σ x0 5) (gI σ (gR σ x0 6) 22)) (ci := 13) (as := [iv (gI σ (gR σ x0 6) 22)]) rfl rfl rfl q2373 q2374 mdX0_159 (ctX13_parametersOf (gR σ x0 5) (gI σ (gR σ x0 6) 22)) rfl (Nat.le_of_ble_eq_true rfl) (Nat.le_of_ble_eq_true rfl) (Nat.le_of_ble_eq_true rfl) pu_I dX0_value_65 (fun r2 σ1 => ?_)
        refine g_icmp_ge 91 dX0_value_68 (by decide) ?_ ?_
        · refine g_lconst (v := 0) dX0_value_91 (by decide) ?_
          exact g_lreturn rfl dX0_value_92
        · refine g_aload_n 0 0 dX0_value_71 rfl rfl ?_
          refine g_getR fdX0_65 dX0_value_72 ?_
          refine g_getR fdX0_240 dX0_value_75 ?_
          refine g_aload_n 0 0 dX0_value_78 rfl rfl ?_
          refine g_getR fdX0_65 dX0_value_79 ?_
          refine g_getI fdX0_243 dX0_value_82 ?_
          refine g_iload_n 1 1 dX0_value_85 rfl rfl ?_
          refine g_iadd dX0_value_86 ?_
          refine g_laload dX0_value_87 ?_
          refine g_goto 92 dX0_value_88 (by decide) ?_
          exact g_lreturn rfl dX0_value_92
    · refine g_iload_n 1 1 dX0_value_17 rfl rfl ?_
      refine g_aload_n 0 0 dX0_value_18 rfl rfl ?_
      refine g_getR fdX0_65 dX0_value_19 ?_
      refine g_getI fdX0_236 dX0_value_22 ?_
      refine g_icmp_ge 40 dX0_value_25 (by decide) ?_ ?_
      · refine g_lconst (v := 0) dX0_value_40 (by decide) ?_
        exact g_lreturn rfl dX0_value_41
      · refine g_aload_n 0 0 dX0_value_28 rfl rfl ?_
        refine g_getR fdX0_65 dX0_value_29 ?_
        refine g_getR fdX0_237 dX0_value_32 ?_
        refine g_iload_n 1 1 dX0_value_35 rfl rfl ?_
        refine g_laload dX0_value_36 ?_
        refine g_goto 41 dX0_value_37 (by decide) ?_
        exact g_lreturn rfl dX0_value_41
  · refine g_lconst (v := 0) dX0_value_4 (by decide) ?_
    exact g_lreturn rfl dX0_value_5
theorem V.dX0_tier_0 : decode cX0_tier 0 = .ok (.iload_n 1, 1) := by decide +kernel
theorem V.dX0_tier_1 : decode cX0_tier 1 = .ok (.ifCond .ge 5, 3) := by decide +kernel
theorem V.dX0_tier_4 : decode cX0_tier 4 = .ok (.iconst (-1), 1) := by decide +kernel
theorem V.dX0_tier_5 : decode cX0_tier 5 = .ok (.ireturn, 1) := by decide +kernel
theorem V.dX0_tier_6 : decode cX0_tier 6 = .ok (.aload_n 0, 1) := by decide +kernel
theorem V.dX0_tier_7 : decode cX0_tier 7 = .ok (.getfield 65, 3) := by decide +kernel
theorem V.dX0_tier_10 : decode cX0_tier 10 = .ok (.getfield 246, 3) := by decide +kernel
theorem V.dX0_tier_13 : decode cX0_tier 13 = .ok (.istore_n 2, 1) := by decide +kernel
theorem V.dX0_tier_14 : decode cX0_tier 14 = .ok (.aload_n 0, 1) := by decide +kernel
theorem V.dX0_tier_15 : decode cX0_tier 15 = .ok (.getfield 65, 3) := by decide +kernel
theorem V.dX0_tier_18 : decode cX0_tier 18 = .ok (.iload_n 1, 1) := by decide +kernel
theorem V.dX0_tier_19 : decode cX0_tier 19 = .ok (.putfield 246, 3) := by decide +kernel
theorem V.dX0_tier_22 : decode cX0_tier 22 = .ok (.iload_n 2, 1) := by decide +kernel
theorem V.dX0_tier_23 : decode cX0_tier 23 = .ok (.ireturn, 1) := by decide +kernel
theorem V.fdX0_246 : FD RX0 246 16 12 0 := ⟨(RX16, TX16, 26), tyX16, rfl, rfl, in_X16, by decide, Or.inr ⟨_, q1135⟩, rfl⟩
theorem V.fpX0_246 {nm : String} : FP RX0 nm 246 16 12 (.int) := ⟨(RX16, TX16, 26), tyX16, rfl, rfl, in_X16, by decide, tyX16_ok, nmX16, rfl, Or.inl ⟨rfl, Or.inr ⟨_, q1135⟩⟩⟩
/-! ModuleEngine.tier(I)I -/
def V.Eng_tier (σ : HS) (x0 : Nat) (x1 : Int32) : Option (Int32 × HS) :=
  if 0 ≤ x1 then (
    ck (tg σ x0 = 1) <|
    ck (tg σ (gR σ x0 6) = 17) <|
    bn (gI σ (gR σ x0 6) 12) fun y1 =>
    ck (tg σ x0 = 1) <|
    ck (tg σ (gR σ x0 6) = 17) <| bn (sI σ (gR σ x0 6) 12 x1) fun σ2 =>
    some (y1, σ2))
  else (
    some ((-1 : Int32), σ))
theorem V.ctX0_tier (x0 : Nat) (x1 : Int32) : Ct yX0_tier  cX0_tier 3 (some .int) 0 0 eI [av x0, iv x1] (fun σ => Eng_tier σ x0 x1) := by
  refine Ct.of (own := RX0) (nm := "tier") (desc := "(I)I") rfl (by decide) (Nat.le_of_ble_eq_true rfl) (by decide) (fun X σ => ?_)
  show G X RX0 "tier" cX0_tier 3 (some .int) 0 0 enI 0 [(0, av x0), (1, iv x1)] [] σ (Eng_tier σ x0 x1)
  unfold Eng_tier
  refine g_iload_n 1 1 dX0_tier_0 rfl rfl ?_
  refine g_if_ge 6 dX0_tier_1 (by decide) ?_ ?_
  · refine g_aload_n 0 0 dX0_tier_6 rfl rfl ?_
    refine g_getR fdX0_65 dX0_tier_7 ?_
    refine g_getI fdX0_246 dX0_tier_10 ?_
    refine g_nmI (fun y1 => ?_)
    refine g_istore_n 2 dX0_tier_13 rfl (by decide) rfl ?_
    refine g_aload_n 0 1 dX0_tier_14 rfl rfl ?_
    refine g_getR fdX0_65 dX0_tier_15 ?_
    refine g_iload_n 1 2 dX0_tier_18 rfl rfl ?_
    refine g_putI fpX0_246 dX0_tier_19 (fun σ2 => ?_)
    refine g_iload_n 2 0 dX0_tier_22 rfl rfl ?_
    exact g_ireturn rfl dX0_tier_23
  · refine g_iconst (v := (-1)) dX0_tier_4 (by decide) ?_
    exact g_ireturn rfl dX0_tier_5
theorem V.dX0_export_0 : decode cX0_export 0 = .ok (.aload_n 0, 1) := by decide +kernel
theorem V.dX0_export_1 : decode cX0_export 1 = .ok (.getfield 56, 3) := by decide +kernel
theorem V.dX0_export_4 : decode cX0_export 4 = .ok (.iload_n 1, 1) := by decide +kernel
theorem V.dX0_export_5 : decode cX0_export 5 = .ok (.iload_n 2, 1) := by decide +kernel
theorem V.dX0_export_6 : decode cX0_export 6 = .ok (.invokevirtual 249, 3) := by decide +kernel
theorem V.dX0_export_9 : decode cX0_export 9 = .ok (.ifCond .ne 5, 3) := by decide +kernel
theorem V.dX0_export_12 : decode cX0_export 12 = .ok (.iconst (-1), 1) := by decide +kernel
theorem V.dX0_export_13 : decode cX0_export 13 = .ok (.ireturn, 1) := by decide +kernel
theorem V.dX0_export_14 : decode cX0_export 14 = .ok (.aload_n 0, 1) := by decide +kernel
theorem V.dX0_export_15 : decode cX0_export 15 = .ok (.getfield 56, 3) := by decide +kernel
theorem V.dX0_export_18 : decode cX0_export 18 = .ok (.iload_n 1, 1) := by decide +kernel
theorem V.dX0_export_19 : decode cX0_export 19 = .ok (.iload_n 2, 1) := by decide +kernel
theorem V.dX0_export_20 : decode cX0_export 20 = .ok (.invokevirtual 253, 3) := by decide +kernel
theorem V.dX0_export_23 : decode cX0_export 23 = .ok (.istore 4, 2) := by decide +kernel
theorem V.dX0_export_25 : decode cX0_export 25 = .ok (.aload_n 0, 1) := by decide +kernel
theorem V.dX0_export_26 : decode cX0_export 26 = .ok (.getfield 56, 3) := by decide +kernel
theorem V.dX0_export_29 : decode cX0_export 29 = .ok (.iload_n 1, 1) := by decide +kernel
theorem V.dX0_export_30 : decode cX0_export 30 = .ok (.iload_n 2, 1) := by decide +kernel
theorem V.dX0_export_31 : decode cX0_export 31 = .ok (.invokevirtual 181, 3) := by decide +kernel
theorem V.dX0_export_34 : decode cX0_export 34 = .ok (.istore 5, 2) := by decide +kernel
theorem V.dX0_export_36 : decode cX0_export 36 = .ok (.iload_n 3, 1) := by decide +kernel
theorem V.dX0_export_37 : decode cX0_export 37 = .ok (.tableswitch 150 0 5 #[39, 42, 45, 64, 83, 127], 39) := by decide +kernel
theorem V.dX0_export_76 : decode cX0_export 76 = .ok (.iload 4, 2) := by decide +kernel
theorem V.dX0_export_78 : decode cX0_export 78 = .ok (.ireturn, 1) := by decide +kernel
theorem V.dX0_export_79 : decode cX0_export 79 = .ok (.iload 5, 2) := by decide +kernel
theorem V.dX0_export_81 : decode cX0_export 81 = .ok (.ireturn, 1) := by decide +kernel
theorem V.dX0_export_82 : decode cX0_export 82 = .ok (.iload 4, 2) := by decide +kernel
theorem V.dX0_export_84 : decode cX0_export 84 = .ok (.ifCond .ne 15, 3) := by decide +kernel
theorem V.dX0_export_87 : decode cX0_export 87 = .ok (.aload_n 0, 1) := by decide +kernel
theorem V.dX0_export_88 : decode cX0_export 88 = .ok (.getfield 56, 3) := by decide +kernel
theorem V.dX0_export_91 : decode cX0_export 91 = .ok (.iload 5, 2) := by decide +kernel
theorem V.dX0_export_93 : decode cX0_export 93 = .ok (.invokevirtual 159, 3) := by decide +kernel
theorem V.dX0_export_96 : decode cX0_export 96 = .ok (.goto 4, 3) := by decide +kernel
theorem V.dX0_export_99 : decode cX0_export 99 = .ok (.iconst (-1), 1) := by decide +kernel
theorem V.dX0_export_100 : decode cX0_export 100 = .ok (.ireturn, 1) := by decide +kernel
theorem V.dX0_export_101 : decode cX0_export 101 = .ok (.iload 4, 2) := by decide +kernel
theorem V.dX0_export_103 : decode cX0_export 103 = .ok (.ifCond .ne 15, 3) := by decide +kernel
theorem V.dX0_export_106 : decode cX0_export 106 = .ok (.aload_n 0, 1) := by decide +kernel
theorem V.dX0_export_107 : decode cX0_export 107 = .ok (.getfield 56, 3) := by decide +kernel
theorem V.dX0_export_110 : decode cX0_export 110 = .ok (.iload 5, 2) := by decide +kernel
theorem V.dX0_export_112 : decode cX0_export 112 = .ok (.invokevirtual 156, 3) := by decide +kernel
theorem V.dX0_export_115 : decode cX0_export 115 = .ok (.goto 4, 3) := by decide +kernel
theorem V.dX0_export_118 : decode cX0_export 118 = .ok (.iconst (-1), 1) := by decide +kernel
theorem V.dX0_export_119 : decode cX0_export 119 = .ok (.ireturn, 1) := by decide +kernel
theorem V.dX0_export_120 : decode cX0_export 120 = .ok (.iload 4, 2) := by decide +kernel
theorem V.dX0_export_122 : decode cX0_export 122 = .ok (.iconst 1, 1) := by decide +kernel
theorem V.dX0_export_123 : decode cX0_export 123 = .ok (.if_icmp .ne 18, 3) := by decide +kernel
theorem V.dX0_export_126 : decode cX0_export 126 = .ok (.aload_n 0, 1) := by decide +kernel
theorem V.dX0_export_127 : decode cX0_export 127 = .ok (.getfield 56, 3) := by decide +kernel
theorem V.dX0_export_130 : decode cX0_export 130 = .ok (.getfield 226, 3) := by decide +kernel
theorem V.dX0_export_133 : decode cX0_export 133 = .ok (.iload 5, 2) := by decide +kernel
theorem V.dX0_export_135 : decode cX0_export 135 = .ok (.invokevirtual 256, 3) := by decide +kernel
theorem V.dX0_export_138 : decode cX0_export 138 = .ok (.goto 25, 3) := by decide +kernel
theorem V.dX0_export_141 : decode cX0_export 141 = .ok (.iload 4, 2) := by decide +kernel
theorem V.dX0_export_143 : decode cX0_export 143 = .ok (.iconst 2, 1) := by decide +kernel
theorem V.dX0_export_144 : decode cX0_export 144 = .ok (.if_icmp .ne 18, 3) := by decide +kernel
theorem V.dX0_export_147 : decode cX0_export 147 = .ok (.aload_n 0, 1) := by decide +kernel
theorem V.dX0_export_148 : decode cX0_export 148 = .ok (.getfield 56, 3) := by decide +kernel
theorem V.dX0_export_151 : decode cX0_export 151 = .ok (.getfield 217, 3) := by decide +kernel
theorem V.dX0_export_154 : decode cX0_export 154 = .ok (.iload 5, 2) := by decide +kernel
theorem V.dX0_export_156 : decode cX0_export 156 = .ok (.invokevirtual 258, 3) := by decide +kernel
theorem V.dX0_export_159 : decode cX0_export 159 = .ok (.goto 4, 3) := by decide +kernel
theorem V.dX0_export_162 : decode cX0_export 162 = .ok (.iconst (-1), 1) := by decide +kernel
theorem V.dX0_export_163 : decode cX0_export 163 = .ok (.ireturn, 1) := by decide +kernel
theorem V.dX0_export_164 : decode cX0_export 164 = .ok (.iload 4, 2) := by decide +kernel
theorem V.dX0_export_166 : decode cX0_export 166 = .ok (.iconst 3, 1) := by decide +kernel
theorem V.dX0_export_167 : decode cX0_export 167 = .ok (.if_icmp .ne 18, 3) := by decide +kernel
theorem V.dX0_export_170 : decode cX0_export 170 = .ok (.aload_n 0, 1) := by decide +kernel
theorem V.dX0_export_171 : decode cX0_export 171 = .ok (.getfield 56, 3) := by decide +kernel
theorem V.dX0_export_174 : decode cX0_export 174 = .ok (.getfield 259, 3) := by decide +kernel
theorem V.dX0_export_177 : decode cX0_export 177 = .ok (.iload 5, 2) := by decide +kernel
theorem V.dX0_export_179 : decode cX0_export 179 = .ok (.invokevirtual 263, 3) := by decide +kernel
theorem V.dX0_export_182 : decode cX0_export 182 = .ok (.goto 4, 3) := by decide +kernel
theorem V.dX0_export_185 : decode cX0_export 185 = .ok (.iconst (-1), 1) := by decide +kernel
theorem V.dX0_export_186 : decode cX0_export 186 = .ok (.ireturn, 1) := by decide +kernel
theorem V.dX0_export_187 : decode cX0_export 187 = .ok (.iconst (-1), 1) := by decide +kernel
theorem V.dX0_export_188 : decode cX0_export 188 = .ok (.ireturn, 1) := by decide +kernel
theorem V.mdX0_249 : MD RX0 249 yX13_isExport cX13_isExport 3 (some .boolean) 2 := ⟨Or.inl q2953, q373, q2161, by decide, by decide, by decide +kernel⟩
theorem V.mdX0_253 : MD RX0 253 yX13_exportKind cX13_exportKind 3 (some .int) 2 := ⟨Or.inl q2954, q373, q2174, by decide, by decide, by decide +kernel⟩
theorem V.mdX0_258 : MD RX0 258 yX15_size cX15_size 2 (some .int) 1 := ⟨Or.inl q2956, q375, q2233, by decide, by decide, by decide +kernel⟩
theorem V.mdX0_256 : MD RX0 256 yX14_size cX14_size 2 (some .int) 1 := ⟨Or.inl q2955, q374, q2218, by decide, by decide, by decide +kernel⟩
theorem V.fdX0_259 : FD RX0 259 13 11 2 := ⟨(RX13, TX13, 27), tyX13, rfl, rfl, in_X13, by decide, Or.inr ⟨_, q1036⟩, rfl⟩
theorem V.mdX0_263 : MD RX0 263 yX3_at cX3_at 2 (some .int) 1 := ⟨Or.inl q2957, q363, q1411, by decide, by decide, by decide +kernel⟩
/-! ModuleEngine.export(III)I -/
def V.Eng_export (σ : HS) (x0 : Nat) (x1 : Int32) (x2 : Int32) (x3 : Int32) : Option (Int32 × HS) :=
  ck (tg σ x0 = 1) <|
  ck (tg σ (gR σ x0 5) = 14) <| cl (Sto_isExport σ (gR σ x0 5) x1 x2) fun r2 σ1 =>
  if r2 = 0 then (
    some ((-1 : Int32), σ1))
  else (
    ck (tg σ1 x0 = 1) <|
    ck (tg σ1 (gR σ1 x0 5) = 14) <| cl (Sto_exportKind σ1 (gR σ1 x0 5) x1 x2) fun r4 σ3 =>
    ck (tg σ3 x0 = 1) <|
    ck (tg σ3 (gR σ3 x0 5) = 14) <| cl (Sto_exported σ3 (gR σ3 x0 5) x1 x2) fun r6 σ5 =>
    swx x3 [
      (0, (
        some (r4, σ5))),
      (1, (
        some (r6, σ5))),
      (2, (
        if r4 = 0 then (
          ck (tg σ5 x0 = 1) <|
          ck (tg σ5 (gR σ5 x0 5) = 14) <| cl (Sto_parametersOf σ5 (gR σ5 x0 5) r6) fun r8 σ7 =>
          some (r8, σ7))
        else (
          some ((-1 : Int32), σ5)))),
      (3, (
        if r4 = 0 then (
          ck (tg σ5 x0 = 1) <|
          ck (tg σ5 (gR σ5 x0 5) = 14) <| cl (Sto_resultsOf σ5 (gR σ5 x0 5) r6) fun r10 σ9 =>
          some (r10, σ9))
        else (
          some ((-1 : Int32), σ5)))),
      (4, (
        if r4 = (1 : Int32) then (
          ck (tg σ5 x0 = 1) <|
          ck (tg σ5 (gR σ5 x0 5) = 14) <|
          ck (tg σ5 (gR σ5 (gR σ5 x0 5) 7) = 15) <| cl (Tab_size σ5 (gR σ5 (gR σ5 x0 5) 7) r6) fun r14 σ13 =>
          some (r14, σ13))
        else (
          if r4 = (2 : Int32) then (
            ck (tg σ5 x0 = 1) <|
            ck (tg σ5 (gR σ5 x0 5) = 14) <|
            ck (tg σ5 (gR σ5 (gR σ5 x0 5) 8) = 16) <| cl (Pag_size σ5 (gR σ5 (gR σ5 x0 5) 8) r6) fun r12 σ11 =>
            some (r12, σ11))
          else (
            some ((-1 : Int32), σ5))))),
      (5, (
        if r4 = (3 : Int32) then (
          ck (tg σ5 x0 = 1) <|
          ck (tg σ5 (gR σ5 x0 5) = 14) <|
          ck (tg σ5 (gR σ5 (gR σ5 x0 5) 11) = 4) <| cl (Row_at σ5 (gR σ5 (gR σ5 x0 5) 11) r6) fun r16 σ15 =>
          some (r16, σ15))
        else (
          some ((-1 : Int32), σ5))))
      ] (
      some ((-1 : Int32), σ5)))
theorem V.ctX0_export (x0 : Nat) (x1 : Int32) (x2 : Int32) (x3 : Int32) : Ct yX0_export  cX0_export 6 (some .int) 4 84 eI [av x0, iv x1, iv x2, iv x3] (fun σ => Eng_export σ x0 x1 x2 x3) := by
  refine Ct.of (own := RX0) (nm := "export") (desc := "(III)I") rfl (by decide) (Nat.le_of_ble_eq_true rfl) (by decide) (fun X σ => ?_)
  show G X RX0 "export" cX0_export 6 (some .int) 4 84 enI 0 [(0, av x0), (1, iv x1), (2, iv x2), (3, iv x3)] [] σ (Eng_export σ x0 x1 x2 x3)
  unfold Eng_export
  refine g_aload_n 0 0 dX0_export_0 rfl rfl ?_
  refine g_getR fdX0_56 dX0_export_1 ?_
  refine g_iload_n 1 1 dX0_export_4 rfl rfl ?_
  refine g_iload_n 2 2 dX0_export_5 rfl rfl ?_
  refine g_callV (fc := fun sς => Sto_isExport sς (gR σ x0 5) x1 x2) (ci := 13) (as := [iv x1, iv x2]) rfl rfl rfl q2159 q2160 mdX0_249 (ctX13_isExport (gR σ x0 5) x1 x2) rfl (Nat.le_of_ble_eq_true rfl) (Nat.le_of_ble_eq_true rfl) (Nat.le_of_ble_eq_true rfl) pu_I dX0_export_6 (fun r2 σ1 => ?_)
  refine g_if_ne 14 dX0_export_9 (by decide) ?_ ?_
  · refine g_aload_n 0 0 dX0_export_14 rfl rfl ?_
    refine g_getR fdX0_56 dX0_export_15 ?_
    refine g_iload_n 1 1 dX0_export_18 rfl rfl ?_
    refine g_iload_n 2 2 dX0_export_19 rfl rfl ?_
    refine g_callV (fc := fun sς => Sto_exportKind sς (gR σ1 x0 5) x1 x2) (ci := 13) (as := [iv x1, iv x2]) rfl rfl rfl q2172 q2173 mdX0_253 (ctX13_exportKind (gR σ1 x0 5) x1 x2) rfl (Nat.le_of_ble_eq_true rfl) (Nat.le_of_ble_eq_true rfl) (Nat.le_of_ble_eq_true rfl) pu_I dX0_export_20 (fun r4 σ3 => ?_)
    refine g_istore dX0_export_23 (by decide) rfl ?_
    refine g_aload_n 0 1 dX0_export_25 rfl rfl ?_
    refine g_getR fdX0_56 dX0_export_26 ?_
    refine g_iload_n 1 2 dX0_export_29 rfl rfl ?_
    refine g_iload_n 2 3 dX0_export_30 rfl rfl ?_
    refine g_callV (fc := fun sς => Sto_exported sς (gR σ3 x0 5) x1 x2) (ci := 13) (as := [iv x1, iv x2]) rfl rfl rfl q2178 q2179 mdX0_181 (ctX13_exported (gR σ3 x0 5) x1 x2) rfl (Nat.le_of_ble_eq_true rfl) (Nat.le_of_ble_eq_true rfl) (Nat.le_of_ble_eq_true rfl) pu_I dX0_export_31 (fun r6 σ5 => ?_)
    refine g_istore dX0_export_34 (by decide) rfl ?_
    refine g_iload_n 3 5 dX0_export_36 rfl rfl ?_
    refine g_tsw dX0_export_37 (by decide +kernel) ?_
    refine g_case ex0 (t := 76) (by decide +kernel) ?_ (fun hx => ?_)
    · refine g_iload 1 dX0_export_76 rfl ?_
      exact g_ireturn rfl dX0_export_78
    refine g_case hx (t := 79) (by decide +kernel) ?_ (fun hx => ?_)
    · refine g_iload 0 dX0_export_79 rfl ?_
      exact g_ireturn rfl dX0_export_81
    refine g_case hx (t := 82) (by decide +kernel) ?_ (fun hx => ?_)
    · refine g_iload 1 dX0_export_82 rfl ?_
      refine g_if_ne 99 dX0_export_84 (by decide) ?_ ?_
      · refine g_iconst (v := (-1)) dX0_export_99 (by decide) ?_
        exact g_ireturn rfl dX0_export_100
      · refine g_aload_n 0 2 dX0_export_87 rfl rfl ?_
        refine g_getR fdX0_56 dX0_export_88 ?_
        refine g_iload 0 dX0_export_91 rfl ?_
        refine g_callV (fc := fun sς => Sto_parametersOf sς (gR σ5 x0 5) r6) (ci := 13) (as := [iv r6]) rfl rfl rfl q2373 q2374 mdX0_159 (ctX13_parametersOf (gR σ5 x0 5) r6) rfl (Nat.le_of_ble_eq_true rfl) (Nat.le_of_ble_eq_true rfl) (Nat.le_of_ble_eq_true rfl) pu_I dX0_export_93 (fun r8 σ7 => ?_)
        refine g_goto 100 dX0_export_96 (by decide) ?_
        exact g_ireturn rfl dX0_export_100
    refine g_case hx (t := 101) (by decide +kernel) ?_ (fun hx => ?_)
    · refine g_iload 1 dX0_export_101 rfl ?_
      refine g_if_ne 118 dX0_export_103 (by decide) ?_ ?_
      · refine g_iconst (v := (-1)) dX0_export_118 (by decide) ?_
        exact g_ireturn rfl dX0_export_119
      · refine g_aload_n 0 2 dX0_export_106 rfl rfl ?_
        refine g_getR fdX0_56 dX0_export_107 ?_
        refine g_iload 0 dX0_export_110 rfl ?_
        refine g_callV (fc := fun sς => Sto_resultsOf sς (gR σ5 x0 5) r6) (ci := 13) (as := [iv r6]) rfl rfl rfl q2892 q2893 mdX0_156 (ctX13_resultsOf (gR σ5 x0 5) r6) rfl (Nat.le_of_ble_eq_true rfl) (Nat.le_of_ble_eq_true rfl) (Nat.le_of_ble_eq_true rfl) pu_I dX0_export_112 (fun r10 σ9 => ?_)
        refine g_goto 119 dX0_export_115 (by decide) ?_
        exact g_ireturn rfl dX0_export_119
    refine g_case hx (t := 120) (by decide +kernel) ?_ (fun hx => ?_)
    · refine g_iload 1 dX0_export_120 rfl ?_
      refine g_iconst (v := 1) dX0_export_122 (by decide) ?_
      refine g_icmp_ne 141 dX0_export_123 (by decide) ?_ ?_
      · refine g_iload 1 dX0_export_141 rfl ?_
        refine g_iconst (v := 2) dX0_export_143 (by decide) ?_
        refine g_icmp_ne 162 dX0_export_144 (by decide) ?_ ?_
        · refine g_iconst (v := (-1)) dX0_export_162 (by decide) ?_
          exact g_ireturn rfl dX0_export_163
        · refine g_aload_n 0 2 dX0_export_147 rfl rfl ?_
          refine g_getR fdX0_56 dX0_export_148 ?_
          refine g_getR fdX0_217 dX0_export_151 ?_
          refine g_iload 0 dX0_export_154 rfl ?_
          refine g_callV (fc := fun sς => Pag_size sς (gR σ5 (gR σ5 x0 5) 8) r6) (ci := 15) (as := [iv r6]) rfl rfl rfl q2231 q2232 mdX0_258 (ctX15_size (gR σ5 (gR σ5 x0 5) 8) r6) rfl (Nat.le_of_ble_eq_true rfl) (Nat.le_of_ble_eq_true rfl) (Nat.le_of_ble_eq_true rfl) pu_I dX0_export_156 (fun r12 σ11 => ?_)
          refine g_goto 163 dX0_export_159 (by decide) ?_
          exact g_ireturn rfl dX0_export_163
      · refine g_aload_n 0 2 dX0_export_126 rfl rfl ?_
        refine g_getR fdX0_56 dX0_export_127 ?_
        refine g_getR fdX0_226 dX0_export_130 ?_
        refine g_iload 0 dX0_export_133 rfl ?_
        refine g_callV (fc := fun sς => Tab_size sς (gR σ5 (gR σ5 x0 5) 7) r6) (ci := 14) (as := [iv r6]) rfl rfl rfl q2216 q2217 mdX0_256 (ctX14_size (gR σ5 (gR σ5 x0 5) 7) r6) rfl (Nat.le_of_ble_eq_true rfl) (Nat.le_of_ble_eq_true rfl) (Nat.le_of_ble_eq_true rfl) pu_I dX0_export_135 (fun r14 σ13 => ?_)
        refine g_goto 163 dX0_export_138 (by decide) ?_
        exact g_ireturn rfl dX0_export_163
    refine g_case hx (t := 164) (by decide +kernel) ?_ (fun hx => ?_)
    · refine g_iload 1 dX0_export_164 rfl ?_
      refine g_iconst (v := 3) dX0_export_166 (by decide) ?_
      refine g_icmp_ne 185 dX0_export_167 (by decide) ?_ ?_
      · refine g_iconst (v := (-1)) dX0_export_185 (by decide) ?_
        exact g_ireturn rfl dX0_export_186
      · refine g_aload_n 0 2 dX0_export_170 rfl rfl ?_
        refine g_getR fdX0_56 dX0_export_171 ?_
        refine g_getR fdX0_259 dX0_export_174 ?_
        refine g_iload 0 dX0_export_177 rfl ?_
        refine g_callV (fc := fun sς => Row_at sς (gR σ5 (gR σ5 x0 5) 11) r6) (ci := 3) (as := [iv r6]) rfl rfl rfl q1409 q1410 mdX0_263 (ctX3_at (gR σ5 (gR σ5 x0 5) 11) r6) rfl (Nat.le_of_ble_eq_true rfl) (Nat.le_of_ble_eq_true rfl) (Nat.le_of_ble_eq_true rfl) pu_I dX0_export_179 (fun r16 σ15 => ?_)
        refine g_goto 186 dX0_export_182 (by decide) ?_
        exact g_ireturn rfl dX0_export_186
    refine g_dflt (t := 187) (tswT_d (by decide +kernel) (by decide +kernel) hx) ?_
    refine g_iconst (v := (-1)) dX0_export_187 (by decide) ?_
    exact g_ireturn rfl dX0_export_188
  · refine g_iconst (v := (-1)) dX0_export_12 (by decide) ?_
    exact g_ireturn rfl dX0_export_13
theorem V.dX0_wide_0 : decode cX0_wide 0 = .ok (.iload_n 0, 1) := by decide +kernel
theorem V.dX0_wide_1 : decode cX0_wide 1 = .ok (.i2l, 1) := by decide +kernel
theorem V.dX0_wide_2 : decode cX0_wide 2 = .ok (.ldc2_w 175, 3) := by decide +kernel
theorem V.dX0_wide_5 : decode cX0_wide 5 = .ok (.land, 1) := by decide +kernel
theorem V.dX0_wide_6 : decode cX0_wide 6 = .ok (.lreturn, 1) := by decide +kernel
/-! ModuleEngine.wide(I)J -/
def V.Eng_wide (σ : HS) (x0 : Int32) : Option (Int64 × HS) :=
  some (x0.toInt64 &&& (4294967295 : Int64), σ)
theorem V.ctX0_wide (x0 : Int32) : Ct yX0_wide  cX0_wide 1 (some .long) 0 0 eJ [iv x0] (fun σ => Eng_wide σ x0) := by
  refine Ct.of (own := RX0) (nm := "wide") (desc := "(I)J") rfl (by decide) (Nat.le_of_ble_eq_true rfl) (by decide) (fun X σ => ?_)
  show G X RX0 "wide" cX0_wide 1 (some .long) 0 0 enJ 0 [(0, iv x0)] [] σ (Eng_wide σ x0)
  unfold Eng_wide
  refine g_iload_n 0 0 dX0_wide_0 rfl rfl ?_
  refine g_i2l dX0_wide_1 ?_
  refine g_ldc2 q2912 dX0_wide_2 ?_
  refine g_land dX0_wide_5 ?_
  exact g_lreturn rfl dX0_wide_6
theorem V.dX0_isByte_0 : decode cX0_isByte 0 = .ok (.aload_n 0, 1) := by decide +kernel
theorem V.dX0_isByte_1 : decode cX0_isByte 1 = .ok (.getfield 56, 3) := by decide +kernel
theorem V.dX0_isByte_4 : decode cX0_isByte 4 = .ok (.iload_n 1, 1) := by decide +kernel
theorem V.dX0_isByte_5 : decode cX0_isByte 5 = .ok (.iload_n 2, 1) := by decide +kernel
theorem V.dX0_isByte_6 : decode cX0_isByte 6 = .ok (.iconst 2, 1) := by decide +kernel
theorem V.dX0_isByte_7 : decode cX0_isByte 7 = .ok (.invokevirtual 177, 3) := by decide +kernel
theorem V.dX0_isByte_10 : decode cX0_isByte 10 = .ok (.ifCond .eq 34, 3) := by decide +kernel
theorem V.dX0_isByte_13 : decode cX0_isByte 13 = .ok (.iload_n 3, 1) := by decide +kernel
theorem V.dX0_isByte_14 : decode cX0_isByte 14 = .ok (.invokestatic 268, 3) := by decide +kernel
theorem V.dX0_isByte_17 : decode cX0_isByte 17 = .ok (.aload_n 0, 1) := by decide +kernel
theorem V.dX0_isByte_18 : decode cX0_isByte 18 = .ok (.getfield 56, 3) := by decide +kernel
theorem V.dX0_isByte_21 : decode cX0_isByte 21 = .ok (.getfield 217, 3) := by decide +kernel
theorem V.dX0_isByte_24 : decode cX0_isByte 24 = .ok (.aload_n 0, 1) := by decide +kernel
theorem V.dX0_isByte_25 : decode cX0_isByte 25 = .ok (.getfield 56, 3) := by decide +kernel
theorem V.dX0_isByte_28 : decode cX0_isByte 28 = .ok (.iload_n 1, 1) := by decide +kernel
theorem V.dX0_isByte_29 : decode cX0_isByte 29 = .ok (.iload_n 2, 1) := by decide +kernel
theorem V.dX0_isByte_30 : decode cX0_isByte 30 = .ok (.invokevirtual 181, 3) := by decide +kernel
theorem V.dX0_isByte_33 : decode cX0_isByte 33 = .ok (.invokevirtual 272, 3) := by decide +kernel
theorem V.dX0_isByte_36 : decode cX0_isByte 36 = .ok (.lcmp, 1) := by decide +kernel
theorem V.dX0_isByte_37 : decode cX0_isByte 37 = .ok (.ifCond .ge 7, 3) := by decide +kernel
theorem V.dX0_isByte_40 : decode cX0_isByte 40 = .ok (.iconst 1, 1) := by decide +kernel
theorem V.dX0_isByte_41 : decode cX0_isByte 41 = .ok (.goto 4, 3) := by decide +kernel
theorem V.dX0_isByte_44 : decode cX0_isByte 44 = .ok (.iconst 0, 1) := by decide +kernel
theorem V.dX0_isByte_45 : decode cX0_isByte 45 = .ok (.ireturn, 1) := by decide +kernel
theorem V.mdX0_268 : MD RX0 268 yX0_wide cX0_wide 1 (some .long) 1 := ⟨Or.inl q2966, q360, q2968, by decide, by decide, by decide +kernel⟩
theorem V.mdX0_272 : MD RX0 272 yX15_end cX15_end 2 (some .long) 1 := ⟨Or.inl q2969, q375, q2342, by decide, by decide, by decide +kernel⟩
/-! ModuleEngine.isByte(III)Z -/
def V.Eng_isByte (σ : HS) (x0 : Nat) (x1 : Int32) (x2 : Int32) (x3 : Int32) : Option (Int32 × HS) :=
  ck (tg σ x0 = 1) <|
  ck (tg σ (gR σ x0 5) = 14) <| cl (Sto_is σ (gR σ x0 5) x1 x2 (2 : Int32)) fun r2 σ1 =>
  if r2 = 0 then (
    some ((0 : Int32), σ1))
  else (
    cl (Eng_wide σ1 x3) fun r4 σ3 =>
    ck (tg σ3 x0 = 1) <|
    ck (tg σ3 (gR σ3 x0 5) = 14) <|
    ck (tg σ3 x0 = 1) <|
    ck (tg σ3 (gR σ3 x0 5) = 14) <| cl (Sto_exported σ3 (gR σ3 x0 5) x1 x2) fun r6 σ5 =>
    ck (tg σ5 (gR σ3 (gR σ3 x0 5) 8) = 16) <| cl (Pag_end σ5 (gR σ3 (gR σ3 x0 5) 8) r6) fun r8 σ7 =>
    if r8 ≤ r4 then (
      some ((0 : Int32), σ7))
    else (
      some ((1 : Int32), σ7)))
theorem V.ctX0_isByte (x0 : Nat) (x1 : Int32) (x2 : Int32) (x3 : Int32) : Ct yX0_isByte  cX0_isByte 4 (some .boolean) 4 86 eI [av x0, iv x1, iv x2, iv x3] (fun σ => Eng_isByte σ x0 x1 x2 x3) := by
  refine Ct.of (own := RX0) (nm := "isByte") (desc := "(III)Z") rfl (by decide) (Nat.le_of_ble_eq_true rfl) (by decide) (fun X σ => ?_)
  show G X RX0 "isByte" cX0_isByte 4 (some .boolean) 4 86 enI 0 [(0, av x0), (1, iv x1), (2, iv x2), (3, iv x3)] [] σ (Eng_isByte σ x0 x1 x2 x3)
  unfold Eng_isByte
  refine g_aload_n 0 0 dX0_isByte_0 rfl rfl ?_
  refine g_getR fdX0_56 dX0_isByte_1 ?_
  refine g_iload_n 1 1 dX0_isByte_4 rfl rfl ?_
  refine g_iload_n 2 2 dX0_isByte_5 rfl rfl ?_
  refine g_iconst (v := 2) dX0_isByte_6 (by decide) ?_
  refine g_callV (fc := fun sς => Sto_is sς (gR σ x0 5) x1 x2 (2 : Int32)) (ci := 13) (as := [iv x1, iv x2, iv (2 : Int32)]) rfl rfl rfl q2883 q2884 mdX0_177 (ctX13_is (gR σ x0 5) x1 x2 (2 : Int32)) rfl (Nat.le_of_ble_eq_true rfl) (Nat.le_of_ble_eq_true rfl) (Nat.le_of_ble_eq_true rfl) pu_I dX0_isByte_7 (fun r2 σ1 => ?_)
  refine g_if_eq 44 dX0_isByte_10 (by decide) ?_ ?_
  · refine g_iconst (v := 0) dX0_isByte_44 (by decide) ?_
    exact g_zreturn rfl (by decide +kernel) dX0_isByte_45
  · refine g_iload_n 3 3 dX0_isByte_13 rfl rfl ?_
    refine g_callS (fc := fun sς => Eng_wide sς x3) (as := [iv x3]) q2967 mdX0_268 (ctX0_wide x3) rfl (Nat.le_of_ble_eq_true rfl) (Nat.le_of_ble_eq_true rfl) (Nat.le_of_ble_eq_true rfl) pu_J dX0_isByte_14 (fun r4 σ3 => ?_)
    refine g_aload_n 0 0 dX0_isByte_17 rfl rfl ?_
    refine g_getR fdX0_56 dX0_isByte_18 ?_
    refine g_getR fdX0_217 dX0_isByte_21 ?_
    refine g_aload_n 0 0 dX0_isByte_24 rfl rfl ?_
    refine g_getR fdX0_56 dX0_isByte_25 ?_
    refine g_iload_n 1 1 dX0_isByte_28 rfl rfl ?_
    refine g_iload_n 2 2 dX0_isByte_29 rfl rfl ?_
    refine g_callV (fc := fun sς => Sto_exported sς (gR σ3 x0 5) x1 x2) (ci := 13) (as := [iv x1, iv x2]) rfl rfl rfl q2178 q2179 mdX0_181 (ctX13_exported (gR σ3 x0 5) x1 x2) rfl (Nat.le_of_ble_eq_true rfl) (Nat.le_of_ble_eq_true rfl) (Nat.le_of_ble_eq_true rfl) pu_I dX0_isByte_30 (fun r6 σ5 => ?_)
    refine g_callV (fc := fun sς => Pag_end sς (gR σ3 (gR σ3 x0 5) 8) r6) (ci := 15) (as := [iv r6]) rfl rfl rfl q2340 q2341 mdX0_272 (ctX15_end (gR σ3 (gR σ3 x0 5) 8) r6) rfl (Nat.le_of_ble_eq_true rfl) (Nat.le_of_ble_eq_true rfl) (Nat.le_of_ble_eq_true rfl) pu_J dX0_isByte_33 (fun r8 σ7 => ?_)
    refine g_lcmp_ge 44 dX0_isByte_36 dX0_isByte_37 (by decide) ?_ ?_
    · refine g_iconst (v := 0) dX0_isByte_44 (by decide) ?_
      exact g_zreturn rfl (by decide +kernel) dX0_isByte_45
    · refine g_iconst (v := 1) dX0_isByte_40 (by decide) ?_
      refine g_goto 45 dX0_isByte_41 (by decide) ?_
      exact g_zreturn rfl (by decide +kernel) dX0_isByte_45
theorem V.dX0_memory_0 : decode cX0_memory 0 = .ok (.aload_n 0, 1) := by decide +kernel
theorem V.dX0_memory_1 : decode cX0_memory 1 = .ok (.iload_n 1, 1) := by decide +kernel
theorem V.dX0_memory_2 : decode cX0_memory 2 = .ok (.iload_n 2, 1) := by decide +kernel
theorem V.dX0_memory_3 : decode cX0_memory 3 = .ok (.iload_n 3, 1) := by decide +kernel
theorem V.dX0_memory_4 : decode cX0_memory 4 = .ok (.invokevirtual 275, 3) := by decide +kernel
theorem V.dX0_memory_7 : decode cX0_memory 7 = .ok (.ifCond .eq 29, 3) := by decide +kernel
theorem V.dX0_memory_10 : decode cX0_memory 10 = .ok (.aload_n 0, 1) := by decide +kernel
theorem V.dX0_memory_11 : decode cX0_memory 11 = .ok (.getfield 56, 3) := by decide +kernel
theorem V.dX0_memory_14 : decode cX0_memory 14 = .ok (.getfield 217, 3) := by decide +kernel
theorem V.dX0_memory_17 : decode cX0_memory 17 = .ok (.aload_n 0, 1) := by decide +kernel
theorem V.dX0_memory_18 : decode cX0_memory 18 = .ok (.getfield 56, 3) := by decide +kernel
theorem V.dX0_memory_21 : decode cX0_memory 21 = .ok (.iload_n 1, 1) := by decide +kernel
theorem V.dX0_memory_22 : decode cX0_memory 22 = .ok (.iload_n 2, 1) := by decide +kernel
theorem V.dX0_memory_23 : decode cX0_memory 23 = .ok (.invokevirtual 181, 3) := by decide +kernel
theorem V.dX0_memory_26 : decode cX0_memory 26 = .ok (.iload_n 3, 1) := by decide +kernel
theorem V.dX0_memory_27 : decode cX0_memory 27 = .ok (.invokestatic 268, 3) := by decide +kernel
theorem V.dX0_memory_30 : decode cX0_memory 30 = .ok (.invokevirtual 278, 3) := by decide +kernel
theorem V.dX0_memory_33 : decode cX0_memory 33 = .ok (.goto 4, 3) := by decide +kernel
theorem V.dX0_memory_36 : decode cX0_memory 36 = .ok (.iconst (-1), 1) := by decide +kernel
theorem V.dX0_memory_37 : decode cX0_memory 37 = .ok (.ireturn, 1) := by decide +kernel
theorem V.mdX0_275 : MD RX0 275 yX0_isByte cX0_isByte 4 (some .boolean) 3 := ⟨Or.inl q2962, q360, q2965, by decide, by decide, by decide +kernel⟩
theorem V.mdX0_278 : MD RX0 278 yX15_get cX15_get 4 (some .int) 2 := ⟨Or.inl q2970, q375, q2790, by decide, by decide, by decide +kernel⟩
/-! ModuleEngine.memory(III)I -/
def V.Eng_memory (σ : HS) (x0 : Nat) (x1 : Int32) (x2 : Int32) (x3 : Int32) : Option (Int32 × HS) :=
  ck (tg σ x0 = 1) <| cl (Eng_isByte σ x0 x1 x2 x3) fun r2 σ1 =>
  if r2 = 0 then (
    some ((-1 : Int32), σ1))
  else (
    ck (tg σ1 x0 = 1) <|
    ck (tg σ1 (gR σ1 x0 5) = 14) <|
    ck (tg σ1 x0 = 1) <|
    ck (tg σ1 (gR σ1 x0 5) = 14) <| cl (Sto_exported σ1 (gR σ1 x0 5) x1 x2) fun r4 σ3 =>
    cl (Eng_wide σ3 x3) fun r6 σ5 =>
    ck (tg σ5 (gR σ1 (gR σ1 x0 5) 8) = 16) <| cl (Pag_get σ5 (gR σ1 (gR σ1 x0 5) 8) r4 r6) fun r8 σ7 =>
    some (r8, σ7))
theorem V.ctX0_memory (x0 : Nat) (x1 : Int32) (x2 : Int32) (x3 : Int32) : Ct yX0_memory  cX0_memory 4 (some .int) 5 109 eI [av x0, iv x1, iv x2, iv x3] (fun σ => Eng_memory σ x0 x1 x2 x3) := by
  refine Ct.of (own := RX0) (nm := "memory") (desc := "(III)I") rfl (by decide) (Nat.le_of_ble_eq_true rfl) (by decide) (fun X σ => ?_)
  show G X RX0 "memory" cX0_memory 4 (some .int) 5 109 enI 0 [(0, av x0), (1, iv x1), (2, iv x2), (3, iv x3)] [] σ (Eng_memory σ x0 x1 x2 x3)
  unfold Eng_memory
  refine g_aload_n 0 0 dX0_memory_0 rfl rfl ?_
  refine g_iload_n 1 1 dX0_memory_1 rfl rfl ?_
  refine g_iload_n 2 2 dX0_memory_2 rfl rfl ?_
  refine g_iload_n 3 3 dX0_memory_3 rfl rfl ?_
  refine g_callV (fc := fun sς => Eng_isByte sς x0 x1 x2 x3) (ci := 0) (as := [iv x1, iv x2, iv x3]) rfl rfl rfl q2964 qs210 mdX0_275 (ctX0_isByte x0 x1 x2 x3) rfl (Nat.le_of_ble_eq_true rfl) (Nat.le_of_ble_eq_true rfl) (Nat.le_of_ble_eq_true rfl) pu_I dX0_memory_4 (fun r2 σ1 => ?_)
  refine g_if_eq 36 dX0_memory_7 (by decide) ?_ ?_
  · refine g_iconst (v := (-1)) dX0_memory_36 (by decide) ?_
    exact g_ireturn rfl dX0_memory_37
  · refine g_aload_n 0 0 dX0_memory_10 rfl rfl ?_
    refine g_getR fdX0_56 dX0_memory_11 ?_
    refine g_getR fdX0_217 dX0_memory_14 ?_
    refine g_aload_n 0 0 dX0_memory_17 rfl rfl ?_
    refine g_getR fdX0_56 dX0_memory_18 ?_
    refine g_iload_n 1 1 dX0_memory_21 rfl rfl ?_
    refine g_iload_n 2 2 dX0_memory_22 rfl rfl ?_
    refine g_callV (fc := fun sς => Sto_exported sς (gR σ1 x0 5) x1 x2) (ci := 13) (as := [iv x1, iv x2]) rfl rfl rfl q2178 q2179 mdX0_181 (ctX13_exported (gR σ1 x0 5) x1 x2) rfl (Nat.le_of_ble_eq_true rfl) (Nat.le_of_ble_eq_true rfl) (Nat.le_of_ble_eq_true rfl) pu_I dX0_memory_23 (fun r4 σ3 => ?_)
    refine g_iload_n 3 3 dX0_memory_26 rfl rfl ?_
    refine g_callS (fc := fun sς => Eng_wide sς x3) (as := [iv x3]) q2967 mdX0_268 (ctX0_wide x3) rfl (Nat.le_of_ble_eq_true rfl) (Nat.le_of_ble_eq_true rfl) (Nat.le_of_ble_eq_true rfl) pu_J dX0_memory_27 (fun r6 σ5 => ?_)
    refine g_callV (fc := fun sς => Pag_get sς (gR σ1 (gR σ1 x0 5) 8) r4 r6) (ci := 15) (as := [iv r4, jv r6]) rfl rfl rfl q2788 q2789 mdX0_278 (ctX15_get (gR σ1 (gR σ1 x0 5) 8) r4 r6) rfl (Nat.le_of_ble_eq_true rfl) (Nat.le_of_ble_eq_true rfl) (Nat.le_of_ble_eq_true rfl) pu_I dX0_memory_30 (fun r8 σ7 => ?_)
    refine g_goto 37 dX0_memory_33 (by decide) ?_
    exact g_ireturn rfl dX0_memory_37
theorem V.dX0_poke_0 : decode cX0_poke 0 = .ok (.aload_n 0, 1) := by decide +kernel
theorem V.dX0_poke_1 : decode cX0_poke 1 = .ok (.iload_n 1, 1) := by decide +kernel
theorem V.dX0_poke_2 : decode cX0_poke 2 = .ok (.iload_n 2, 1) := by decide +kernel
theorem V.dX0_poke_3 : decode cX0_poke 3 = .ok (.iload_n 3, 1) := by decide +kernel
theorem V.dX0_poke_4 : decode cX0_poke 4 = .ok (.invokevirtual 275, 3) := by decide +kernel
theorem V.dX0_poke_7 : decode cX0_poke 7 = .ok (.ifCond .eq 13, 3) := by decide +kernel
theorem V.dX0_poke_10 : decode cX0_poke 10 = .ok (.aload_n 0, 1) := by decide +kernel
theorem V.dX0_poke_11 : decode cX0_poke 11 = .ok (.getfield 65, 3) := by decide +kernel
theorem V.dX0_poke_14 : decode cX0_poke 14 = .ok (.invokevirtual 123, 3) := by decide +kernel
theorem V.dX0_poke_17 : decode cX0_poke 17 = .ok (.ifCond .eq 5, 3) := by decide +kernel
theorem V.dX0_poke_20 : decode cX0_poke 20 = .ok (.iconst 0, 1) := by decide +kernel
theorem V.dX0_poke_21 : decode cX0_poke 21 = .ok (.ireturn, 1) := by decide +kernel
theorem V.dX0_poke_22 : decode cX0_poke 22 = .ok (.aload_n 0, 1) := by decide +kernel
theorem V.dX0_poke_23 : decode cX0_poke 23 = .ok (.getfield 56, 3) := by decide +kernel
theorem V.dX0_poke_26 : decode cX0_poke 26 = .ok (.getfield 217, 3) := by decide +kernel
theorem V.dX0_poke_29 : decode cX0_poke 29 = .ok (.aload_n 0, 1) := by decide +kernel
theorem V.dX0_poke_30 : decode cX0_poke 30 = .ok (.getfield 56, 3) := by decide +kernel
theorem V.dX0_poke_33 : decode cX0_poke 33 = .ok (.iload_n 1, 1) := by decide +kernel
theorem V.dX0_poke_34 : decode cX0_poke 34 = .ok (.iload_n 2, 1) := by decide +kernel
theorem V.dX0_poke_35 : decode cX0_poke 35 = .ok (.invokevirtual 181, 3) := by decide +kernel
theorem V.dX0_poke_38 : decode cX0_poke 38 = .ok (.iload_n 3, 1) := by decide +kernel
theorem V.dX0_poke_39 : decode cX0_poke 39 = .ok (.invokestatic 268, 3) := by decide +kernel
theorem V.dX0_poke_42 : decode cX0_poke 42 = .ok (.iload 4, 2) := by decide +kernel
theorem V.dX0_poke_44 : decode cX0_poke 44 = .ok (.invokevirtual 282, 3) := by decide +kernel
theorem V.dX0_poke_47 : decode cX0_poke 47 = .ok (.iconst 1, 1) := by decide +kernel
theorem V.dX0_poke_48 : decode cX0_poke 48 = .ok (.ireturn, 1) := by decide +kernel
theorem V.mdX0_282 : MD RX0 282 yX15_put cX15_put 5 none 3 := ⟨Or.inl q2975, q375, q2346, by decide, by decide, by decide +kernel⟩
/-! ModuleEngine.poke(IIII)Z -/
def V.Eng_poke (σ : HS) (x0 : Nat) (x1 : Int32) (x2 : Int32) (x3 : Int32) (x4 : Int32) : Option (Int32 × HS) :=
  ck (tg σ x0 = 1) <| cl (Eng_isByte σ x0 x1 x2 x3) fun r2 σ1 =>
  if r2 = 0 then (
    some ((0 : Int32), σ1))
  else (
    ck (tg σ1 x0 = 1) <|
    ck (tg σ1 (gR σ1 x0 6) = 17) <| cl (Run_isBusy σ1 (gR σ1 x0 6) ) fun r4 σ3 =>
    if r4 = 0 then (
      ck (tg σ3 x0 = 1) <|
      ck (tg σ3 (gR σ3 x0 5) = 14) <|
      ck (tg σ3 x0 = 1) <|
      ck (tg σ3 (gR σ3 x0 5) = 14) <| cl (Sto_exported σ3 (gR σ3 x0 5) x1 x2) fun r6 σ5 =>
      cl (Eng_wide σ5 x3) fun r8 σ7 =>
      ck (tg σ7 (gR σ3 (gR σ3 x0 5) 8) = 16) <| cl (Pag_put σ7 (gR σ3 (gR σ3 x0 5) 8) r6 r8 x4) fun _ σ9 =>
      some ((1 : Int32), σ9))
    else (
      some ((0 : Int32), σ3)))
theorem V.ctX0_poke (x0 : Nat) (x1 : Int32) (x2 : Int32) (x3 : Int32) (x4 : Int32) : Ct yX0_poke  cX0_poke 5 (some .boolean) 5 109 eI [av x0, iv x1, iv x2, iv x3, iv x4] (fun σ => Eng_poke σ x0 x1 x2 x3 x4) := by
  refine Ct.of (own := RX0) (nm := "poke") (desc := "(IIII)Z") rfl (by decide) (Nat.le_of_ble_eq_true rfl) (by decide) (fun X σ => ?_)
  show G X RX0 "poke" cX0_poke 5 (some .boolean) 5 109 enI 0 [(0, av x0), (1, iv x1), (2, iv x2), (3, iv x3), (4, iv x4)] [] σ (Eng_poke σ x0 x1 x2 x3 x4)
  unfold Eng_poke
  refine g_aload_n 0 0 dX0_poke_0 rfl rfl ?_
  refine g_iload_n 1 1 dX0_poke_1 rfl rfl ?_
  refine g_iload_n 2 2 dX0_poke_2 rfl rfl ?_
  refine g_iload_n 3 3 dX0_poke_3 rfl rfl ?_
  refine g_callV (fc := fun sς => Eng_isByte sς x0 x1 x2 x3) (ci := 0) (as := [iv x1, iv x2, iv x3]) rfl rfl rfl q2964 qs210 mdX0_275 (ctX0_isByte x0 x1 x2 x3) rfl (Nat.le_of_ble_eq_true rfl) (Nat.le_of_ble_eq_true rfl) (Nat.le_of_ble_eq_true rfl) pu_I dX0_poke_4 (fun r2 σ1 => ?_)
  refine g_if_eq 20 dX0_poke_7 (by decide) ?_ ?_
  · refine g_iconst (v := 0) dX0_poke_20 (by decide) ?_
    exact g_zreturn rfl (by decide +kernel) dX0_poke_21
  · refine g_aload_n 0 0 dX0_poke_10 rfl rfl ?_
    refine g_getR fdX0_65 dX0_poke_11 ?_
    refine g_callV (fc := fun sς => Run_isBusy sς (gR σ1 x0 6) ) (ci := 16) (as := []) rfl rfl rfl q2186 q2187 mdX0_123 (ctX16_isBusy (gR σ1 x0 6) ) rfl (Nat.le_of_ble_eq_true rfl) (Nat.le_of_ble_eq_true rfl) (Nat.le_of_ble_eq_true rfl) pu_I dX0_poke_14 (fun r4 σ3 => ?_)
    refine g_if_eq 22 dX0_poke_17 (by decide) ?_ ?_
    · refine g_aload_n 0 0 dX0_poke_22 rfl rfl ?_
      refine g_getR fdX0_56 dX0_poke_23 ?_
      refine g_getR fdX0_217 dX0_poke_26 ?_
      refine g_aload_n 0 0 dX0_poke_29 rfl rfl ?_
      refine g_getR fdX0_56 dX0_poke_30 ?_
      refine g_iload_n 1 1 dX0_poke_33 rfl rfl ?_
      refine g_iload_n 2 2 dX0_poke_34 rfl rfl ?_
      refine g_callV (fc := fun sς => Sto_exported sς (gR σ3 x0 5) x1 x2) (ci := 13) (as := [iv x1, iv x2]) rfl rfl rfl q2178 q2179 mdX0_181 (ctX13_exported (gR σ3 x0 5) x1 x2) rfl (Nat.le_of_ble_eq_true rfl) (Nat.le_of_ble_eq_true rfl) (Nat.le_of_ble_eq_true rfl) pu_I dX0_poke_35 (fun r6 σ5 => ?_)
      refine g_iload_n 3 3 dX0_poke_38 rfl rfl ?_
      refine g_callS (fc := fun sς => Eng_wide sς x3) (as := [iv x3]) q2967 mdX0_268 (ctX0_wide x3) rfl (Nat.le_of_ble_eq_true rfl) (Nat.le_of_ble_eq_true rfl) (Nat.le_of_ble_eq_true rfl) pu_J dX0_poke_39 (fun r8 σ7 => ?_)
      refine g_iload 4 dX0_poke_42 rfl ?_
      refine g_callV (fc := fun sς => Pag_put sς (gR σ3 (gR σ3 x0 5) 8) r6 r8 x4) (ci := 15) (as := [iv r6, jv r8, iv x4]) rfl rfl rfl q2344 q2345 mdX0_282 (ctX15_put (gR σ3 (gR σ3 x0 5) 8) r6 r8 x4) rfl (Nat.le_of_ble_eq_true rfl) (Nat.le_of_ble_eq_true rfl) (Nat.le_of_ble_eq_true rfl) pu_V dX0_poke_44 (fun _ σ9 => ?_)
      refine g_iconst (v := 1) dX0_poke_47 (by decide) ?_
      exact g_zreturn rfl (by decide +kernel) dX0_poke_48
    · refine g_iconst (v := 0) dX0_poke_20 (by decide) ?_
      exact g_zreturn rfl (by decide +kernel) dX0_poke_21
theorem V.dX0_table_0 : decode cX0_table 0 = .ok (.aload_n 0, 1) := by decide +kernel
theorem V.dX0_table_1 : decode cX0_table 1 = .ok (.getfield 56, 3) := by decide +kernel
theorem V.dX0_table_4 : decode cX0_table 4 = .ok (.iload_n 1, 1) := by decide +kernel
theorem V.dX0_table_5 : decode cX0_table 5 = .ok (.iload_n 2, 1) := by decide +kernel
theorem V.dX0_table_6 : decode cX0_table 6 = .ok (.iconst 1, 1) := by decide +kernel
theorem V.dX0_table_7 : decode cX0_table 7 = .ok (.invokevirtual 177, 3) := by decide +kernel
theorem V.dX0_table_10 : decode cX0_table 10 = .ok (.ifCond .eq 31, 3) := by decide +kernel
theorem V.dX0_table_13 : decode cX0_table 13 = .ok (.iload_n 3, 1) := by decide +kernel
theorem V.dX0_table_14 : decode cX0_table 14 = .ok (.invokestatic 268, 3) := by decide +kernel
theorem V.dX0_table_17 : decode cX0_table 17 = .ok (.aload_n 0, 1) := by decide +kernel
theorem V.dX0_table_18 : decode cX0_table 18 = .ok (.getfield 56, 3) := by decide +kernel
theorem V.dX0_table_21 : decode cX0_table 21 = .ok (.getfield 226, 3) := by decide +kernel
theorem V.dX0_table_24 : decode cX0_table 24 = .ok (.aload_n 0, 1) := by decide +kernel
theorem V.dX0_table_25 : decode cX0_table 25 = .ok (.getfield 56, 3) := by decide +kernel
theorem V.dX0_table_28 : decode cX0_table 28 = .ok (.iload_n 1, 1) := by decide +kernel
theorem V.dX0_table_29 : decode cX0_table 29 = .ok (.iload_n 2, 1) := by decide +kernel
theorem V.dX0_table_30 : decode cX0_table 30 = .ok (.invokevirtual 181, 3) := by decide +kernel
theorem V.dX0_table_33 : decode cX0_table 33 = .ok (.invokevirtual 256, 3) := by decide +kernel
theorem V.dX0_table_36 : decode cX0_table 36 = .ok (.i2l, 1) := by decide +kernel
theorem V.dX0_table_37 : decode cX0_table 37 = .ok (.lcmp, 1) := by decide +kernel
theorem V.dX0_table_38 : decode cX0_table 38 = .ok (.ifCond .lt 6, 3) := by decide +kernel
theorem V.dX0_table_41 : decode cX0_table 41 = .ok (.bipush (-2), 2) := by decide +kernel
theorem V.dX0_table_43 : decode cX0_table 43 = .ok (.ireturn, 1) := by decide +kernel
theorem V.dX0_table_44 : decode cX0_table 44 = .ok (.aload_n 0, 1) := by decide +kernel
theorem V.dX0_table_45 : decode cX0_table 45 = .ok (.getfield 56, 3) := by decide +kernel
theorem V.dX0_table_48 : decode cX0_table 48 = .ok (.getfield 226, 3) := by decide +kernel
theorem V.dX0_table_51 : decode cX0_table 51 = .ok (.aload_n 0, 1) := by decide +kernel
theorem V.dX0_table_52 : decode cX0_table 52 = .ok (.getfield 56, 3) := by decide +kernel
theorem V.dX0_table_55 : decode cX0_table 55 = .ok (.iload_n 1, 1) := by decide +kernel
theorem V.dX0_table_56 : decode cX0_table 56 = .ok (.iload_n 2, 1) := by decide +kernel
theorem V.dX0_table_57 : decode cX0_table 57 = .ok (.invokevirtual 181, 3) := by decide +kernel
theorem V.dX0_table_60 : decode cX0_table 60 = .ok (.iload_n 3, 1) := by decide +kernel
theorem V.dX0_table_61 : decode cX0_table 61 = .ok (.invokestatic 268, 3) := by decide +kernel
theorem V.dX0_table_64 : decode cX0_table 64 = .ok (.invokevirtual 286, 3) := by decide +kernel
theorem V.dX0_table_67 : decode cX0_table 67 = .ok (.ireturn, 1) := by decide +kernel
theorem V.mdX0_286 : MD RX0 286 yX14_get cX14_get 4 (some .int) 2 := ⟨Or.inl q2980, q374, q2742, by decide, by decide, by decide +kernel⟩
/-! ModuleEngine.table(III)I -/
def V.Eng_table (σ : HS) (x0 : Nat) (x1 : Int32) (x2 : Int32) (x3 : Int32) : Option (Int32 × HS) :=
  ck (tg σ x0 = 1) <|
  ck (tg σ (gR σ x0 5) = 14) <| cl (Sto_is σ (gR σ x0 5) x1 x2 (1 : Int32)) fun r2 σ1 =>
  if r2 = 0 then (
    some ((-2 : Int32), σ1))
  else (
    cl (Eng_wide σ1 x3) fun r4 σ3 =>
    ck (tg σ3 x0 = 1) <|
    ck (tg σ3 (gR σ3 x0 5) = 14) <|
    ck (tg σ3 x0 = 1) <|
    ck (tg σ3 (gR σ3 x0 5) = 14) <| cl (Sto_exported σ3 (gR σ3 x0 5) x1 x2) fun r6 σ5 =>
    ck (tg σ5 (gR σ3 (gR σ3 x0 5) 7) = 15) <| cl (Tab_size σ5 (gR σ3 (gR σ3 x0 5) 7) r6) fun r8 σ7 =>
    if r4 < r8.toInt64 then (
      ck (tg σ7 x0 = 1) <|
      ck (tg σ7 (gR σ7 x0 5) = 14) <|
      ck (tg σ7 x0 = 1) <|
      ck (tg σ7 (gR σ7 x0 5) = 14) <| cl (Sto_exported σ7 (gR σ7 x0 5) x1 x2) fun r10 σ9 =>
      cl (Eng_wide σ9 x3) fun r12 σ11 =>
      ck (tg σ11 (gR σ7 (gR σ7 x0 5) 7) = 15) <| cl (Tab_get σ11 (gR σ7 (gR σ7 x0 5) 7) r10 r12) fun r14 σ13 =>
      some (r14, σ13))
    else (
      some ((-2 : Int32), σ7)))
theorem V.ctX0_table (x0 : Nat) (x1 : Int32) (x2 : Int32) (x3 : Int32) : Ct yX0_table  cX0_table 4 (some .int) 4 86 eI [av x0, iv x1, iv x2, iv x3] (fun σ => Eng_table σ x0 x1 x2 x3) := by
  refine Ct.of (own := RX0) (nm := "table") (desc := "(III)I") rfl (by decide) (Nat.le_of_ble_eq_true rfl) (by decide) (fun X σ => ?_)
  show G X RX0 "table" cX0_table 4 (some .int) 4 86 enI 0 [(0, av x0), (1, iv x1), (2, iv x2), (3, iv x3)] [] σ (Eng_table σ x0 x1 x2 x3)
  unfold Eng_table
  refine g_aload_n 0 0 dX0_table_0 rfl rfl ?_
  refine g_getR fdX0_56 dX0_table_1 ?_
  refine g_iload_n 1 1 dX0_table_4 rfl rfl ?_
  refine g_iload_n 2 2 dX0_table_5 rfl rfl ?_
  refine g_iconst (v := 1) dX0_table_6 (by decide) ?_
  refine g_callV (fc := fun sς => Sto_is sς (gR σ x0 5) x1 x2 (1 : Int32)) (ci := 13) (as := [iv x1, iv x2, iv (1 : Int32)]) rfl rfl rfl q2883 q2884 mdX0_177 (ctX13_is (gR σ x0 5) x1 x2 (1 : Int32)) rfl (Nat.le_of_ble_eq_true rfl) (Nat.le_of_ble_eq_true rfl) (Nat.le_of_ble_eq_true rfl) pu_I dX0_table_7 (fun r2 σ1 => ?_)
  refine g_if_eq 41 dX0_table_10 (by decide) ?_ ?_
  · refine g_bipush (v := (-2)) dX0_table_41 (by decide) ?_
    exact g_ireturn rfl dX0_table_43
  · refine g_iload_n 3 3 dX0_table_13 rfl rfl ?_
    refine g_callS (fc := fun sς => Eng_wide sς x3) (as := [iv x3]) q2967 mdX0_268 (ctX0_wide x3) rfl (Nat.le_of_ble_eq_true rfl) (Nat.le_of_ble_eq_true rfl) (Nat.le_of_ble_eq_true rfl) pu_J dX0_table_14 (fun r4 σ3 => ?_)
    refine g_aload_n 0 0 dX0_table_17 rfl rfl ?_
    refine g_getR fdX0_56 dX0_table_18 ?_
    refine g_getR fdX0_226 dX0_table_21 ?_
    refine g_aload_n 0 0 dX0_table_24 rfl rfl ?_
    refine g_getR fdX0_56 dX0_table_25 ?_
    refine g_iload_n 1 1 dX0_table_28 rfl rfl ?_
    refine g_iload_n 2 2 dX0_table_29 rfl rfl ?_
    refine g_callV (fc := fun sς => Sto_exported sς (gR σ3 x0 5) x1 x2) (ci := 13) (as := [iv x1, iv x2]) rfl rfl rfl q2178 q2179 mdX0_181 (ctX13_exported (gR σ3 x0 5) x1 x2) rfl (Nat.le_of_ble_eq_true rfl) (Nat.le_of_ble_eq_true rfl) (Nat.le_of_ble_eq_true rfl) pu_I dX0_table_30 (fun r6 σ5 => ?_)
    refine g_callV (fc := fun sς => Tab_size sς (gR σ3 (gR σ3 x0 5) 7) r6) (ci := 14) (as := [iv r6]) rfl rfl rfl q2216 q2217 mdX0_256 (ctX14_size (gR σ3 (gR σ3 x0 5) 7) r6) rfl (Nat.le_of_ble_eq_true rfl) (Nat.le_of_ble_eq_true rfl) (Nat.le_of_ble_eq_true rfl) pu_I dX0_table_33 (fun r8 σ7 => ?_)
    refine g_i2l dX0_table_36 ?_
    refine g_lcmp_lt 44 dX0_table_37 dX0_table_38 (by decide) ?_ ?_
    · refine g_aload_n 0 0 dX0_table_44 rfl rfl ?_
      refine g_getR fdX0_56 dX0_table_45 ?_
      refine g_getR fdX0_226 dX0_table_48 ?_
      refine g_aload_n 0 0 dX0_table_51 rfl rfl ?_
      refine g_getR fdX0_56 dX0_table_52 ?_
      refine g_iload_n 1 1 dX0_table_55 rfl rfl ?_
      refine g_iload_n 2 2 dX0_table_56 rfl rfl ?_
      refine g_callV (fc := fun sς => Sto_exported sς (gR σ7 x0 5) x1 x2) (ci := 13) (as := [iv x1, iv x2]) rfl rfl rfl q2178 q2179 mdX0_181 (ctX13_exported (gR σ7 x0 5) x1 x2) rfl (Nat.le_of_ble_eq_true rfl) (Nat.le_of_ble_eq_true rfl) (Nat.le_of_ble_eq_true rfl) pu_I dX0_table_57 (fun r10 σ9 => ?_)
      refine g_iload_n 3 3 dX0_table_60 rfl rfl ?_
      refine g_callS (fc := fun sς => Eng_wide sς x3) (as := [iv x3]) q2967 mdX0_268 (ctX0_wide x3) rfl (Nat.le_of_ble_eq_true rfl) (Nat.le_of_ble_eq_true rfl) (Nat.le_of_ble_eq_true rfl) pu_J dX0_table_61 (fun r12 σ11 => ?_)
      refine g_callV (fc := fun sς => Tab_get sς (gR σ7 (gR σ7 x0 5) 7) r10 r12) (ci := 14) (as := [iv r10, jv r12]) rfl rfl rfl q2740 q2741 mdX0_286 (ctX14_get (gR σ7 (gR σ7 x0 5) 7) r10 r12) rfl (Nat.le_of_ble_eq_true rfl) (Nat.le_of_ble_eq_true rfl) (Nat.le_of_ble_eq_true rfl) pu_I dX0_table_64 (fun r14 σ13 => ?_)
      exact g_ireturn rfl dX0_table_67
    · refine g_bipush (v := (-2)) dX0_table_41 (by decide) ?_
      exact g_ireturn rfl dX0_table_43
theorem V.dX0_global_0 : decode cX0_global 0 = .ok (.aload_n 0, 1) := by decide +kernel
theorem V.dX0_global_1 : decode cX0_global 1 = .ok (.getfield 56, 3) := by decide +kernel
theorem V.dX0_global_4 : decode cX0_global 4 = .ok (.iload_n 1, 1) := by decide +kernel
theorem V.dX0_global_5 : decode cX0_global 5 = .ok (.iload_n 2, 1) := by decide +kernel
theorem V.dX0_global_6 : decode cX0_global 6 = .ok (.iconst 3, 1) := by decide +kernel
theorem V.dX0_global_7 : decode cX0_global 7 = .ok (.invokevirtual 177, 3) := by decide +kernel
theorem V.dX0_global_10 : decode cX0_global 10 = .ok (.ifCond .eq 23, 3) := by decide +kernel
theorem V.dX0_global_13 : decode cX0_global 13 = .ok (.aload_n 0, 1) := by decide +kernel
theorem V.dX0_global_14 : decode cX0_global 14 = .ok (.getfield 56, 3) := by decide +kernel
theorem V.dX0_global_17 : decode cX0_global 17 = .ok (.getfield 287, 3) := by decide +kernel
theorem V.dX0_global_20 : decode cX0_global 20 = .ok (.aload_n 0, 1) := by decide +kernel
theorem V.dX0_global_21 : decode cX0_global 21 = .ok (.getfield 56, 3) := by decide +kernel
theorem V.dX0_global_24 : decode cX0_global 24 = .ok (.iload_n 1, 1) := by decide +kernel
theorem V.dX0_global_25 : decode cX0_global 25 = .ok (.iload_n 2, 1) := by decide +kernel
theorem V.dX0_global_26 : decode cX0_global 26 = .ok (.invokevirtual 181, 3) := by decide +kernel
theorem V.dX0_global_29 : decode cX0_global 29 = .ok (.laload, 1) := by decide +kernel
theorem V.dX0_global_30 : decode cX0_global 30 = .ok (.goto 4, 3) := by decide +kernel
theorem V.dX0_global_33 : decode cX0_global 33 = .ok (.lconst 0, 1) := by decide +kernel
theorem V.dX0_global_34 : decode cX0_global 34 = .ok (.lreturn, 1) := by decide +kernel
theorem V.fdX0_287 : FD RX0 287 13 13 2 := ⟨(RX13, TX13, 27), tyX13, rfl, rfl, in_X13, by decide, Or.inr ⟨_, q1039⟩, rfl⟩
/-! ModuleEngine.global(II)J -/
def V.Eng_global (σ : HS) (x0 : Nat) (x1 : Int32) (x2 : Int32) : Option (Int64 × HS) :=
  ck (tg σ x0 = 1) <|
  ck (tg σ (gR σ x0 5) = 14) <| cl (Sto_is σ (gR σ x0 5) x1 x2 (3 : Int32)) fun r2 σ1 =>
  if r2 = 0 then (
    some ((0 : Int64), σ1))
  else (
    ck (tg σ1 x0 = 1) <|
    ck (tg σ1 (gR σ1 x0 5) = 14) <|
    ck (tg σ1 x0 = 1) <|
    ck (tg σ1 (gR σ1 x0 5) = 14) <| cl (Sto_exported σ1 (gR σ1 x0 5) x1 x2) fun r4 σ3 =>
    ck (tg σ3 (gR σ1 (gR σ1 x0 5) 13) = 101 ∧ inb r4 (ln σ3 (gR σ1 (gR σ1 x0 5) 13))) <|
    some (gJ σ3 (gR σ1 (gR σ1 x0 5) 13) (ix r4), σ3))
theorem V.ctX0_global (x0 : Nat) (x1 : Int32) (x2 : Int32) : Ct yX0_global  cX0_global 3 (some .long) 4 86 eJ [av x0, iv x1, iv x2] (fun σ => Eng_global σ x0 x1 x2) := by
  refine Ct.of (own := RX0) (nm := "global") (desc := "(II)J") rfl (by decide) (Nat.le_of_ble_eq_true rfl) (by decide) (fun X σ => ?_)
  show G X RX0 "global" cX0_global 3 (some .long) 4 86 enJ 0 [(0, av x0), (1, iv x1), (2, iv x2)] [] σ (Eng_global σ x0 x1 x2)
  unfold Eng_global
  refine g_aload_n 0 0 dX0_global_0 rfl rfl ?_
  refine g_getR fdX0_56 dX0_global_1 ?_
  refine g_iload_n 1 1 dX0_global_4 rfl rfl ?_
  refine g_iload_n 2 2 dX0_global_5 rfl rfl ?_
  refine g_iconst (v := 3) dX0_global_6 (by decide) ?_
  refine g_callV (fc := fun sς => Sto_is sς (gR σ x0 5) x1 x2 (3 : Int32)) (ci := 13) (as := [iv x1, iv x2, iv (3 : Int32)]) rfl rfl rfl q2883 q2884 mdX0_177 (ctX13_is (gR σ x0 5) x1 x2 (3 : Int32)) rfl (Nat.le_of_ble_eq_true rfl) (Nat.le_of_ble_eq_true rfl) (Nat.le_of_ble_eq_true rfl) pu_I dX0_global_7 (fun r2 σ1 => ?_)
  refine g_if_eq 33 dX0_global_10 (by decide) ?_ ?_
  · refine g_lconst (v := 0) dX0_global_33 (by decide) ?_
    exact g_lreturn rfl dX0_global_34
  · refine g_aload_n 0 0 dX0_global_13 rfl rfl ?_
    refine g_getR fdX0_56 dX0_global_14 ?_
    refine g_getR fdX0_287 dX0_global_17 ?_
    refine g_aload_n 0 0 dX0_global_20 rfl rfl ?_
    refine g_getR fdX0_56 dX0_global_21 ?_
    refine g_iload_n 1 1 dX0_global_24 rfl rfl ?_
    refine g_iload_n 2 2 dX0_global_25 rfl rfl ?_
    refine g_callV (fc := fun sς => Sto_exported sς (gR σ1 x0 5) x1 x2) (ci := 13) (as := [iv x1, iv x2]) rfl rfl rfl q2178 q2179 mdX0_181 (ctX13_exported (gR σ1 x0 5) x1 x2) rfl (Nat.le_of_ble_eq_true rfl) (Nat.le_of_ble_eq_true rfl) (Nat.le_of_ble_eq_true rfl) pu_I dX0_global_26 (fun r4 σ3 => ?_)
    refine g_laload dX0_global_29 ?_
    refine g_goto 34 dX0_global_30 (by decide) ?_
    exact g_lreturn rfl dX0_global_34
