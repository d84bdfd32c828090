set_option maxRecDepth 100000
theorem V.dX17_invokes_0 : decode cX17_invokes 0 = .ok (.aload_n 0, 1) := by decide +kernel
theorem V.dX17_invokes_1 : decode cX17_invokes 1 = .ok (.iload_n 1, 1) := by decide +kernel
theorem V.dX17_invokes_2 : decode cX17_invokes 2 = .ok (.invokevirtual 1077, 3) := by decide +kernel
theorem V.dX17_invokes_5 : decode cX17_invokes 5 = .ok (.istore_n 2, 1) := by decide +kernel
theorem V.dX17_invokes_6 : decode cX17_invokes 6 = .ok (.aload_n 0, 1) := by decide +kernel
theorem V.dX17_invokes_7 : decode cX17_invokes 7 = .ok (.dup, 1) := by decide +kernel
theorem V.dX17_invokes_8 : decode cX17_invokes 8 = .ok (.getfield 1104, 3) := by decide +kernel
theorem V.dX17_invokes_11 : decode cX17_invokes 11 = .ok (.iload_n 2, 1) := by decide +kernel
theorem V.dX17_invokes_12 : decode cX17_invokes 12 = .ok (.isub, 1) := by decide +kernel
theorem V.dX17_invokes_13 : decode cX17_invokes 13 = .ok (.putfield 1104, 3) := by decide +kernel
theorem V.dX17_invokes_16 : decode cX17_invokes 16 = .ok (.iconst 0, 1) := by decide +kernel
theorem V.dX17_invokes_17 : decode cX17_invokes 17 = .ok (.istore_n 3, 1) := by decide +kernel
theorem V.dX17_invokes_18 : decode cX17_invokes 18 = .ok (.iload_n 3, 1) := by decide +kernel
theorem V.dX17_invokes_19 : decode cX17_invokes 19 = .ok (.iload_n 2, 1) := by decide +kernel
theorem V.dX17_invokes_20 : decode cX17_invokes 20 = .ok (.if_icmp .ge 26, 3) := by decide +kernel
theorem V.dX17_invokes_23 : decode cX17_invokes 23 = .ok (.aload_n 0, 1) := by decide +kernel
theorem V.dX17_invokes_24 : decode cX17_invokes 24 = .ok (.getfield 170, 3) := by decide +kernel
theorem V.dX17_invokes_27 : decode cX17_invokes 27 = .ok (.iload_n 3, 1) := by decide +kernel
theorem V.dX17_invokes_28 : decode cX17_invokes 28 = .ok (.aload_n 0, 1) := by decide +kernel
theorem V.dX17_invokes_29 : decode cX17_invokes 29 = .ok (.getfield 191, 3) := by decide +kernel
theorem V.dX17_invokes_32 : decode cX17_invokes 32 = .ok (.aload_n 0, 1) := by decide +kernel
theorem V.dX17_invokes_33 : decode cX17_invokes 33 = .ok (.getfield 1104, 3) := by decide +kernel
theorem V.dX17_invokes_36 : decode cX17_invokes 36 = .ok (.iload_n 3, 1) := by decide +kernel
theorem V.dX17_invokes_37 : decode cX17_invokes 37 = .ok (.iadd, 1) := by decide +kernel
theorem V.dX17_invokes_38 : decode cX17_invokes 38 = .ok (.laload, 1) := by decide +kernel
theorem V.dX17_invokes_39 : decode cX17_invokes 39 = .ok (.lastore, 1) := by decide +kernel
theorem V.dX17_invokes_40 : decode cX17_invokes 40 = .ok (.iinc 3 1, 3) := by decide +kernel
theorem V.dX17_invokes_43 : decode cX17_invokes 43 = .ok (.goto (-25), 3) := by decide +kernel
theorem V.dX17_invokes_46 : decode cX17_invokes 46 = .ok (.aload_n 0, 1) := by decide +kernel
theorem V.dX17_invokes_47 : decode cX17_invokes 47 = .ok (.iload_n 1, 1) := by decide +kernel
theorem V.dX17_invokes_48 : decode cX17_invokes 48 = .ok (.invokevirtual 1089, 3) := by decide +kernel
theorem V.dX17_invokes_51 : decode cX17_invokes 51 = .ok (.return_, 1) := by decide +kernel
/-! ModuleEngineModel.invokes(I)V -/
def V.Mdl_invokes_p18  : Nat → HS → Nat → Int32 → Int32 → Int32 → Option (Unit × HS)
  | 0, _, _, _, _, _ => none
  | n + 1, σ, x0, x1, x2, x3 =>
    if x2 ≤ x3 then (
      ck (tg σ x0 = 18) <| cl (Mdl_enters σ x0 x1) fun _ σ1 =>
      some ((), σ1))
    else (
      ck (tg σ x0 = 18) <|
      ck (tg σ x0 = 18) <|
      ck (tg σ x0 = 18) <|
      ck (tg σ (gR σ x0 92) = 101 ∧ inb ((gI σ x0 93) + x3) (ln σ (gR σ x0 92))) <|
      ck (tg σ (gR σ x0 84) = 101 ∧ inb x3 (ln σ (gR σ x0 84))) <| bn (sJ σ (gR σ x0 84) (ix x3) (gJ σ (gR σ x0 92) (ix ((gI σ x0 93) + x3)))) fun σ2 =>
      bn (x3 + (1 : Int32)) fun y3 =>
      Mdl_invokes_p18 n σ2 x0 x1 x2 y3)
theorem V.gX17_invokes_p18 {X : CX}  : ∀ (n : Nat) (σ : HS) (x0 : Nat) (x1 : Int32) (x2 : Int32) (x3 : Int32), G X RX17 "invokes" cX17_invokes 4 none 3 77 enV 18 [(0, av x0), (1, iv x1), (2, iv x2), (3, iv x3)] [] σ (Mdl_invokes_p18 n σ x0 x1 x2 x3)
  | 0, σ, x0, x1, x2, x3 => by rw [Mdl_invokes_p18]; exact G.nul
  | n + 1, σ, x0, x1, x2, x3 => by
    rw [Mdl_invokes_p18]
    refine g_iload_n 3 3 dX17_invokes_18 rfl rfl ?_
    refine g_iload_n 2 2 dX17_invokes_19 rfl rfl ?_
    refine g_icmp_ge 46 dX17_invokes_20 (by decide) ?_ ?_
    · refine g_aload_n 0 0 dX17_invokes_46 rfl rfl ?_
      refine g_iload_n 1 1 dX17_invokes_47 rfl rfl ?_
      refine g_callV (fc := fun sς => Mdl_enters sς x0 x1) (ci := 17) (as := [iv x1]) rfl rfl rfl q4113 qs314 mdX17_1089 (ctX17_enters x0 x1) rfl (Nat.le_of_ble_eq_true rfl) (Nat.le_of_ble_eq_true rfl) (Nat.le_of_ble_eq_true rfl) pu_V dX17_invokes_48 (fun _ σ1 => ?_)
      exact g_return rfl dX17_invokes_51
    · refine g_aload_n 0 0 dX17_invokes_23 rfl rfl ?_
      refine g_getR fdX17_170 dX17_invokes_24 ?_
      refine g_iload_n 3 3 dX17_invokes_27 rfl rfl ?_
      refine g_aload_n 0 0 dX17_invokes_28 rfl rfl ?_
      refine g_getR fdX17_191 dX17_invokes_29 ?_
      refine g_aload_n 0 0 dX17_invokes_32 rfl rfl ?_
      refine g_getI fdX17_1104 dX17_invokes_33 ?_
      refine g_iload_n 3 3 dX17_invokes_36 rfl rfl ?_
      refine g_iadd dX17_invokes_37 ?_
      refine g_laload dX17_invokes_38 ?_
      refine g_lastore dX17_invokes_39 (fun σ2 => ?_)
      refine g_iincB (w := 1) 3 dX17_invokes_40 rfl (by decide) (by decide) (fun _ => rfl) (fun y3 => ?_)
      refine g_goto 18 dX17_invokes_43 (by decide) ?_
      refine G.sub [1, 2, 3, 0] rfl ?_
      exact gX17_invokes_p18 n _ _ _ _ _
def V.Mdl_invokes (σ : HS) (x0 : Nat) (x1 : Int32) : Option (Unit × HS) :=
  ck (tg σ x0 = 18) <| cl (Mdl_parametersIn σ x0 x1) fun r2 σ1 =>
  ck (tg σ1 x0 = 18) <|
  ck (tg σ1 x0 = 18) <| bn (sI σ1 x0 93 ((gI σ1 x0 93) - r2)) fun σ3 =>
  Mdl_invokes_p18 FU σ3 x0 x1 r2 (0 : Int32)
theorem V.ctX17_invokes (x0 : Nat) (x1 : Int32) : Ct yX17_invokes  cX17_invokes 4 none 3 77 eV [av x0, iv x1] (fun σ => Mdl_invokes σ x0 x1) := by
  refine Ct.of (own := RX17) (nm := "invokes") (desc := "(I)V") rfl (by decide) (Nat.le_of_ble_eq_true rfl) (by decide) (fun X σ => ?_)
  show G X RX17 "invokes" cX17_invokes 4 none 3 77 enV 0 [(0, av x0), (1, iv x1)] [] σ (Mdl_invokes σ x0 x1)
  unfold Mdl_invokes
  refine g_aload_n 0 0 dX17_invokes_0 rfl rfl ?_
  refine g_iload_n 1 1 dX17_invokes_1 rfl rfl ?_
  refine g_callV (fc := fun sς => Mdl_parametersIn sς x0 x1) (ci := 17) (as := [iv x1]) rfl rfl rfl q4117 qs315 mdX17_1077 (ctX17_parametersIn x0 x1) rfl (Nat.le_of_ble_eq_true rfl) (Nat.le_of_ble_eq_true rfl) (Nat.le_of_ble_eq_true rfl) pu_I dX17_invokes_2 (fun r2 σ1 => ?_)
  refine g_istore_n 2 dX17_invokes_5 rfl (by decide) rfl ?_
  refine g_aload_n 0 1 dX17_invokes_6 rfl rfl ?_
  refine g_dup dX17_invokes_7 rfl ?_
  refine g_getI fdX17_1104 dX17_invokes_8 ?_
  refine g_iload_n 2 0 dX17_invokes_11 rfl rfl ?_
  refine g_isub dX17_invokes_12 ?_
  refine g_putI fpX17_1104 dX17_invokes_13 (fun σ3 => ?_)
  refine g_iconst (v := 0) dX17_invokes_16 (by decide) ?_
  refine g_istore_n 3 dX17_invokes_17 rfl (by decide) rfl ?_
  refine G.sub [2, 3, 1, 0] rfl ?_
  exact gX17_invokes_p18 FU _ _ _ _ _
theorem V.dX17_invokesEntry_0 : decode cX17_invokesEntry 0 = .ok (.aload_n 0, 1) := by decide +kernel
theorem V.dX17_invokesEntry_1 : decode cX17_invokesEntry 1 = .ok (.invokevirtual 603, 3) := by decide +kernel
theorem V.dX17_invokesEntry_4 : decode cX17_invokesEntry 4 = .ok (.l2i, 1) := by decide +kernel
theorem V.dX17_invokesEntry_5 : decode cX17_invokesEntry 5 = .ok (.istore_n 1, 1) := by decide +kernel
theorem V.dX17_invokesEntry_6 : decode cX17_invokesEntry 6 = .ok (.aload_n 0, 1) := by decide +kernel
theorem V.dX17_invokesEntry_7 : decode cX17_invokesEntry 7 = .ok (.getfield 137, 3) := by decide +kernel
theorem V.dX17_invokesEntry_10 : decode cX17_invokesEntry 10 = .ok (.sipush 128, 3) := by decide +kernel
theorem V.dX17_invokesEntry_13 : decode cX17_invokesEntry 13 = .ok (.aload_n 0, 1) := by decide +kernel
theorem V.dX17_invokesEntry_14 : decode cX17_invokesEntry 14 = .ok (.getfield 1110, 3) := by decide +kernel
theorem V.dX17_invokesEntry_17 : decode cX17_invokesEntry 17 = .ok (.imul, 1) := by decide +kernel
theorem V.dX17_invokesEntry_18 : decode cX17_invokesEntry 18 = .ok (.aload_n 0, 1) := by decide +kernel
theorem V.dX17_invokesEntry_19 : decode cX17_invokesEntry 19 = .ok (.invokevirtual 603, 3) := by decide +kernel
theorem V.dX17_invokesEntry_22 : decode cX17_invokesEntry 22 = .ok (.l2i, 1) := by decide +kernel
theorem V.dX17_invokesEntry_23 : decode cX17_invokesEntry 23 = .ok (.iadd, 1) := by decide +kernel
theorem V.dX17_invokesEntry_24 : decode cX17_invokesEntry 24 = .ok (.iaload, 1) := by decide +kernel
theorem V.dX17_invokesEntry_25 : decode cX17_invokesEntry 25 = .ok (.istore_n 2, 1) := by decide +kernel
theorem V.dX17_invokesEntry_26 : decode cX17_invokesEntry 26 = .ok (.aload_n 0, 1) := by decide +kernel
theorem V.dX17_invokesEntry_27 : decode cX17_invokesEntry 27 = .ok (.invokevirtual 1157, 3) := by decide +kernel
theorem V.dX17_invokesEntry_30 : decode cX17_invokesEntry 30 = .ok (.lstore_n 3, 1) := by decide +kernel
theorem V.dX17_invokesEntry_31 : decode cX17_invokesEntry 31 = .ok (.lload_n 3, 1) := by decide +kernel
theorem V.dX17_invokesEntry_32 : decode cX17_invokesEntry 32 = .ok (.aload_n 0, 1) := by decide +kernel
theorem V.dX17_invokesEntry_33 : decode cX17_invokesEntry 33 = .ok (.getfield 96, 3) := by decide +kernel
theorem V.dX17_invokesEntry_36 : decode cX17_invokesEntry 36 = .ok (.iload_n 2, 1) := by decide +kernel
theorem V.dX17_invokesEntry_37 : decode cX17_invokesEntry 37 = .ok (.iaload, 1) := by decide +kernel
theorem V.dX17_invokesEntry_38 : decode cX17_invokesEntry 38 = .ok (.i2l, 1) := by decide +kernel
theorem V.dX17_invokesEntry_39 : decode cX17_invokesEntry 39 = .ok (.lcmp, 1) := by decide +kernel
theorem V.dX17_invokesEntry_40 : decode cX17_invokesEntry 40 = .ok (.ifCond .lt 11, 3) := by decide +kernel
theorem V.dX17_invokesEntry_43 : decode cX17_invokesEntry 43 = .ok (.aload_n 0, 1) := by decide +kernel
theorem V.dX17_invokesEntry_44 : decode cX17_invokesEntry 44 = .ok (.bipush 7, 2) := by decide +kernel
theorem V.dX17_invokesEntry_46 : decode cX17_invokesEntry 46 = .ok (.iconst 1, 1) := by decide +kernel
theorem V.dX17_invokesEntry_47 : decode cX17_invokesEntry 47 = .ok (.invokevirtual 1163, 3) := by decide +kernel
theorem V.dX17_invokesEntry_50 : decode cX17_invokesEntry 50 = .ok (.return_, 1) := by decide +kernel
theorem V.dX17_invokesEntry_51 : decode cX17_invokesEntry 51 = .ok (.aload_n 0, 1) := by decide +kernel
theorem V.dX17_invokesEntry_52 : decode cX17_invokesEntry 52 = .ok (.getfield 103, 3) := by decide +kernel
theorem V.dX17_invokesEntry_55 : decode cX17_invokesEntry 55 = .ok (.sipush 1024, 3) := by decide +kernel
theorem V.dX17_invokesEntry_58 : decode cX17_invokesEntry 58 = .ok (.iload_n 2, 1) := by decide +kernel
theorem V.dX17_invokesEntry_59 : decode cX17_invokesEntry 59 = .ok (.imul, 1) := by decide +kernel
theorem V.dX17_invokesEntry_60 : decode cX17_invokesEntry 60 = .ok (.lload_n 3, 1) := by decide +kernel
theorem V.dX17_invokesEntry_61 : decode cX17_invokesEntry 61 = .ok (.l2i, 1) := by decide +kernel
theorem V.dX17_invokesEntry_62 : decode cX17_invokesEntry 62 = .ok (.iadd, 1) := by decide +kernel
theorem V.dX17_invokesEntry_63 : decode cX17_invokesEntry 63 = .ok (.iaload, 1) := by decide +kernel
theorem V.dX17_invokesEntry_64 : decode cX17_invokesEntry 64 = .ok (.istore 5, 2) := by decide +kernel
theorem V.dX17_invokesEntry_66 : decode cX17_invokesEntry 66 = .ok (.iload 5, 2) := by decide +kernel
theorem V.dX17_invokesEntry_68 : decode cX17_invokesEntry 68 = .ok (.ifCond .ge 13, 3) := by decide +kernel
theorem V.dX17_invokesEntry_71 : decode cX17_invokesEntry 71 = .ok (.aload_n 0, 1) := by decide +kernel
theorem V.dX17_invokesEntry_72 : decode cX17_invokesEntry 72 = .ok (.bipush 8, 2) := by decide +kernel
theorem V.dX17_invokesEntry_74 : decode cX17_invokesEntry 74 = .ok (.iconst 1, 1) := by decide +kernel
theorem V.dX17_invokesEntry_75 : decode cX17_invokesEntry 75 = .ok (.invokevirtual 1163, 3) := by decide +kernel
theorem V.dX17_invokesEntry_78 : decode cX17_invokesEntry 78 = .ok (.goto 50, 3) := by decide +kernel
theorem V.dX17_invokesEntry_81 : decode cX17_invokesEntry 81 = .ok (.aload_n 0, 1) := by decide +kernel
theorem V.dX17_invokesEntry_82 : decode cX17_invokesEntry 82 = .ok (.aload_n 0, 1) := by decide +kernel
theorem V.dX17_invokesEntry_83 : decode cX17_invokesEntry 83 = .ok (.getfield 68, 3) := by decide +kernel
theorem V.dX17_invokesEntry_86 : decode cX17_invokesEntry 86 = .ok (.iload 5, 2) := by decide +kernel
theorem V.dX17_invokesEntry_88 : decode cX17_invokesEntry 88 = .ok (.iaload, 1) := by decide +kernel
theorem V.dX17_invokesEntry_89 : decode cX17_invokesEntry 89 = .ok (.aload_n 0, 1) := by decide +kernel
theorem V.dX17_invokesEntry_90 : decode cX17_invokesEntry 90 = .ok (.getfield 71, 3) := by decide +kernel
theorem V.dX17_invokesEntry_93 : decode cX17_invokesEntry 93 = .ok (.iload 5, 2) := by decide +kernel
theorem V.dX17_invokesEntry_95 : decode cX17_invokesEntry 95 = .ok (.iaload, 1) := by decide +kernel
theorem V.dX17_invokesEntry_96 : decode cX17_invokesEntry 96 = .ok (.aload_n 0, 1) := by decide +kernel
theorem V.dX17_invokesEntry_97 : decode cX17_invokesEntry 97 = .ok (.getfield 131, 3) := by decide +kernel
theorem V.dX17_invokesEntry_100 : decode cX17_invokesEntry 100 = .ok (.aload_n 0, 1) := by decide +kernel
theorem V.dX17_invokesEntry_101 : decode cX17_invokesEntry 101 = .ok (.getfield 1110, 3) := by decide +kernel
theorem V.dX17_invokesEntry_104 : decode cX17_invokesEntry 104 = .ok (.iaload, 1) := by decide +kernel
theorem V.dX17_invokesEntry_105 : decode cX17_invokesEntry 105 = .ok (.iload_n 1, 1) := by decide +kernel
theorem V.dX17_invokesEntry_106 : decode cX17_invokesEntry 106 = .ok (.invokevirtual 973, 3) := by decide +kernel
theorem V.dX17_invokesEntry_109 : decode cX17_invokesEntry 109 = .ok (.ifCond .ne 13, 3) := by decide +kernel
theorem V.dX17_invokesEntry_112 : decode cX17_invokesEntry 112 = .ok (.aload_n 0, 1) := by decide +kernel
theorem V.dX17_invokesEntry_113 : decode cX17_invokesEntry 113 = .ok (.bipush 9, 2) := by decide +kernel
theorem V.dX17_invokesEntry_115 : decode cX17_invokesEntry 115 = .ok (.iconst 1, 1) := by decide +kernel
theorem V.dX17_invokesEntry_116 : decode cX17_invokesEntry 116 = .ok (.invokevirtual 1163, 3) := by decide +kernel
theorem V.dX17_invokesEntry_119 : decode cX17_invokesEntry 119 = .ok (.goto 9, 3) := by decide +kernel
theorem V.dX17_invokesEntry_122 : decode cX17_invokesEntry 122 = .ok (.aload_n 0, 1) := by decide +kernel
theorem V.dX17_invokesEntry_123 : decode cX17_invokesEntry 123 = .ok (.iload 5, 2) := by decide +kernel
theorem V.dX17_invokesEntry_125 : decode cX17_invokesEntry 125 = .ok (.invokevirtual 1173, 3) := by decide +kernel
theorem V.dX17_invokesEntry_128 : decode cX17_invokesEntry 128 = .ok (.return_, 1) := by decide +kernel
theorem V.fdX17_1110 : FD RX17 1110 17 95 0 := ⟨(RX17, TX17, 101), tyX17, rfl, rfl, in_X17, by decide, Or.inl q3131, rfl⟩
theorem V.mdX17_1173 : MD RX17 1173 yX17_invokes cX17_invokes 4 none 1 := ⟨Or.inl q4332, q377, q4335, by decide, by decide, by decide +kernel⟩
/-! ModuleEngineModel.invokesEntry()V -/
def V.Mdl_invokesEntry (σ : HS) (x0 : Nat) : Option (Unit × HS) :=
  ck (tg σ x0 = 18) <| cl (Mdl_word σ x0 ) fun r2 σ1 =>
  ck (tg σ1 x0 = 18) <|
  ck (tg σ1 x0 = 18) <|
  ck (tg σ1 x0 = 18) <| cl (Mdl_word σ1 x0 ) fun r4 σ3 =>
  ck (tg σ3 (gR σ1 x0 65) = 100 ∧ inb (((128 : Int32) * (gI σ1 x0 95)) + r4.toInt32) (ln σ3 (gR σ1 x0 65))) <|
  bn (gI σ3 (gR σ1 x0 65) (ix (((128 : Int32) * (gI σ1 x0 95)) + r4.toInt32))) fun y5 =>
  ck (tg σ3 x0 = 18) <| cl (Mdl_pop σ3 x0 ) fun r7 σ6 =>
  ck (tg σ6 x0 = 18) <|
  ck (tg σ6 (gR σ6 x0 49) = 100 ∧ inb y5 (ln σ6 (gR σ6 x0 49))) <|
  if r7 < ((gI σ6 (gR σ6 x0 49) (ix y5)).toInt64) then (
    ck (tg σ6 x0 = 18) <|
    ck (tg σ6 (gR σ6 x0 51) = 100 ∧ inb (((1024 : Int32) * y5) + r7.toInt32) (ln σ6 (gR σ6 x0 51))) <|
    bn (gI σ6 (gR σ6 x0 51) (ix (((1024 : Int32) * y5) + r7.toInt32))) fun y8 =>
    if 0 ≤ y8 then (
      ck (tg σ6 x0 = 18) <|
      ck (tg σ6 (gR σ6 x0 37) = 100 ∧ inb y8 (ln σ6 (gR σ6 x0 37))) <|
      ck (tg σ6 x0 = 18) <|
      ck (tg σ6 (gR σ6 x0 38) = 100 ∧ inb y8 (ln σ6 (gR σ6 x0 38))) <|
      ck (tg σ6 x0 = 18) <|
      ck (tg σ6 x0 = 18) <|
      ck (tg σ6 (gR σ6 x0 63) = 100 ∧ inb (gI σ6 x0 95) (ln σ6 (gR σ6 x0 63))) <|
      ck (tg σ6 x0 = 18) <| cl (Mdl_haveSameRows σ6 x0 (gI σ6 (gR σ6 x0 37) (ix y8)) (gI σ6 (gR σ6 x0 38) (ix y8)) (gI σ6 (gR σ6 x0 63) (ix (gI σ6 x0 95))) r2.toInt32) fun r10 σ9 =>
      if r10 = 0 then (
        ck (tg σ9 x0 = 18) <| cl (Mdl_endsBy σ9 x0 (9 : Int32) (1 : Int32)) fun _ σ12 =>
        some ((), σ12))
      else (
        ck (tg σ9 x0 = 18) <| cl (Mdl_invokes σ9 x0 y8) fun _ σ11 =>
        some ((), σ11)))
    else (
      ck (tg σ6 x0 = 18) <| cl (Mdl_endsBy σ6 x0 (8 : Int32) (1 : Int32)) fun _ σ13 =>
      some ((), σ13)))
  else (
    ck (tg σ6 x0 = 18) <| cl (Mdl_endsBy σ6 x0 (7 : Int32) (1 : Int32)) fun _ σ14 =>
    some ((), σ14))
theorem V.ctX17_invokesEntry (x0 : Nat) : Ct yX17_invokesEntry  cX17_invokesEntry 6 none 4 100 eV [av x0] (fun σ => Mdl_invokesEntry σ x0) := by
  refine Ct.of (own := RX17) (nm := "invokesEntry") (desc := "()V") rfl (by decide) (Nat.le_of_ble_eq_true rfl) (by decide) (fun X σ => ?_)
  show G X RX17 "invokesEntry" cX17_invokesEntry 6 none 4 100 enV 0 [(0, av x0)] [] σ (Mdl_invokesEntry σ x0)
  unfold Mdl_invokesEntry
  refine g_aload_n 0 0 dX17_invokesEntry_0 rfl rfl ?_
  refine g_callV (fc := fun sς => Mdl_word sς x0 ) (ci := 17) (as := []) rfl rfl rfl q3813 qs250 mdX17_603 (ctX17_word x0 ) rfl (Nat.le_of_ble_eq_true rfl) (Nat.le_of_ble_eq_true rfl) (Nat.le_of_ble_eq_true rfl) pu_J dX17_invokesEntry_1 (fun r2 σ1 => ?_)
  refine g_l2i dX17_invokesEntry_4 ?_
  refine g_istore_n 1 dX17_invokesEntry_5 rfl (by decide) rfl ?_
  refine g_aload_n 0 1 dX17_invokesEntry_6 rfl rfl ?_
  refine g_getR fdX17_137 dX17_invokesEntry_7 ?_
  refine g_sipush (v := 128) dX17_invokesEntry_10 (by decide) ?_
  refine g_aload_n 0 1 dX17_invokesEntry_13 rfl rfl ?_
  refine g_getI fdX17_1110 dX17_invokesEntry_14 ?_
  refine g_imul dX17_invokesEntry_17 ?_
  refine g_aload_n 0 1 dX17_invokesEntry_18 rfl rfl ?_
  refine g_callV (fc := fun sς => Mdl_word sς x0 ) (ci := 17) (as := []) rfl rfl rfl q3813 qs250 mdX17_603 (ctX17_word x0 ) rfl (Nat.le_of_ble_eq_true rfl) (Nat.le_of_ble_eq_true rfl) (Nat.le_of_ble_eq_true rfl) pu_J dX17_invokesEntry_19 (fun r4 σ3 => ?_)
  refine g_l2i dX17_invokesEntry_22 ?_
  refine g_iadd dX17_invokesEntry_23 ?_
  refine g_iaload dX17_invokesEntry_24 ?_
  refine g_nmI (fun y5 => ?_)
  refine g_istore_n 2 dX17_invokesEntry_25 rfl (by decide) rfl ?_
  refine g_aload_n 0 2 dX17_invokesEntry_26 rfl rfl ?_
  refine g_callV (fc := fun sς => Mdl_pop sς x0 ) (ci := 17) (as := []) rfl rfl rfl q4182 qs327 mdX17_1157 (ctX17_pop x0 ) rfl (Nat.le_of_ble_eq_true rfl) (Nat.le_of_ble_eq_true rfl) (Nat.le_of_ble_eq_true rfl) pu_J dX17_invokesEntry_27 (fun r7 σ6 => ?_)
  refine g_lstore_n 3 dX17_invokesEntry_30 rfl (by decide) rfl ?_
  refine g_lload_n 3 0 dX17_invokesEntry_31 rfl rfl ?_
  refine g_aload_n 0 3 dX17_invokesEntry_32 rfl rfl ?_
  refine g_getR fdX17_96 dX17_invokesEntry_33 ?_
  refine g_iload_n 2 1 dX17_invokesEntry_36 rfl rfl ?_
  refine g_iaload dX17_invokesEntry_37 ?_
  refine g_i2l dX17_invokesEntry_38 ?_
  refine g_lcmp_lt 51 dX17_invokesEntry_39 dX17_invokesEntry_40 (by decide) ?_ ?_
  · refine g_aload_n 0 3 dX17_invokesEntry_51 rfl rfl ?_
    refine g_getR fdX17_103 dX17_invokesEntry_52 ?_
    refine g_sipush (v := 1024) dX17_invokesEntry_55 (by decide) ?_
    refine g_iload_n 2 1 dX17_invokesEntry_58 rfl rfl ?_
    refine g_imul dX17_invokesEntry_59 ?_
    refine g_lload_n 3 0 dX17_invokesEntry_60 rfl rfl ?_
    refine g_l2i dX17_invokesEntry_61 ?_
    refine g_iadd dX17_invokesEntry_62 ?_
    refine g_iaload dX17_invokesEntry_63 ?_
    refine g_nmI (fun y8 => ?_)
    refine g_istore dX17_invokesEntry_64 (by decide) rfl ?_
    refine g_iload 0 dX17_invokesEntry_66 rfl ?_
    refine g_if_ge 81 dX17_invokesEntry_68 (by decide) ?_ ?_
    · refine g_aload_n 0 4 dX17_invokesEntry_81 rfl rfl ?_
      refine g_aload_n 0 4 dX17_invokesEntry_82 rfl rfl ?_
      refine g_getR fdX17_68 dX17_invokesEntry_83 ?_
      refine g_iload 0 dX17_invokesEntry_86 rfl ?_
      refine g_iaload dX17_invokesEntry_88 ?_
      refine g_aload_n 0 4 dX17_invokesEntry_89 rfl rfl ?_
      refine g_getR fdX17_71 dX17_invokesEntry_90 ?_
      refine g_iload 0 dX17_invokesEntry_93 rfl ?_
      refine g_iaload dX17_invokesEntry_95 ?_
      refine g_aload_n 0 4 dX17_invokesEntry_96 rfl rfl ?_
      refine g_getR fdX17_131 dX17_invokesEntry_97 ?_
      refine g_aload_n 0 4 dX17_invokesEntry_100 rfl rfl ?_
      refine g_getI fdX17_1110 dX17_invokesEntry_101 ?_
      refine g_iaload dX17_invokesEntry_104 ?_
      refine g_iload_n 1 3 dX17_invokesEntry_105 rfl rfl ?_
      refine g_callV (fc := fun sς => Mdl_haveSameRows sς x0 (gI σ6 (gR σ6 x0 37) (ix y8)) (gI σ6 (gR σ6 x0 38) (ix y8)) (gI σ6 (gR σ6 x0 63) (ix (gI σ6 x0 95))) r2.toInt32) (ci := 17) (as := [iv (gI σ6 (gR σ6 x0 37) (ix y8)), iv (gI σ6 (gR σ6 x0 38) (ix y8)), iv (gI σ6 (gR σ6 x0 63) (ix (gI σ6 x0 95))), iv r2.toInt32]) rfl rfl rfl q4035 qs295 mdX17_973 (ctX17_haveSameRows x0 (gI σ6 (gR σ6 x0 37) (ix y8)) (gI σ6 (gR σ6 x0 38) (ix y8)) (gI σ6 (gR σ6 x0 63) (ix (gI σ6 x0 95))) r2.toInt32) rfl (Nat.le_of_ble_eq_true rfl) (Nat.le_of_ble_eq_true rfl) (Nat.le_of_ble_eq_true rfl) pu_I dX17_invokesEntry_106 (fun r10 σ9 => ?_)
      refine g_if_ne 122 dX17_invokesEntry_109 (by decide) ?_ ?_
      · refine g_aload_n 0 4 dX17_invokesEntry_122 rfl rfl ?_
        refine g_iload 0 dX17_invokesEntry_123 rfl ?_
        refine g_callV (fc := fun sς => Mdl_invokes sς x0 y8) (ci := 17) (as := [iv y8]) rfl rfl rfl q4334 qs349 mdX17_1173 (ctX17_invokes x0 y8) rfl (Nat.le_of_ble_eq_true rfl) (Nat.le_of_ble_eq_true rfl) (Nat.le_of_ble_eq_true rfl) pu_V dX17_invokesEntry_125 (fun _ σ11 => ?_)
        exact g_return rfl dX17_invokesEntry_128
      · refine g_aload_n 0 4 dX17_invokesEntry_112 rfl rfl ?_
        refine g_bipush (v := 9) dX17_invokesEntry_113 (by decide) ?_
        refine g_iconst (v := 1) dX17_invokesEntry_115 (by decide) ?_
        refine g_callV (fc := fun sς => Mdl_endsBy sς x0 (9 : Int32) (1 : Int32)) (ci := 17) (as := [iv (9 : Int32), iv (1 : Int32)]) rfl rfl rfl q4314 qs344 mdX17_1163 (ctX17_endsBy x0 (9 : Int32) (1 : Int32)) rfl (Nat.le_of_ble_eq_true rfl) (Nat.le_of_ble_eq_true rfl) (Nat.le_of_ble_eq_true rfl) pu_V dX17_invokesEntry_116 (fun _ σ12 => ?_)
        refine g_goto 128 dX17_invokesEntry_119 (by decide) ?_
        exact g_return rfl dX17_invokesEntry_128
    · refine g_aload_n 0 4 dX17_invokesEntry_71 rfl rfl ?_
      refine g_bipush (v := 8) dX17_invokesEntry_72 (by decide) ?_
      refine g_iconst (v := 1) dX17_invokesEntry_74 (by decide) ?_
      refine g_callV (fc := fun sς => Mdl_endsBy sς x0 (8 : Int32) (1 : Int32)) (ci := 17) (as := [iv (8 : Int32), iv (1 : Int32)]) rfl rfl rfl q4314 qs344 mdX17_1163 (ctX17_endsBy x0 (8 : Int32) (1 : Int32)) rfl (Nat.le_of_ble_eq_true rfl) (Nat.le_of_ble_eq_true rfl) (Nat.le_of_ble_eq_true rfl) pu_V dX17_invokesEntry_75 (fun _ σ13 => ?_)
      refine g_goto 128 dX17_invokesEntry_78 (by decide) ?_
      exact g_return rfl dX17_invokesEntry_128
  · refine g_aload_n 0 3 dX17_invokesEntry_43 rfl rfl ?_
    refine g_bipush (v := 7) dX17_invokesEntry_44 (by decide) ?_
    refine g_iconst (v := 1) dX17_invokesEntry_46 (by decide) ?_
    refine g_callV (fc := fun sς => Mdl_endsBy sς x0 (7 : Int32) (1 : Int32)) (ci := 17) (as := [iv (7 : Int32), iv (1 : Int32)]) rfl rfl rfl q4314 qs344 mdX17_1163 (ctX17_endsBy x0 (7 : Int32) (1 : Int32)) rfl (Nat.le_of_ble_eq_true rfl) (Nat.le_of_ble_eq_true rfl) (Nat.le_of_ble_eq_true rfl) pu_V dX17_invokesEntry_47 (fun _ σ14 => ?_)
    exact g_return rfl dX17_invokesEntry_50
theorem V.dX17_turns_0 : decode cX17_turns 0 = .ok (.iload_n 1, 1) := by decide +kernel
theorem V.dX17_turns_1 : decode cX17_turns 1 = .ok (.tableswitch 360 0 28 #[131, 360, 360, 360, 140, 360, 360, 360, 360, 360, 360, 360, 148, 160, 183, 254, 279, 305, 360, 360, 360, 360, 360, 360, 360, 360, 312, 321, 321], 131) := by decide +kernel
theorem V.dX17_turns_132 : decode cX17_turns 132 = .ok (.aload_n 0, 1) := by decide +kernel
theorem V.dX17_turns_133 : decode cX17_turns 133 = .ok (.iconst 1, 1) := by decide +kernel
theorem V.dX17_turns_134 : decode cX17_turns 134 = .ok (.iconst 1, 1) := by decide +kernel
theorem V.dX17_turns_135 : decode cX17_turns 135 = .ok (.invokevirtual 1163, 3) := by decide +kernel
theorem V.dX17_turns_138 : decode cX17_turns 138 = .ok (.goto 223, 3) := by decide +kernel
theorem V.dX17_turns_141 : decode cX17_turns 141 = .ok (.aload_n 0, 1) := by decide +kernel
theorem V.dX17_turns_142 : decode cX17_turns 142 = .ok (.iload_n 2, 1) := by decide +kernel
theorem V.dX17_turns_143 : decode cX17_turns 143 = .ok (.invokevirtual 1167, 3) := by decide +kernel
theorem V.dX17_turns_146 : decode cX17_turns 146 = .ok (.goto 215, 3) := by decide +kernel
theorem V.dX17_turns_149 : decode cX17_turns 149 = .ok (.aload_n 0, 1) := by decide +kernel
theorem V.dX17_turns_150 : decode cX17_turns 150 = .ok (.aload_n 0, 1) := by decide +kernel
theorem V.dX17_turns_151 : decode cX17_turns 151 = .ok (.invokevirtual 603, 3) := by decide +kernel
theorem V.dX17_turns_154 : decode cX17_turns 154 = .ok (.l2i, 1) := by decide +kernel
theorem V.dX17_turns_155 : decode cX17_turns 155 = .ok (.invokevirtual 1170, 3) := by decide +kernel
theorem V.dX17_turns_158 : decode cX17_turns 158 = .ok (.goto 203, 3) := by decide +kernel
theorem V.dX17_turns_161 : decode cX17_turns 161 = .ok (.aload_n 0, 1) := by decide +kernel
theorem V.dX17_turns_162 : decode cX17_turns 162 = .ok (.invokevirtual 603, 3) := by decide +kernel
theorem V.dX17_turns_165 : decode cX17_turns 165 = .ok (.l2i, 1) := by decide +kernel
theorem V.dX17_turns_166 : decode cX17_turns 166 = .ok (.istore_n 3, 1) := by decide +kernel
theorem V.dX17_turns_167 : decode cX17_turns 167 = .ok (.aload_n 0, 1) := by decide +kernel
theorem V.dX17_turns_168 : decode cX17_turns 168 = .ok (.invokevirtual 1157, 3) := by decide +kernel
theorem V.dX17_turns_171 : decode cX17_turns 171 = .ok (.lconst 0, 1) := by decide +kernel
theorem V.dX17_turns_172 : decode cX17_turns 172 = .ok (.lcmp, 1) := by decide +kernel
theorem V.dX17_turns_173 : decode cX17_turns 173 = .ok (.ifCond .eq 188, 3) := by decide +kernel
theorem V.dX17_turns_176 : decode cX17_turns 176 = .ok (.aload_n 0, 1) := by decide +kernel
theorem V.dX17_turns_177 : decode cX17_turns 177 = .ok (.iload_n 3, 1) := by decide +kernel
theorem V.dX17_turns_178 : decode cX17_turns 178 = .ok (.invokevirtual 1170, 3) := by decide +kernel
theorem V.dX17_turns_181 : decode cX17_turns 181 = .ok (.goto 180, 3) := by decide +kernel
theorem V.dX17_turns_184 : decode cX17_turns 184 = .ok (.aload_n 0, 1) := by decide +kernel
theorem V.dX17_turns_185 : decode cX17_turns 185 = .ok (.invokevirtual 603, 3) := by decide +kernel
theorem V.dX17_turns_188 : decode cX17_turns 188 = .ok (.lstore 4, 2) := by decide +kernel
theorem V.dX17_turns_190 : decode cX17_turns 190 = .ok (.aload_n 0, 1) := by decide +kernel
theorem V.dX17_turns_191 : decode cX17_turns 191 = .ok (.invokevirtual 1157, 3) := by decide +kernel
theorem V.dX17_turns_194 : decode cX17_turns 194 = .ok (.lstore 6, 2) := by decide +kernel
theorem V.dX17_turns_196 : decode cX17_turns 196 = .ok (.lload 6, 2) := by decide +kernel
theorem V.dX17_turns_198 : decode cX17_turns 198 = .ok (.lload 4, 2) := by decide +kernel
theorem V.dX17_turns_200 : decode cX17_turns 200 = .ok (.lcmp, 1) := by decide +kernel
theorem V.dX17_turns_201 : decode cX17_turns 201 = .ok (.ifCond .ge 8, 3) := by decide +kernel
theorem V.dX17_turns_204 : decode cX17_turns 204 = .ok (.lload 6, 2) := by decide +kernel
theorem V.dX17_turns_206 : decode cX17_turns 206 = .ok (.goto 5, 3) := by decide +kernel
theorem V.dX17_turns_209 : decode cX17_turns 209 = .ok (.lload 4, 2) := by decide +kernel
theorem V.dX17_turns_211 : decode cX17_turns 211 = .ok (.lstore 8, 2) := by decide +kernel
theorem V.dX17_turns_213 : decode cX17_turns 213 = .ok (.aload_n 0, 1) := by decide +kernel
theorem V.dX17_turns_214 : decode cX17_turns 214 = .ok (.invokevirtual 603, 3) := by decide +kernel
theorem V.dX17_turns_217 : decode cX17_turns 217 = .ok (.lstore 10, 2) := by decide +kernel
theorem V.dX17_turns_219 : decode cX17_turns 219 = .ok (.lconst 0, 1) := by decide +kernel
theorem V.dX17_turns_220 : decode cX17_turns 220 = .ok (.lstore 12, 2) := by decide +kernel
theorem V.dX17_turns_222 : decode cX17_turns 222 = .ok (.lload 12, 2) := by decide +kernel
theorem V.dX17_turns_224 : decode cX17_turns 224 = .ok (.lload 8, 2) := by decide +kernel
theorem V.dX17_turns_226 : decode cX17_turns 226 = .ok (.lcmp, 1) := by decide +kernel
theorem V.dX17_turns_227 : decode cX17_turns 227 = .ok (.ifCond .ge 18, 3) := by decide +kernel
theorem V.dX17_turns_230 : decode cX17_turns 230 = .ok (.aload_n 0, 1) := by decide +kernel
theorem V.dX17_turns_231 : decode cX17_turns 231 = .ok (.invokevirtual 603, 3) := by decide +kernel
theorem V.dX17_turns_234 : decode cX17_turns 234 = .ok (.lstore 10, 2) := by decide +kernel
theorem V.dX17_turns_236 : decode cX17_turns 236 = .ok (.lload 12, 2) := by decide +kernel
theorem V.dX17_turns_238 : decode cX17_turns 238 = .ok (.lconst 1, 1) := by decide +kernel
theorem V.dX17_turns_239 : decode cX17_turns 239 = .ok (.ladd, 1) := by decide +kernel
theorem V.dX17_turns_240 : decode cX17_turns 240 = .ok (.lstore 12, 2) := by decide +kernel
theorem V.dX17_turns_242 : decode cX17_turns 242 = .ok (.goto (-20), 3) := by decide +kernel
theorem V.dX17_turns_245 : decode cX17_turns 245 = .ok (.aload_n 0, 1) := by decide +kernel
theorem V.dX17_turns_246 : decode cX17_turns 246 = .ok (.lload 10, 2) := by decide +kernel
theorem V.dX17_turns_248 : decode cX17_turns 248 = .ok (.l2i, 1) := by decide +kernel
theorem V.dX17_turns_249 : decode cX17_turns 249 = .ok (.invokevirtual 1170, 3) := by decide +kernel
theorem V.dX17_turns_252 : decode cX17_turns 252 = .ok (.goto 109, 3) := by decide +kernel
theorem V.dX17_turns_255 : decode cX17_turns 255 = .ok (.aload_n 0, 1) := by decide +kernel
theorem V.dX17_turns_256 : decode cX17_turns 256 = .ok (.aload_n 0, 1) := by decide +kernel
theorem V.dX17_turns_257 : decode cX17_turns 257 = .ok (.getfield 1086, 3) := by decide +kernel
theorem V.dX17_turns_260 : decode cX17_turns 260 = .ok (.iconst 1, 1) := by decide +kernel
theorem V.dX17_turns_261 : decode cX17_turns 261 = .ok (.isub, 1) := by decide +kernel
theorem V.dX17_turns_262 : decode cX17_turns 262 = .ok (.aload_n 0, 1) := by decide +kernel
theorem V.dX17_turns_263 : decode cX17_turns 263 = .ok (.getfield 188, 3) := by decide +kernel
theorem V.dX17_turns_266 : decode cX17_turns 266 = .ok (.aload_n 0, 1) := by decide +kernel
theorem V.dX17_turns_267 : decode cX17_turns 267 = .ok (.getfield 1052, 3) := by decide +kernel
theorem V.dX17_turns_270 : decode cX17_turns 270 = .ok (.iconst 1, 1) := by decide +kernel
theorem V.dX17_turns_271 : decode cX17_turns 271 = .ok (.isub, 1) := by decide +kernel
theorem V.dX17_turns_272 : decode cX17_turns 272 = .ok (.iaload, 1) := by decide +kernel
theorem V.dX17_turns_273 : decode cX17_turns 273 = .ok (.isub, 1) := by decide +kernel
theorem V.dX17_turns_274 : decode cX17_turns 274 = .ok (.invokevirtual 1170, 3) := by decide +kernel
theorem V.dX17_turns_277 : decode cX17_turns 277 = .ok (.goto 84, 3) := by decide +kernel
theorem V.dX17_turns_280 : decode cX17_turns 280 = .ok (.aload_n 0, 1) := by decide +kernel
theorem V.dX17_turns_281 : decode cX17_turns 281 = .ok (.aload_n 0, 1) := by decide +kernel
theorem V.dX17_turns_282 : decode cX17_turns 282 = .ok (.getfield 134, 3) := by decide +kernel
theorem V.dX17_turns_285 : decode cX17_turns 285 = .ok (.sipush 128, 3) := by decide +kernel
theorem V.dX17_turns_288 : decode cX17_turns 288 = .ok (.aload_n 0, 1) := by decide +kernel
theorem V.dX17_turns_289 : decode cX17_turns 289 = .ok (.getfield 1110, 3) := by decide +kernel
theorem V.dX17_turns_292 : decode cX17_turns 292 = .ok (.imul, 1) := by decide +kernel
theorem V.dX17_turns_293 : decode cX17_turns 293 = .ok (.aload_n 0, 1) := by decide +kernel
theorem V.dX17_turns_294 : decode cX17_turns 294 = .ok (.invokevirtual 603, 3) := by decide +kernel
theorem V.dX17_turns_297 : decode cX17_turns 297 = .ok (.l2i, 1) := by decide +kernel
theorem V.dX17_turns_298 : decode cX17_turns 298 = .ok (.iadd, 1) := by decide +kernel
theorem V.dX17_turns_299 : decode cX17_turns 299 = .ok (.iaload, 1) := by decide +kernel
theorem V.dX17_turns_300 : decode cX17_turns 300 = .ok (.invokevirtual 1173, 3) := by decide +kernel
theorem V.dX17_turns_303 : decode cX17_turns 303 = .ok (.goto 58, 3) := by decide +kernel
theorem V.dX17_turns_306 : decode cX17_turns 306 = .ok (.aload_n 0, 1) := by decide +kernel
theorem V.dX17_turns_307 : decode cX17_turns 307 = .ok (.invokevirtual 1176, 3) := by decide +kernel
theorem V.dX17_turns_310 : decode cX17_turns 310 = .ok (.goto 51, 3) := by decide +kernel
theorem V.dX17_turns_313 : decode cX17_turns 313 = .ok (.aload_n 0, 1) := by decide +kernel
theorem V.dX17_turns_314 : decode cX17_turns 314 = .ok (.invokevirtual 1157, 3) := by decide +kernel
theorem V.dX17_turns_317 : decode cX17_turns 317 = .ok (.lstore 12, 2) := by decide +kernel
theorem V.dX17_turns_319 : decode cX17_turns 319 = .ok (.goto 42, 3) := by decide +kernel
theorem V.dX17_turns_322 : decode cX17_turns 322 = .ok (.aload_n 0, 1) := by decide +kernel
theorem V.dX17_turns_323 : decode cX17_turns 323 = .ok (.invokevirtual 1157, 3) := by decide +kernel
theorem V.dX17_turns_326 : decode cX17_turns 326 = .ok (.lstore 14, 2) := by decide +kernel
theorem V.dX17_turns_328 : decode cX17_turns 328 = .ok (.aload_n 0, 1) := by decide +kernel
theorem V.dX17_turns_329 : decode cX17_turns 329 = .ok (.invokevirtual 1157, 3) := by decide +kernel
theorem V.dX17_turns_332 : decode cX17_turns 332 = .ok (.lstore 16, 2) := by decide +kernel
theorem V.dX17_turns_334 : decode cX17_turns 334 = .ok (.aload_n 0, 1) := by decide +kernel
theorem V.dX17_turns_335 : decode cX17_turns 335 = .ok (.invokevirtual 1157, 3) := by decide +kernel
theorem V.dX17_turns_338 : decode cX17_turns 338 = .ok (.lstore 18, 2) := by decide +kernel
theorem V.dX17_turns_340 : decode cX17_turns 340 = .ok (.aload_n 0, 1) := by decide +kernel
theorem V.dX17_turns_341 : decode cX17_turns 341 = .ok (.lload 14, 2) := by decide +kernel
theorem V.dX17_turns_343 : decode cX17_turns 343 = .ok (.lconst 0, 1) := by decide +kernel
theorem V.dX17_turns_344 : decode cX17_turns 344 = .ok (.lcmp, 1) := by decide +kernel
theorem V.dX17_turns_345 : decode cX17_turns 345 = .ok (.ifCond .eq 8, 3) := by decide +kernel
theorem V.dX17_turns_348 : decode cX17_turns 348 = .ok (.lload 18, 2) := by decide +kernel
theorem V.dX17_turns_350 : decode cX17_turns 350 = .ok (.goto 5, 3) := by decide +kernel
theorem V.dX17_turns_353 : decode cX17_turns 353 = .ok (.lload 16, 2) := by decide +kernel
theorem V.dX17_turns_355 : decode cX17_turns 355 = .ok (.invokevirtual 1136, 3) := by decide +kernel
theorem V.dX17_turns_358 : decode cX17_turns 358 = .ok (.goto 3, 3) := by decide +kernel
theorem V.dX17_turns_361 : decode cX17_turns 361 = .ok (.return_, 1) := by decide +kernel
theorem V.mdX17_1167 : MD RX17 1167 yX17_opensIf cX17_opensIf 5 none 1 := ⟨Or.inl q4324, q377, q4327, by decide, by decide, by decide +kernel⟩
theorem V.mdX17_1170 : MD RX17 1170 yX17_branches cX17_branches 6 none 1 := ⟨Or.inl q4328, q377, q4331, by decide, by decide, by decide +kernel⟩
theorem V.mdX17_1176 : MD RX17 1176 yX17_invokesEntry cX17_invokesEntry 6 none 0 := ⟨Or.inl q4336, q377, q4339, by decide, by decide, by decide +kernel⟩
/-! ModuleEngineModel.turns(II)V -/
def V.Mdl_turns_p222  : Nat → HS → Nat → Int64 → Int64 → Int64 → Option (Unit × HS)
  | 0, _, _, _, _, _ => none
  | n + 1, σ, x0, x8, x10, x12 =>
    if x8 ≤ x12 then (
      ck (tg σ x0 = 18) <| cl (Mdl_branches σ x0 x10.toInt32) fun _ σ1 =>
      some ((), σ1))
    else (
      ck (tg σ x0 = 18) <| cl (Mdl_word σ x0 ) fun r3 σ2 =>
      bn (x12 + (1 : Int64)) fun y4 =>
      Mdl_turns_p222 n σ2 x0 x8 r3 y4)
theorem V.gX17_turns_p222 {X : CX}  : ∀ (n : Nat) (σ : HS) (x0 : Nat) (x8 : Int64) (x10 : Int64) (x12 : Int64), G X RX17 "turns" cX17_turns 20 none 5 125 enV 222 [(0, av x0), (8, jv x8), (10, jv x10), (12, jv x12)] [] σ (Mdl_turns_p222 n σ x0 x8 x10 x12)
  | 0, σ, x0, x8, x10, x12 => by rw [Mdl_turns_p222]; exact G.nul
  | n + 1, σ, x0, x8, x10, x12 => by
    rw [Mdl_turns_p222]
    refine g_lload 3 dX17_turns_222 rfl ?_
    refine g_lload 1 dX17_turns_224 rfl ?_
    refine g_lcmp_ge 245 dX17_turns_226 dX17_turns_227 (by decide) ?_ ?_
    · refine g_aload_n 0 0 dX17_turns_245 rfl rfl ?_
      refine g_lload 2 dX17_turns_246 rfl ?_
      refine g_l2i dX17_turns_248 ?_
      refine g_callV (fc := fun sς => Mdl_branches sς x0 x10.toInt32) (ci := 17) (as := [iv x10.toInt32]) rfl rfl rfl q4330 qs348 mdX17_1170 (ctX17_branches x0 x10.toInt32) rfl (Nat.le_of_ble_eq_true rfl) (Nat.le_of_ble_eq_true rfl) (Nat.le_of_ble_eq_true rfl) pu_V dX17_turns_249 (fun _ σ1 => ?_)
      refine g_goto 361 dX17_turns_252 (by decide) ?_
      exact g_return rfl dX17_turns_361
    · refine g_aload_n 0 0 dX17_turns_230 rfl rfl ?_
      refine g_callV (fc := fun sς => Mdl_word sς x0 ) (ci := 17) (as := []) rfl rfl rfl q3813 qs250 mdX17_603 (ctX17_word x0 ) rfl (Nat.le_of_ble_eq_true rfl) (Nat.le_of_ble_eq_true rfl) (Nat.le_of_ble_eq_true rfl) pu_J dX17_turns_231 (fun r3 σ2 => ?_)
      refine g_lstore dX17_turns_234 (by decide) rfl ?_
      refine g_lload 3 dX17_turns_236 rfl ?_
      refine g_lconst (v := 1) dX17_turns_238 (by decide) ?_
      refine g_ladd dX17_turns_239 ?_
      refine g_nmJ (fun y4 => ?_)
      refine g_lstore dX17_turns_240 (by decide) rfl ?_
      refine g_goto 222 dX17_turns_242 (by decide) ?_
      refine G.sub [2, 3, 1, 0] rfl ?_
      exact gX17_turns_p222 n _ _ _ _ _
def V.Mdl_turns_p211  (σ : HS) (x0 : Nat) (s0 : Int64) : Option (Unit × HS) :=
  ck (tg σ x0 = 18) <| cl (Mdl_word σ x0 ) fun r2 σ1 =>
  Mdl_turns_p222 FU σ1 x0 s0 r2 (0 : Int64)
theorem V.gX17_turns_p211 {X : CX}  (σ : HS) (x0 : Nat) (s0 : Int64) : G X RX17 "turns" cX17_turns 20 none 5 125 enV 211 [(0, av x0)] [jv s0] σ (Mdl_turns_p211 σ x0 s0) := by
  unfold Mdl_turns_p211
  refine g_lstore dX17_turns_211 (by decide) rfl ?_
  refine g_aload_n 0 1 dX17_turns_213 rfl rfl ?_
  refine g_callV (fc := fun sς => Mdl_word sς x0 ) (ci := 17) (as := []) rfl rfl rfl q3813 qs250 mdX17_603 (ctX17_word x0 ) rfl (Nat.le_of_ble_eq_true rfl) (Nat.le_of_ble_eq_true rfl) (Nat.le_of_ble_eq_true rfl) pu_J dX17_turns_214 (fun r2 σ1 => ?_)
  refine g_lstore dX17_turns_217 (by decide) rfl ?_
  refine g_lconst (v := 0) dX17_turns_219 (by decide) ?_
  refine g_lstore dX17_turns_220 (by decide) rfl ?_
  refine G.sub [3, 2, 1, 0] rfl ?_
  exact gX17_turns_p222 FU _ _ _ _ _
def V.Mdl_turns_p355  (σ : HS) (s0 : Int64) (s1 : Nat) : Option (Unit × HS) :=
  ck (tg σ s1 = 18) <| cl (Mdl_push σ s1 s0) fun _ σ1 =>
  some ((), σ1)
theorem V.gX17_turns_p355 {X : CX}  (σ : HS) (s0 : Int64) (s1 : Nat) : G X RX17 "turns" cX17_turns 20 none 5 125 enV 355 [] [jv s0, av s1] σ (Mdl_turns_p355 σ s0 s1) := by
  unfold Mdl_turns_p355
  refine g_callV (fc := fun sς => Mdl_push sς s1 s0) (ci := 17) (as := [jv s0]) rfl rfl rfl q4318 qs345 mdX17_1136 (ctX17_push s1 s0) rfl (Nat.le_of_ble_eq_true rfl) (Nat.le_of_ble_eq_true rfl) (Nat.le_of_ble_eq_true rfl) pu_V dX17_turns_355 (fun _ σ1 => ?_)
  refine g_goto 361 dX17_turns_358 (by decide) ?_
  exact g_return rfl dX17_turns_361
def V.Mdl_turns_p322  (σ : HS) (x0 : Nat) : Option (Unit × HS) :=
  ck (tg σ x0 = 18) <| cl (Mdl_pop σ x0 ) fun r2 σ1 =>
  ck (tg σ1 x0 = 18) <| cl (Mdl_pop σ1 x0 ) fun r4 σ3 =>
  ck (tg σ3 x0 = 18) <| cl (Mdl_pop σ3 x0 ) fun r6 σ5 =>
  if r2 = (0 : Int64) then (
    Mdl_turns_p355 σ5 r4 x0)
  else (
    Mdl_turns_p355 σ5 r6 x0)
theorem V.gX17_turns_p322 {X : CX}  (σ : HS) (x0 : Nat) : G X RX17 "turns" cX17_turns 20 none 5 125 enV 322 [(0, av x0)] [] σ (Mdl_turns_p322 σ x0) := by
  unfold Mdl_turns_p322
  refine g_aload_n 0 0 dX17_turns_322 rfl rfl ?_
  refine g_callV (fc := fun sς => Mdl_pop sς x0 ) (ci := 17) (as := []) rfl rfl rfl q4182 qs327 mdX17_1157 (ctX17_pop x0 ) rfl (Nat.le_of_ble_eq_true rfl) (Nat.le_of_ble_eq_true rfl) (Nat.le_of_ble_eq_true rfl) pu_J dX17_turns_323 (fun r2 σ1 => ?_)
  refine g_lstore dX17_turns_326 (by decide) rfl ?_
  refine g_aload_n 0 1 dX17_turns_328 rfl rfl ?_
  refine g_callV (fc := fun sς => Mdl_pop sς x0 ) (ci := 17) (as := []) rfl rfl rfl q4182 qs327 mdX17_1157 (ctX17_pop x0 ) rfl (Nat.le_of_ble_eq_true rfl) (Nat.le_of_ble_eq_true rfl) (Nat.le_of_ble_eq_true rfl) pu_J dX17_turns_329 (fun r4 σ3 => ?_)
  refine g_lstore dX17_turns_332 (by decide) rfl ?_
  refine g_aload_n 0 2 dX17_turns_334 rfl rfl ?_
  refine g_callV (fc := fun sς => Mdl_pop sς x0 ) (ci := 17) (as := []) rfl rfl rfl q4182 qs327 mdX17_1157 (ctX17_pop x0 ) rfl (Nat.le_of_ble_eq_true rfl) (Nat.le_of_ble_eq_true rfl) (Nat.le_of_ble_eq_true rfl) pu_J dX17_turns_335 (fun r6 σ5 => ?_)
  refine g_lstore dX17_turns_338 (by decide) rfl ?_
  refine g_aload_n 0 3 dX17_turns_340 rfl rfl ?_
  refine g_lload 2 dX17_turns_341 rfl ?_
  refine g_lconst (v := 0) dX17_turns_343 (by decide) ?_
  refine g_lcmp_eq 353 dX17_turns_344 dX17_turns_345 (by decide) ?_ ?_
  · refine g_lload 1 dX17_turns_353 rfl ?_
    refine G.sub [] rfl ?_
    exact gX17_turns_p355 _ _ _
  · refine g_lload 0 dX17_turns_348 rfl ?_
    refine g_goto 355 dX17_turns_350 (by decide) ?_
    refine G.sub [] rfl ?_
    exact gX17_turns_p355 _ _ _
def V.Mdl_turns (σ : HS) (x0 : Nat) (x1 : Int32) (x2 : Int32) : Option (Unit × HS) :=
  swx x1 [
    (0, (
      ck (tg σ x0 = 18) <| cl (Mdl_endsBy σ x0 (1 : Int32) (1 : Int32)) fun _ σ1 =>
      some ((), σ1))),
    (4, (
      ck (tg σ x0 = 18) <| cl (Mdl_opensIf σ x0 x2) fun _ σ2 =>
      some ((), σ2))),
    (12, (
      ck (tg σ x0 = 18) <| cl (Mdl_word σ x0 ) fun r4 σ3 =>
      ck (tg σ3 x0 = 18) <| cl (Mdl_branches σ3 x0 r4.toInt32) fun _ σ5 =>
      some ((), σ5))),
    (13, (
      ck (tg σ x0 = 18) <| cl (Mdl_word σ x0 ) fun r7 σ6 =>
      ck (tg σ6 x0 = 18) <| cl (Mdl_pop σ6 x0 ) fun r9 σ8 =>
      if r9 = (0 : Int64) then (
        some ((), σ8))
      else (
        ck (tg σ8 x0 = 18) <| cl (Mdl_branches σ8 x0 r7.toInt32) fun _ σ10 =>
        some ((), σ10)))),
    (14, (
      ck (tg σ x0 = 18) <| cl (Mdl_word σ x0 ) fun r12 σ11 =>
      ck (tg σ11 x0 = 18) <| cl (Mdl_pop σ11 x0 ) fun r14 σ13 =>
      if r12 ≤ r14 then (
        Mdl_turns_p211 σ13 x0 r12)
      else (
        Mdl_turns_p211 σ13 x0 r14))),
    (15, (
      ck (tg σ x0 = 18) <|
      ck (tg σ x0 = 18) <|
      ck (tg σ x0 = 18) <|
      ck (tg σ (gR σ x0 91) = 100 ∧ inb ((gI σ x0 85) - (1 : Int32)) (ln σ (gR σ x0 91))) <|
      ck (tg σ x0 = 18) <| cl (Mdl_branches σ x0 (((gI σ x0 96) - (1 : Int32)) - (gI σ (gR σ x0 91) (ix ((gI σ x0 85) - (1 : Int32)))))) fun _ σ15 =>
      some ((), σ15))),
    (16, (
      ck (tg σ x0 = 18) <|
      ck (tg σ x0 = 18) <|
      ck (tg σ x0 = 18) <| cl (Mdl_word σ x0 ) fun r17 σ16 =>
      ck (tg σ16 (gR σ x0 64) = 100 ∧ inb (((128 : Int32) * (gI σ x0 95)) + r17.toInt32) (ln σ16 (gR σ x0 64))) <|
      ck (tg σ16 x0 = 18) <| cl (Mdl_invokes σ16 x0 (gI σ16 (gR σ x0 64) (ix (((128 : Int32) * (gI σ x0 95)) + r17.toInt32)))) fun _ σ18 =>
      some ((), σ18))),
    (17, (
      ck (tg σ x0 = 18) <| cl (Mdl_invokesEntry σ x0 ) fun _ σ19 =>
      some ((), σ19))),
    (26, (
      ck (tg σ x0 = 18) <| cl (Mdl_pop σ x0 ) fun r21 σ20 =>
      some ((), σ20))),
    (27, (
      Mdl_turns_p322 σ x0)),
    (28, (
      Mdl_turns_p322 σ x0))
    ] (
    some ((), σ))
theorem V.ctX17_turns (x0 : Nat) (x1 : Int32) (x2 : Int32) : Ct yX17_turns  cX17_turns 20 none 5 125 eV [av x0, iv x1, iv x2] (fun σ => Mdl_turns σ x0 x1 x2) := by
  refine Ct.of (own := RX17) (nm := "turns") (desc := "(II)V") rfl (by decide) (Nat.le_of_ble_eq_true rfl) (by decide) (fun X σ => ?_)
  show G X RX17 "turns" cX17_turns 20 none 5 125 enV 0 [(0, av x0), (1, iv x1), (2, iv x2)] [] σ (Mdl_turns σ x0 x1 x2)
  unfold Mdl_turns
  refine g_iload_n 1 1 dX17_turns_0 rfl rfl ?_
  refine g_tsw dX17_turns_1 (by decide +kernel) ?_
  refine g_case ex0 (t := 132) (by decide +kernel) ?_ (fun hx => ?_)
  · refine g_aload_n 0 0 dX17_turns_132 rfl rfl ?_
    refine g_iconst (v := 1) dX17_turns_133 (by decide) ?_
    refine g_iconst (v := 1) dX17_turns_134 (by decide) ?_
    refine g_callV (fc := fun sς => Mdl_endsBy sς x0 (1 : Int32) (1 : Int32)) (ci := 17) (as := [iv (1 : Int32), iv (1 : Int32)]) rfl rfl rfl q4314 qs344 mdX17_1163 (ctX17_endsBy x0 (1 : Int32) (1 : Int32)) rfl (Nat.le_of_ble_eq_true rfl) (Nat.le_of_ble_eq_true rfl) (Nat.le_of_ble_eq_true rfl) pu_V dX17_turns_135 (fun _ σ1 => ?_)
    refine g_goto 361 dX17_turns_138 (by decide) ?_
    exact g_return rfl dX17_turns_361
  refine g_case hx (t := 141) (by decide +kernel) ?_ (fun hx => ?_)
  · refine g_aload_n 0 0 dX17_turns_141 rfl rfl ?_
    refine g_iload_n 2 2 dX17_turns_142 rfl rfl ?_
    refine g_callV (fc := fun sς => Mdl_opensIf sς x0 x2) (ci := 17) (as := [iv x2]) rfl rfl rfl q4326 qs347 mdX17_1167 (ctX17_opensIf x0 x2) rfl (Nat.le_of_ble_eq_true rfl) (Nat.le_of_ble_eq_true rfl) (Nat.le_of_ble_eq_true rfl) pu_V dX17_turns_143 (fun _ σ2 => ?_)
    refine g_goto 361 dX17_turns_146 (by decide) ?_
    exact g_return rfl dX17_turns_361
  refine g_case hx (t := 149) (by decide +kernel) ?_ (fun hx => ?_)
  · refine g_aload_n 0 0 dX17_turns_149 rfl rfl ?_
    refine g_aload_n 0 0 dX17_turns_150 rfl rfl ?_
    refine g_callV (fc := fun sς => Mdl_word sς x0 ) (ci := 17) (as := []) rfl rfl rfl q3813 qs250 mdX17_603 (ctX17_word x0 ) rfl (Nat.le_of_ble_eq_true rfl) (Nat.le_of_ble_eq_true rfl) (Nat.le_of_ble_eq_true rfl) pu_J dX17_turns_151 (fun r4 σ3 => ?_)
    refine g_l2i dX17_turns_154 ?_
    refine g_callV (fc := fun sς => Mdl_branches sς x0 r4.toInt32) (ci := 17) (as := [iv r4.toInt32]) rfl rfl rfl q4330 qs348 mdX17_1170 (ctX17_branches x0 r4.toInt32) rfl (Nat.le_of_ble_eq_true rfl) (Nat.le_of_ble_eq_true rfl) (Nat.le_of_ble_eq_true rfl) pu_V dX17_turns_155 (fun _ σ5 => ?_)
    refine g_goto 361 dX17_turns_158 (by decide) ?_
    exact g_return rfl dX17_turns_361
  refine g_case hx (t := 161) (by decide +kernel) ?_ (fun hx => ?_)
  · refine g_aload_n 0 0 dX17_turns_161 rfl rfl ?_
    refine g_callV (fc := fun sς => Mdl_word sς x0 ) (ci := 17) (as := []) rfl rfl rfl q3813 qs250 mdX17_603 (ctX17_word x0 ) rfl (Nat.le_of_ble_eq_true rfl) (Nat.le_of_ble_eq_true rfl) (Nat.le_of_ble_eq_true rfl) pu_J dX17_turns_162 (fun r7 σ6 => ?_)
    refine g_l2i dX17_turns_165 ?_
    refine g_istore_n 3 dX17_turns_166 rfl (by decide) rfl ?_
    refine g_aload_n 0 1 dX17_turns_167 rfl rfl ?_
    refine g_callV (fc := fun sς => Mdl_pop sς x0 ) (ci := 17) (as := []) rfl rfl rfl q4182 qs327 mdX17_1157 (ctX17_pop x0 ) rfl (Nat.le_of_ble_eq_true rfl) (Nat.le_of_ble_eq_true rfl) (Nat.le_of_ble_eq_true rfl) pu_J dX17_turns_168 (fun r9 σ8 => ?_)
    refine g_lconst (v := 0) dX17_turns_171 (by decide) ?_
    refine g_lcmp_eq 361 dX17_turns_172 dX17_turns_173 (by decide) ?_ ?_
    · exact g_return rfl dX17_turns_361
    · refine g_aload_n 0 1 dX17_turns_176 rfl rfl ?_
      refine g_iload_n 3 0 dX17_turns_177 rfl rfl ?_
      refine g_callV (fc := fun sς => Mdl_branches sς x0 r7.toInt32) (ci := 17) (as := [iv r7.toInt32]) rfl rfl rfl q4330 qs348 mdX17_1170 (ctX17_branches x0 r7.toInt32) rfl (Nat.le_of_ble_eq_true rfl) (Nat.le_of_ble_eq_true rfl) (Nat.le_of_ble_eq_true rfl) pu_V dX17_turns_178 (fun _ σ10 => ?_)
      refine g_goto 361 dX17_turns_181 (by decide) ?_
      exact g_return rfl dX17_turns_361
  refine g_case hx (t := 184) (by decide +kernel) ?_ (fun hx => ?_)
  · refine g_aload_n 0 0 dX17_turns_184 rfl rfl ?_
    refine g_callV (fc := fun sς => Mdl_word sς x0 ) (ci := 17) (as := []) rfl rfl rfl q3813 qs250 mdX17_603 (ctX17_word x0 ) rfl (Nat.le_of_ble_eq_true rfl) (Nat.le_of_ble_eq_true rfl) (Nat.le_of_ble_eq_true rfl) pu_J dX17_turns_185 (fun r12 σ11 => ?_)
    refine g_lstore dX17_turns_188 (by decide) rfl ?_
    refine g_aload_n 0 1 dX17_turns_190 rfl rfl ?_
    refine g_callV (fc := fun sς => Mdl_pop sς x0 ) (ci := 17) (as := []) rfl rfl rfl q4182 qs327 mdX17_1157 (ctX17_pop x0 ) rfl (Nat.le_of_ble_eq_true rfl) (Nat.le_of_ble_eq_true rfl) (Nat.le_of_ble_eq_true rfl) pu_J dX17_turns_191 (fun r14 σ13 => ?_)
    refine g_lstore dX17_turns_194 (by decide) rfl ?_
    refine g_lload 0 dX17_turns_196 rfl ?_
    refine g_lload 1 dX17_turns_198 rfl ?_
    refine g_lcmp_ge 209 dX17_turns_200 dX17_turns_201 (by decide) ?_ ?_
    · refine g_lload 1 dX17_turns_209 rfl ?_
      refine G.sub [2] rfl ?_
      exact gX17_turns_p211 _ _ _
    · refine g_lload 0 dX17_turns_204 rfl ?_
      refine g_goto 211 dX17_turns_206 (by decide) ?_
      refine G.sub [2] rfl ?_
      exact gX17_turns_p211 _ _ _
  refine g_case hx (t := 255) (by decide +kernel) ?_ (fun hx => ?_)
  · refine g_aload_n 0 0 dX17_turns_255 rfl rfl ?_
    refine g_aload_n 0 0 dX17_turns_256 rfl rfl ?_
    refine g_getI fdX17_1086 dX17_turns_257 ?_
    refine g_iconst (v := 1) dX17_turns_260 (by decide) ?_
    refine g_isub dX17_turns_261 ?_
    refine g_aload_n 0 0 dX17_turns_262 rfl rfl ?_
    refine g_getR fdX17_188 dX17_turns_263 ?_
    refine g_aload_n 0 0 dX17_turns_266 rfl rfl ?_
    refine g_getI fdX17_1052 dX17_turns_267 ?_
    refine g_iconst (v := 1) dX17_turns_270 (by decide) ?_
    refine g_isub dX17_turns_271 ?_
    refine g_iaload dX17_turns_272 ?_
    refine g_isub dX17_turns_273 ?_
    refine g_callV (fc := fun sς => Mdl_branches sς x0 (((gI σ x0 96) - (1 : Int32)) - (gI σ (gR σ x0 91) (ix ((gI σ x0 85) - (1 : Int32)))))) (ci := 17) (as := [iv (((gI σ x0 96) - (1 : Int32)) - (gI σ (gR σ x0 91) (ix ((gI σ x0 85) - (1 : Int32)))))]) rfl rfl rfl q4330 qs348 mdX17_1170 (ctX17_branches x0 (((gI σ x0 96) - (1 : Int32)) - (gI σ (gR σ x0 91) (ix ((gI σ x0 85) - (1 : Int32)))))) rfl (Nat.le_of_ble_eq_true rfl) (Nat.le_of_ble_eq_true rfl) (Nat.le_of_ble_eq_true rfl) pu_V dX17_turns_274 (fun _ σ15 => ?_)
    refine g_goto 361 dX17_turns_277 (by decide) ?_
    exact g_return rfl dX17_turns_361
  refine g_case hx (t := 280) (by decide +kernel) ?_ (fun hx => ?_)
  · refine g_aload_n 0 0 dX17_turns_280 rfl rfl ?_
    refine g_aload_n 0 0 dX17_turns_281 rfl rfl ?_
    refine g_getR fdX17_134 dX17_turns_282 ?_
    refine g_sipush (v := 128) dX17_turns_285 (by decide) ?_
    refine g_aload_n 0 0 dX17_turns_288 rfl rfl ?_
    refine g_getI fdX17_1110 dX17_turns_289 ?_
    refine g_imul dX17_turns_292 ?_
    refine g_aload_n 0 0 dX17_turns_293 rfl rfl ?_
    refine g_callV (fc := fun sς => Mdl_word sς x0 ) (ci := 17) (as := []) rfl rfl rfl q3813 qs250 mdX17_603 (ctX17_word x0 ) rfl (Nat.le_of_ble_eq_true rfl) (Nat.le_of_ble_eq_true rfl) (Nat.le_of_ble_eq_true rfl) pu_J dX17_turns_294 (fun r17 σ16 => ?_)
    refine g_l2i dX17_turns_297 ?_
    refine g_iadd dX17_turns_298 ?_
    refine g_iaload dX17_turns_299 ?_
    refine g_callV (fc := fun sς => Mdl_invokes sς x0 (gI σ16 (gR σ x0 64) (ix (((128 : Int32) * (gI σ x0 95)) + r17.toInt32)))) (ci := 17) (as := [iv (gI σ16 (gR σ x0 64) (ix (((128 : Int32) * (gI σ x0 95)) + r17.toInt32)))]) rfl rfl rfl q4334 qs349 mdX17_1173 (ctX17_invokes x0 (gI σ16 (gR σ x0 64) (ix (((128 : Int32) * (gI σ x0 95)) + r17.toInt32)))) rfl (Nat.le_of_ble_eq_true rfl) (Nat.le_of_ble_eq_true rfl) (Nat.le_of_ble_eq_true rfl) pu_V dX17_turns_300 (fun _ σ18 => ?_)
    refine g_goto 361 dX17_turns_303 (by decide) ?_
    exact g_return rfl dX17_turns_361
  refine g_case hx (t := 306) (by decide +kernel) ?_ (fun hx => ?_)
  · refine g_aload_n 0 0 dX17_turns_306 rfl rfl ?_
    refine g_callV (fc := fun sς => Mdl_invokesEntry sς x0 ) (ci := 17) (as := []) rfl rfl rfl q4338 qs350 mdX17_1176 (ctX17_invokesEntry x0 ) rfl (Nat.le_of_ble_eq_true rfl) (Nat.le_of_ble_eq_true rfl) (Nat.le_of_ble_eq_true rfl) pu_V dX17_turns_307 (fun _ σ19 => ?_)
    refine g_goto 361 dX17_turns_310 (by decide) ?_
    exact g_return rfl dX17_turns_361
  refine g_case hx (t := 313) (by decide +kernel) ?_ (fun hx => ?_)
  · refine g_aload_n 0 0 dX17_turns_313 rfl rfl ?_
    refine g_callV (fc := fun sς => Mdl_pop sς x0 ) (ci := 17) (as := []) rfl rfl rfl q4182 qs327 mdX17_1157 (ctX17_pop x0 ) rfl (Nat.le_of_ble_eq_true rfl) (Nat.le_of_ble_eq_true rfl) (Nat.le_of_ble_eq_true rfl) pu_J dX17_turns_314 (fun r21 σ20 => ?_)
    refine g_lstore dX17_turns_317 (by decide) rfl ?_
    refine g_goto 361 dX17_turns_319 (by decide) ?_
    exact g_return rfl dX17_turns_361
  refine g_case hx (t := 322) (by decide +kernel) ?_ (fun hx => ?_)
  · refine G.sub [0] rfl ?_
    exact gX17_turns_p322 _ _
  refine g_case hx (t := 322) (by decide +kernel) ?_ (fun hx => ?_)
  · refine G.sub [0] rfl ?_
    exact gX17_turns_p322 _ _
  refine g_dflt (t := 361) (tswT_d (by decide +kernel) (by decide +kernel) hx) ?_
  exact g_return rfl dX17_turns_361
theorem V.dX17_entry_0 : decode cX17_entry 0 = .ok (.iload_n 1, 1) := by decide +kernel
theorem V.dX17_entry_1 : decode cX17_entry 1 = .ok (.bipush 38, 2) := by decide +kernel
theorem V.dX17_entry_3 : decode cX17_entry 3 = .ok (.if_icmp .ne 10, 3) := by decide +kernel
theorem V.dX17_entry_6 : decode cX17_entry 6 = .ok (.aload_n 0, 1) := by decide +kernel
theorem V.dX17_entry_7 : decode cX17_entry 7 = .ok (.invokevirtual 1157, 3) := by decide +kernel
theorem V.dX17_entry_10 : decode cX17_entry 10 = .ok (.goto 4, 3) := by decide +kernel
theorem V.dX17_entry_13 : decode cX17_entry 13 = .ok (.lconst 0, 1) := by decide +kernel
theorem V.dX17_entry_14 : decode cX17_entry 14 = .ok (.lstore_n 3, 1) := by decide +kernel
theorem V.dX17_entry_15 : decode cX17_entry 15 = .ok (.aload_n 0, 1) := by decide +kernel
theorem V.dX17_entry_16 : decode cX17_entry 16 = .ok (.invokevirtual 1157, 3) := by decide +kernel
theorem V.dX17_entry_19 : decode cX17_entry 19 = .ok (.lstore 5, 2) := by decide +kernel
theorem V.dX17_entry_21 : decode cX17_entry 21 = .ok (.lload 5, 2) := by decide +kernel
theorem V.dX17_entry_23 : decode cX17_entry 23 = .ok (.aload_n 0, 1) := by decide +kernel
theorem V.dX17_entry_24 : decode cX17_entry 24 = .ok (.getfield 96, 3) := by decide +kernel
theorem V.dX17_entry_27 : decode cX17_entry 27 = .ok (.iload_n 2, 1) := by decide +kernel
theorem V.dX17_entry_28 : decode cX17_entry 28 = .ok (.iaload, 1) := by decide +kernel
theorem V.dX17_entry_29 : decode cX17_entry 29 = .ok (.i2l, 1) := by decide +kernel
theorem V.dX17_entry_30 : decode cX17_entry 30 = .ok (.lcmp, 1) := by decide +kernel
theorem V.dX17_entry_31 : decode cX17_entry 31 = .ok (.ifCond .lt 13, 3) := by decide +kernel
theorem V.dX17_entry_34 : decode cX17_entry 34 = .ok (.aload_n 0, 1) := by decide +kernel
theorem V.dX17_entry_35 : decode cX17_entry 35 = .ok (.bipush 6, 2) := by decide +kernel
theorem V.dX17_entry_37 : decode cX17_entry 37 = .ok (.iconst 1, 1) := by decide +kernel
theorem V.dX17_entry_38 : decode cX17_entry 38 = .ok (.invokevirtual 1163, 3) := by decide +kernel
theorem V.dX17_entry_41 : decode cX17_entry 41 = .ok (.goto 47, 3) := by decide +kernel
theorem V.dX17_entry_44 : decode cX17_entry 44 = .ok (.iload_n 1, 1) := by decide +kernel
theorem V.dX17_entry_45 : decode cX17_entry 45 = .ok (.bipush 38, 2) := by decide +kernel
theorem V.dX17_entry_47 : decode cX17_entry 47 = .ok (.if_icmp .ne 22, 3) := by decide +kernel
theorem V.dX17_entry_50 : decode cX17_entry 50 = .ok (.aload_n 0, 1) := by decide +kernel
theorem V.dX17_entry_51 : decode cX17_entry 51 = .ok (.getfield 103, 3) := by decide +kernel
theorem V.dX17_entry_54 : decode cX17_entry 54 = .ok (.sipush 1024, 3) := by decide +kernel
theorem V.dX17_entry_57 : decode cX17_entry 57 = .ok (.iload_n 2, 1) := by decide +kernel
theorem V.dX17_entry_58 : decode cX17_entry 58 = .ok (.imul, 1) := by decide +kernel
theorem V.dX17_entry_59 : decode cX17_entry 59 = .ok (.lload 5, 2) := by decide +kernel
theorem V.dX17_entry_61 : decode cX17_entry 61 = .ok (.l2i, 1) := by decide +kernel
theorem V.dX17_entry_62 : decode cX17_entry 62 = .ok (.iadd, 1) := by decide +kernel
theorem V.dX17_entry_63 : decode cX17_entry 63 = .ok (.lload_n 3, 1) := by decide +kernel
theorem V.dX17_entry_64 : decode cX17_entry 64 = .ok (.l2i, 1) := by decide +kernel
theorem V.dX17_entry_65 : decode cX17_entry 65 = .ok (.iastore, 1) := by decide +kernel
theorem V.dX17_entry_66 : decode cX17_entry 66 = .ok (.goto 22, 3) := by decide +kernel
theorem V.dX17_entry_69 : decode cX17_entry 69 = .ok (.aload_n 0, 1) := by decide +kernel
theorem V.dX17_entry_70 : decode cX17_entry 70 = .ok (.aload_n 0, 1) := by decide +kernel
theorem V.dX17_entry_71 : decode cX17_entry 71 = .ok (.getfield 103, 3) := by decide +kernel
theorem V.dX17_entry_74 : decode cX17_entry 74 = .ok (.sipush 1024, 3) := by decide +kernel
theorem V.dX17_entry_77 : decode cX17_entry 77 = .ok (.iload_n 2, 1) := by decide +kernel
theorem V.dX17_entry_78 : decode cX17_entry 78 = .ok (.imul, 1) := by decide +kernel
theorem V.dX17_entry_79 : decode cX17_entry 79 = .ok (.lload 5, 2) := by decide +kernel
theorem V.dX17_entry_81 : decode cX17_entry 81 = .ok (.l2i, 1) := by decide +kernel
theorem V.dX17_entry_82 : decode cX17_entry 82 = .ok (.iadd, 1) := by decide +kernel
theorem V.dX17_entry_83 : decode cX17_entry 83 = .ok (.iaload, 1) := by decide +kernel
theorem V.dX17_entry_84 : decode cX17_entry 84 = .ok (.i2l, 1) := by decide +kernel
theorem V.dX17_entry_85 : decode cX17_entry 85 = .ok (.invokevirtual 1136, 3) := by decide +kernel
theorem V.dX17_entry_88 : decode cX17_entry 88 = .ok (.return_, 1) := by decide +kernel
/-! ModuleEngineModel.entry(II)V -/
def V.Mdl_entry_p14  (σ : HS) (x0 : Nat) (x1 : Int32) (x2 : Int32) (s0 : Int64) : Option (Unit × HS) :=
  ck (tg σ x0 = 18) <| cl (Mdl_pop σ x0 ) fun r2 σ1 =>
  ck (tg σ1 x0 = 18) <|
  ck (tg σ1 (gR σ1 x0 49) = 100 ∧ inb x2 (ln σ1 (gR σ1 x0 49))) <|
  if r2 < ((gI σ1 (gR σ1 x0 49) (ix x2)).toInt64) then (
    if x1 = (38 : Int32) then (
      ck (tg σ1 x0 = 18) <|
      ck (tg σ1 (gR σ1 x0 51) = 100 ∧ inb (((1024 : Int32) * x2) + r2.toInt32) (ln σ1 (gR σ1 x0 51))) <| bn (sI σ1 (gR σ1 x0 51) (ix (((1024 : Int32) * x2) + r2.toInt32)) s0.toInt32) fun σ4 =>
      some ((), σ4))
    else (
      ck (tg σ1 x0 = 18) <|
      ck (tg σ1 (gR σ1 x0 51) = 100 ∧ inb (((1024 : Int32) * x2) + r2.toInt32) (ln σ1 (gR σ1 x0 51))) <|
      ck (tg σ1 x0 = 18) <| cl (Mdl_push σ1 x0 ((gI σ1 (gR σ1 x0 51) (ix (((1024 : Int32) * x2) + r2.toInt32))).toInt64)) fun _ σ3 =>
      some ((), σ3)))
  else (
    ck (tg σ1 x0 = 18) <| cl (Mdl_endsBy σ1 x0 (6 : Int32) (1 : Int32)) fun _ σ5 =>
    some ((), σ5))
theorem V.gX17_entry_p14 {X : CX}  (σ : HS) (x0 : Nat) (x1 : Int32) (x2 : Int32) (s0 : Int64) : G X RX17 "entry" cX17_entry 7 none 1 22 enV 14 [(0, av x0), (1, iv x1), (2, iv x2)] [jv s0] σ (Mdl_entry_p14 σ x0 x1 x2 s0) := by
  unfold Mdl_entry_p14
  refine g_lstore_n 3 dX17_entry_14 rfl (by decide) rfl ?_
  refine g_aload_n 0 1 dX17_entry_15 rfl rfl ?_
  refine g_callV (fc := fun sς => Mdl_pop sς x0 ) (ci := 17) (as := []) rfl rfl rfl q4182 qs327 mdX17_1157 (ctX17_pop x0 ) rfl (Nat.le_of_ble_eq_true rfl) (Nat.le_of_ble_eq_true rfl) (Nat.le_of_ble_eq_true rfl) pu_J dX17_entry_16 (fun r2 σ1 => ?_)
  refine g_lstore dX17_entry_19 (by decide) rfl ?_
  refine g_lload 0 dX17_entry_21 rfl ?_
  refine g_aload_n 0 2 dX17_entry_23 rfl rfl ?_
  refine g_getR fdX17_96 dX17_entry_24 ?_
  refine g_iload_n 2 4 dX17_entry_27 rfl rfl ?_
  refine g_iaload dX17_entry_28 ?_
  refine g_i2l dX17_entry_29 ?_
  refine g_lcmp_lt 44 dX17_entry_30 dX17_entry_31 (by decide) ?_ ?_
  · refine g_iload_n 1 3 dX17_entry_44 rfl rfl ?_
    refine g_bipush (v := 38) dX17_entry_45 (by decide) ?_
    refine g_icmp_ne 69 dX17_entry_47 (by decide) ?_ ?_
    · refine g_aload_n 0 2 dX17_entry_69 rfl rfl ?_
      refine g_aload_n 0 2 dX17_entry_70 rfl rfl ?_
      refine g_getR fdX17_103 dX17_entry_71 ?_
      refine g_sipush (v := 1024) dX17_entry_74 (by decide) ?_
      refine g_iload_n 2 4 dX17_entry_77 rfl rfl ?_
      refine g_imul dX17_entry_78 ?_
      refine g_lload 0 dX17_entry_79 rfl ?_
      refine g_l2i dX17_entry_81 ?_
      refine g_iadd dX17_entry_82 ?_
      refine g_iaload dX17_entry_83 ?_
      refine g_i2l dX17_entry_84 ?_
      refine g_callV (fc := fun sς => Mdl_push sς x0 ((gI σ1 (gR σ1 x0 51) (ix (((1024 : Int32) * x2) + r2.toInt32))).toInt64)) (ci := 17) (as := [jv ((gI σ1 (gR σ1 x0 51) (ix (((1024 : Int32) * x2) + r2.toInt32))).toInt64)]) rfl rfl rfl q4318 qs345 mdX17_1136 (ctX17_push x0 ((gI σ1 (gR σ1 x0 51) (ix (((1024 : Int32) * x2) + r2.toInt32))).toInt64)) rfl (Nat.le_of_ble_eq_true rfl) (Nat.le_of_ble_eq_true rfl) (Nat.le_of_ble_eq_true rfl) pu_V dX17_entry_85 (fun _ σ3 => ?_)
      exact g_return rfl dX17_entry_88
    · refine g_aload_n 0 2 dX17_entry_50 rfl rfl ?_
      refine g_getR fdX17_103 dX17_entry_51 ?_
      refine g_sipush (v := 1024) dX17_entry_54 (by decide) ?_
      refine g_iload_n 2 4 dX17_entry_57 rfl rfl ?_
      refine g_imul dX17_entry_58 ?_
      refine g_lload 0 dX17_entry_59 rfl ?_
      refine g_l2i dX17_entry_61 ?_
      refine g_iadd dX17_entry_62 ?_
      refine g_lload_n 3 1 dX17_entry_63 rfl rfl ?_
      refine g_l2i dX17_entry_64 ?_
      refine g_iastore dX17_entry_65 (fun σ4 => ?_)
      refine g_goto 88 dX17_entry_66 (by decide) ?_
      exact g_return rfl dX17_entry_88
  · refine g_aload_n 0 2 dX17_entry_34 rfl rfl ?_
    refine g_bipush (v := 6) dX17_entry_35 (by decide) ?_
    refine g_iconst (v := 1) dX17_entry_37 (by decide) ?_
    refine g_callV (fc := fun sς => Mdl_endsBy sς x0 (6 : Int32) (1 : Int32)) (ci := 17) (as := [iv (6 : Int32), iv (1 : Int32)]) rfl rfl rfl q4314 qs344 mdX17_1163 (ctX17_endsBy x0 (6 : Int32) (1 : Int32)) rfl (Nat.le_of_ble_eq_true rfl) (Nat.le_of_ble_eq_true rfl) (Nat.le_of_ble_eq_true rfl) pu_V dX17_entry_38 (fun _ σ5 => ?_)
    refine g_goto 88 dX17_entry_41 (by decide) ?_
    exact g_return rfl dX17_entry_88
def V.Mdl_entry (σ : HS) (x0 : Nat) (x1 : Int32) (x2 : Int32) : Option (Unit × HS) :=
  if x1 = (38 : Int32) then (
    ck (tg σ x0 = 18) <| cl (Mdl_pop σ x0 ) fun r2 σ1 =>
    Mdl_entry_p14 σ1 x0 x1 x2 r2)
  else (
    Mdl_entry_p14 σ x0 x1 x2 (0 : Int64))
theorem V.ctX17_entry (x0 : Nat) (x1 : Int32) (x2 : Int32) : Ct yX17_entry  cX17_entry 7 none 1 22 eV [av x0, iv x1, iv x2] (fun σ => Mdl_entry σ x0 x1 x2) := by
  refine Ct.of (own := RX17) (nm := "entry") (desc := "(II)V") rfl (by decide) (Nat.le_of_ble_eq_true rfl) (by decide) (fun X σ => ?_)
  show G X RX17 "entry" cX17_entry 7 none 1 22 enV 0 [(0, av x0), (1, iv x1), (2, iv x2)] [] σ (Mdl_entry σ x0 x1 x2)
  unfold Mdl_entry
  refine g_iload_n 1 1 dX17_entry_0 rfl rfl ?_
  refine g_bipush (v := 38) dX17_entry_1 (by decide) ?_
  refine g_icmp_ne 13 dX17_entry_3 (by decide) ?_ ?_
  · refine g_lconst (v := 0) dX17_entry_13 (by decide) ?_
    exact gX17_entry_p14 _ _ _ _ _
  · refine g_aload_n 0 0 dX17_entry_6 rfl rfl ?_
    refine g_callV (fc := fun sς => Mdl_pop sς x0 ) (ci := 17) (as := []) rfl rfl rfl q4182 qs327 mdX17_1157 (ctX17_pop x0 ) rfl (Nat.le_of_ble_eq_true rfl) (Nat.le_of_ble_eq_true rfl) (Nat.le_of_ble_eq_true rfl) pu_J dX17_entry_7 (fun r2 σ1 => ?_)
    refine g_goto 14 dX17_entry_10 (by decide) ?_
    exact gX17_entry_p14 _ _ _ _ _
theorem V.dX17_moves_0 : decode cX17_moves 0 = .ok (.aload_n 0, 1) := by decide +kernel
theorem V.dX17_moves_1 : decode cX17_moves 1 = .ok (.invokevirtual 603, 3) := by decide +kernel
theorem V.dX17_moves_4 : decode cX17_moves 4 = .ok (.l2i, 1) := by decide +kernel
theorem V.dX17_moves_5 : decode cX17_moves 5 = .ok (.istore_n 2, 1) := by decide +kernel
theorem V.dX17_moves_6 : decode cX17_moves 6 = .ok (.aload_n 0, 1) := by decide +kernel
theorem V.dX17_moves_7 : decode cX17_moves 7 = .ok (.getfield 179, 3) := by decide +kernel
theorem V.dX17_moves_10 : decode cX17_moves 10 = .ok (.aload_n 0, 1) := by decide +kernel
theorem V.dX17_moves_11 : decode cX17_moves 11 = .ok (.getfield 1052, 3) := by decide +kernel
theorem V.dX17_moves_14 : decode cX17_moves 14 = .ok (.iconst 1, 1) := by decide +kernel
theorem V.dX17_moves_15 : decode cX17_moves 15 = .ok (.isub, 1) := by decide +kernel
theorem V.dX17_moves_16 : decode cX17_moves 16 = .ok (.iaload, 1) := by decide +kernel
theorem V.dX17_moves_17 : decode cX17_moves 17 = .ok (.iload_n 2, 1) := by decide +kernel
theorem V.dX17_moves_18 : decode cX17_moves 18 = .ok (.iadd, 1) := by decide +kernel
theorem V.dX17_moves_19 : decode cX17_moves 19 = .ok (.istore_n 3, 1) := by decide +kernel
theorem V.dX17_moves_20 : decode cX17_moves 20 = .ok (.iload_n 1, 1) := by decide +kernel
theorem V.dX17_moves_21 : decode cX17_moves 21 = .ok (.tableswitch 135 32 36 #[35, 48, 61, 81, 108], 35) := by decide +kernel
theorem V.dX17_moves_56 : decode cX17_moves 56 = .ok (.aload_n 0, 1) := by decide +kernel
theorem V.dX17_moves_57 : decode cX17_moves 57 = .ok (.aload_n 0, 1) := by decide +kernel
theorem V.dX17_moves_58 : decode cX17_moves 58 = .ok (.getfield 191, 3) := by decide +kernel
theorem V.dX17_moves_61 : decode cX17_moves 61 = .ok (.iload_n 3, 1) := by decide +kernel
theorem V.dX17_moves_62 : decode cX17_moves 62 = .ok (.laload, 1) := by decide +kernel
theorem V.dX17_moves_63 : decode cX17_moves 63 = .ok (.invokevirtual 1136, 3) := by decide +kernel
theorem V.dX17_moves_66 : decode cX17_moves 66 = .ok (.goto 110, 3) := by decide +kernel
theorem V.dX17_moves_69 : decode cX17_moves 69 = .ok (.aload_n 0, 1) := by decide +kernel
theorem V.dX17_moves_70 : decode cX17_moves 70 = .ok (.getfield 191, 3) := by decide +kernel
theorem V.dX17_moves_73 : decode cX17_moves 73 = .ok (.iload_n 3, 1) := by decide +kernel
theorem V.dX17_moves_74 : decode cX17_moves 74 = .ok (.aload_n 0, 1) := by decide +kernel
theorem V.dX17_moves_75 : decode cX17_moves 75 = .ok (.invokevirtual 1157, 3) := by decide +kernel
theorem V.dX17_moves_78 : decode cX17_moves 78 = .ok (.lastore, 1) := by decide +kernel
theorem V.dX17_moves_79 : decode cX17_moves 79 = .ok (.goto 97, 3) := by decide +kernel
theorem V.dX17_moves_82 : decode cX17_moves 82 = .ok (.aload_n 0, 1) := by decide +kernel
theorem V.dX17_moves_83 : decode cX17_moves 83 = .ok (.getfield 191, 3) := by decide +kernel
theorem V.dX17_moves_86 : decode cX17_moves 86 = .ok (.iload_n 3, 1) := by decide +kernel
theorem V.dX17_moves_87 : decode cX17_moves 87 = .ok (.aload_n 0, 1) := by decide +kernel
theorem V.dX17_moves_88 : decode cX17_moves 88 = .ok (.getfield 191, 3) := by decide +kernel
theorem V.dX17_moves_91 : decode cX17_moves 91 = .ok (.aload_n 0, 1) := by decide +kernel
theorem V.dX17_moves_92 : decode cX17_moves 92 = .ok (.getfield 1104, 3) := by decide +kernel
theorem V.dX17_moves_95 : decode cX17_moves 95 = .ok (.iconst 1, 1) := by decide +kernel
theorem V.dX17_moves_96 : decode cX17_moves 96 = .ok (.isub, 1) := by decide +kernel
theorem V.dX17_moves_97 : decode cX17_moves 97 = .ok (.laload, 1) := by decide +kernel
theorem V.dX17_moves_98 : decode cX17_moves 98 = .ok (.lastore, 1) := by decide +kernel
theorem V.dX17_moves_99 : decode cX17_moves 99 = .ok (.goto 77, 3) := by decide +kernel
theorem V.dX17_moves_102 : decode cX17_moves 102 = .ok (.aload_n 0, 1) := by decide +kernel
theorem V.dX17_moves_103 : decode cX17_moves 103 = .ok (.aload_n 0, 1) := by decide +kernel
theorem V.dX17_moves_104 : decode cX17_moves 104 = .ok (.getfield 128, 3) := by decide +kernel
theorem V.dX17_moves_107 : decode cX17_moves 107 = .ok (.aload_n 0, 1) := by decide +kernel
theorem V.dX17_moves_108 : decode cX17_moves 108 = .ok (.getfield 143, 3) := by decide +kernel
theorem V.dX17_moves_111 : decode cX17_moves 111 = .ok (.sipush 128, 3) := by decide +kernel
theorem V.dX17_moves_114 : decode cX17_moves 114 = .ok (.aload_n 0, 1) := by decide +kernel
theorem V.dX17_moves_115 : decode cX17_moves 115 = .ok (.getfield 1110, 3) := by decide +kernel
theorem V.dX17_moves_118 : decode cX17_moves 118 = .ok (.imul, 1) := by decide +kernel
theorem V.dX17_moves_119 : decode cX17_moves 119 = .ok (.iload_n 2, 1) := by decide +kernel
theorem V.dX17_moves_120 : decode cX17_moves 120 = .ok (.iadd, 1) := by decide +kernel
theorem V.dX17_moves_121 : decode cX17_moves 121 = .ok (.iaload, 1) := by decide +kernel
theorem V.dX17_moves_122 : decode cX17_moves 122 = .ok (.laload, 1) := by decide +kernel
theorem V.dX17_moves_123 : decode cX17_moves 123 = .ok (.invokevirtual 1136, 3) := by decide +kernel
theorem V.dX17_moves_126 : decode cX17_moves 126 = .ok (.goto 50, 3) := by decide +kernel
theorem V.dX17_moves_129 : decode cX17_moves 129 = .ok (.aload_n 0, 1) := by decide +kernel
theorem V.dX17_moves_130 : decode cX17_moves 130 = .ok (.getfield 128, 3) := by decide +kernel
theorem V.dX17_moves_133 : decode cX17_moves 133 = .ok (.aload_n 0, 1) := by decide +kernel
theorem V.dX17_moves_134 : decode cX17_moves 134 = .ok (.getfield 143, 3) := by decide +kernel
theorem V.dX17_moves_137 : decode cX17_moves 137 = .ok (.sipush 128, 3) := by decide +kernel
theorem V.dX17_moves_140 : decode cX17_moves 140 = .ok (.aload_n 0, 1) := by decide +kernel
theorem V.dX17_moves_141 : decode cX17_moves 141 = .ok (.getfield 1110, 3) := by decide +kernel
theorem V.dX17_moves_144 : decode cX17_moves 144 = .ok (.imul, 1) := by decide +kernel
theorem V.dX17_moves_145 : decode cX17_moves 145 = .ok (.iload_n 2, 1) := by decide +kernel
theorem V.dX17_moves_146 : decode cX17_moves 146 = .ok (.iadd, 1) := by decide +kernel
theorem V.dX17_moves_147 : decode cX17_moves 147 = .ok (.iaload, 1) := by decide +kernel
theorem V.dX17_moves_148 : decode cX17_moves 148 = .ok (.aload_n 0, 1) := by decide +kernel
theorem V.dX17_moves_149 : decode cX17_moves 149 = .ok (.invokevirtual 1157, 3) := by decide +kernel
theorem V.dX17_moves_152 : decode cX17_moves 152 = .ok (.lastore, 1) := by decide +kernel
theorem V.dX17_moves_153 : decode cX17_moves 153 = .ok (.goto 23, 3) := by decide +kernel
theorem V.dX17_moves_156 : decode cX17_moves 156 = .ok (.aload_n 0, 1) := by decide +kernel
theorem V.dX17_moves_157 : decode cX17_moves 157 = .ok (.iload_n 1, 1) := by decide +kernel
theorem V.dX17_moves_158 : decode cX17_moves 158 = .ok (.aload_n 0, 1) := by decide +kernel
theorem V.dX17_moves_159 : decode cX17_moves 159 = .ok (.getfield 137, 3) := by decide +kernel
theorem V.dX17_moves_162 : decode cX17_moves 162 = .ok (.sipush 128, 3) := by decide +kernel
theorem V.dX17_moves_165 : decode cX17_moves 165 = .ok (.aload_n 0, 1) := by decide +kernel
theorem V.dX17_moves_166 : decode cX17_moves 166 = .ok (.getfield 1110, 3) := by decide +kernel
theorem V.dX17_moves_169 : decode cX17_moves 169 = .ok (.imul, 1) := by decide +kernel
theorem V.dX17_moves_170 : decode cX17_moves 170 = .ok (.iload_n 2, 1) := by decide +kernel
theorem V.dX17_moves_171 : decode cX17_moves 171 = .ok (.iadd, 1) := by decide +kernel
theorem V.dX17_moves_172 : decode cX17_moves 172 = .ok (.iaload, 1) := by decide +kernel
theorem V.dX17_moves_173 : decode cX17_moves 173 = .ok (.invokevirtual 1179, 3) := by decide +kernel
theorem V.dX17_moves_176 : decode cX17_moves 176 = .ok (.return_, 1) := by decide +kernel
theorem V.mdX17_1179 : MD RX17 1179 yX17_entry cX17_entry 7 none 2 := ⟨Or.inl q4344, q377, q4347, by decide, by decide, by decide +kernel⟩
/-! ModuleEngineModel.moves(I)V -/
def V.Mdl_moves (σ : HS) (x0 : Nat) (x1 : Int32) : Option (Unit × HS) :=
  ck (tg σ x0 = 18) <| cl (Mdl_word σ x0 ) fun r2 σ1 =>
  ck (tg σ1 x0 = 18) <|
  ck (tg σ1 x0 = 18) <|
  ck (tg σ1 (gR σ1 x0 88) = 100 ∧ inb ((gI σ1 x0 85) - (1 : Int32)) (ln σ1 (gR σ1 x0 88))) <|
  bn ((gI σ1 (gR σ1 x0 88) (ix ((gI σ1 x0 85) - (1 : Int32)))) + r2.toInt32) fun y3 =>
  swx x1 [
    (32, (
      ck (tg σ1 x0 = 18) <|
      ck (tg σ1 (gR σ1 x0 92) = 101 ∧ inb y3 (ln σ1 (gR σ1 x0 92))) <|
      ck (tg σ1 x0 = 18) <| cl (Mdl_push σ1 x0 (gJ σ1 (gR σ1 x0 92) (ix y3))) fun _ σ4 =>
      some ((), σ4))),
    (33, (
      ck (tg σ1 x0 = 18) <|
      ck (tg σ1 x0 = 18) <| cl (Mdl_pop σ1 x0 ) fun r6 σ5 =>
      ck (tg σ5 (gR σ1 x0 92) = 101 ∧ inb y3 (ln σ5 (gR σ1 x0 92))) <| bn (sJ σ5 (gR σ1 x0 92) (ix y3) r6) fun σ7 =>
      some ((), σ7))),
    (34, (
      ck (tg σ1 x0 = 18) <|
      ck (tg σ1 x0 = 18) <|
      ck (tg σ1 x0 = 18) <|
      ck (tg σ1 (gR σ1 x0 92) = 101 ∧ inb ((gI σ1 x0 93) - (1 : Int32)) (ln σ1 (gR σ1 x0 92))) <|
      ck (tg σ1 (gR σ1 x0 92) = 101 ∧ inb y3 (ln σ1 (gR σ1 x0 92))) <| bn (sJ σ1 (gR σ1 x0 92) (ix y3) (gJ σ1 (gR σ1 x0 92) (ix ((gI σ1 x0 93) - (1 : Int32))))) fun σ8 =>
      some ((), σ8))),
    (35, (
      ck (tg σ1 x0 = 18) <|
      ck (tg σ1 x0 = 18) <|
      ck (tg σ1 x0 = 18) <|
      ck (tg σ1 (gR σ1 x0 67) = 100 ∧ inb (((128 : Int32) * (gI σ1 x0 95)) + r2.toInt32) (ln σ1 (gR σ1 x0 67))) <|
      ck (tg σ1 (gR σ1 x0 61) = 101 ∧ inb (gI σ1 (gR σ1 x0 67) (ix (((128 : Int32) * (gI σ1 x0 95)) + r2.toInt32))) (ln σ1 (gR σ1 x0 61))) <|
      ck (tg σ1 x0 = 18) <| cl (Mdl_push σ1 x0 (gJ σ1 (gR σ1 x0 61) (ix (gI σ1 (gR σ1 x0 67) (ix (((128 : Int32) * (gI σ1 x0 95)) + r2.toInt32)))))) fun _ σ9 =>
      some ((), σ9))),
    (36, (
      ck (tg σ1 x0 = 18) <|
      ck (tg σ1 x0 = 18) <|
      ck (tg σ1 x0 = 18) <|
      ck (tg σ1 (gR σ1 x0 67) = 100 ∧ inb (((128 : Int32) * (gI σ1 x0 95)) + r2.toInt32) (ln σ1 (gR σ1 x0 67))) <|
      ck (tg σ1 x0 = 18) <| cl (Mdl_pop σ1 x0 ) fun r11 σ10 =>
      ck (tg σ10 (gR σ1 x0 61) = 101 ∧ inb (gI σ1 (gR σ1 x0 67) (ix (((128 : Int32) * (gI σ1 x0 95)) + r2.toInt32))) (ln σ10 (gR σ1 x0 61))) <| bn (sJ σ10 (gR σ1 x0 61) (ix (gI σ1 (gR σ1 x0 67) (ix (((128 : Int32) * (gI σ1 x0 95)) + r2.toInt32)))) r11) fun σ12 =>
      some ((), σ12)))
    ] (
    ck (tg σ1 x0 = 18) <|
    ck (tg σ1 x0 = 18) <|
    ck (tg σ1 (gR σ1 x0 65) = 100 ∧ inb (((128 : Int32) * (gI σ1 x0 95)) + r2.toInt32) (ln σ1 (gR σ1 x0 65))) <|
    ck (tg σ1 x0 = 18) <| cl (Mdl_entry σ1 x0 x1 (gI σ1 (gR σ1 x0 65) (ix (((128 : Int32) * (gI σ1 x0 95)) + r2.toInt32)))) fun _ σ13 =>
    some ((), σ13))
theorem V.ctX17_moves (x0 : Nat) (x1 : Int32) : Ct yX17_moves  cX17_moves 4 none 2 48 eV [av x0, iv x1] (fun σ => Mdl_moves σ x0 x1) := by
  refine Ct.of (own := RX17) (nm := "moves") (desc := "(I)V") rfl (by decide) (Nat.le_of_ble_eq_true rfl) (by decide) (fun X σ => ?_)
  show G X RX17 "moves" cX17_moves 4 none 2 48 enV 0 [(0, av x0), (1, iv x1)] [] σ (Mdl_moves σ x0 x1)
  unfold Mdl_moves
  refine g_aload_n 0 0 dX17_moves_0 rfl rfl ?_
  refine g_callV (fc := fun sς => Mdl_word sς x0 ) (ci := 17) (as := []) rfl rfl rfl q3813 qs250 mdX17_603 (ctX17_word x0 ) rfl (Nat.le_of_ble_eq_true rfl) (Nat.le_of_ble_eq_true rfl) (Nat.le_of_ble_eq_true rfl) pu_J dX17_moves_1 (fun r2 σ1 => ?_)
  refine g_l2i dX17_moves_4 ?_
  refine g_istore_n 2 dX17_moves_5 rfl (by decide) rfl ?_
  refine g_aload_n 0 1 dX17_moves_6 rfl rfl ?_
  refine g_getR fdX17_179 dX17_moves_7 ?_
  refine g_aload_n 0 1 dX17_moves_10 rfl rfl ?_
  refine g_getI fdX17_1052 dX17_moves_11 ?_
  refine g_iconst (v := 1) dX17_moves_14 (by decide) ?_
  refine g_isub dX17_moves_15 ?_
  refine g_iaload dX17_moves_16 ?_
  refine g_iload_n 2 0 dX17_moves_17 rfl rfl ?_
  refine g_iadd dX17_moves_18 ?_
  refine g_nmI (fun y3 => ?_)
  refine g_istore_n 3 dX17_moves_19 rfl (by decide) rfl ?_
  refine g_iload_n 1 3 dX17_moves_20 rfl rfl ?_
  refine g_tsw dX17_moves_21 (by decide +kernel) ?_
  refine g_case ex0 (t := 56) (by decide +kernel) ?_ (fun hx => ?_)
  · refine g_aload_n 0 2 dX17_moves_56 rfl rfl ?_
    refine g_aload_n 0 2 dX17_moves_57 rfl rfl ?_
    refine g_getR fdX17_191 dX17_moves_58 ?_
    refine g_iload_n 3 0 dX17_moves_61 rfl rfl ?_
    refine g_laload dX17_moves_62 ?_
    refine g_callV (fc := fun sς => Mdl_push sς x0 (gJ σ1 (gR σ1 x0 92) (ix y3))) (ci := 17) (as := [jv (gJ σ1 (gR σ1 x0 92) (ix y3))]) rfl rfl rfl q4318 qs345 mdX17_1136 (ctX17_push x0 (gJ σ1 (gR σ1 x0 92) (ix y3))) rfl (Nat.le_of_ble_eq_true rfl) (Nat.le_of_ble_eq_true rfl) (Nat.le_of_ble_eq_true rfl) pu_V dX17_moves_63 (fun _ σ4 => ?_)
    refine g_goto 176 dX17_moves_66 (by decide) ?_
    exact g_return rfl dX17_moves_176
  refine g_case hx (t := 69) (by decide +kernel) ?_ (fun hx => ?_)
  · refine g_aload_n 0 2 dX17_moves_69 rfl rfl ?_
    refine g_getR fdX17_191 dX17_moves_70 ?_
    refine g_iload_n 3 0 dX17_moves_73 rfl rfl ?_
    refine g_aload_n 0 2 dX17_moves_74 rfl rfl ?_
    refine g_callV (fc := fun sς => Mdl_pop sς x0 ) (ci := 17) (as := []) rfl rfl rfl q4182 qs327 mdX17_1157 (ctX17_pop x0 ) rfl (Nat.le_of_ble_eq_true rfl) (Nat.le_of_ble_eq_true rfl) (Nat.le_of_ble_eq_true rfl) pu_J dX17_moves_75 (fun r6 σ5 => ?_)
    refine g_lastore dX17_moves_78 (fun σ7 => ?_)
    refine g_goto 176 dX17_moves_79 (by decide) ?_
    exact g_return rfl dX17_moves_176
  refine g_case hx (t := 82) (by decide +kernel) ?_ (fun hx => ?_)
  · refine g_aload_n 0 2 dX17_moves_82 rfl rfl ?_
    refine g_getR fdX17_191 dX17_moves_83 ?_
    refine g_iload_n 3 0 dX17_moves_86 rfl rfl ?_
    refine g_aload_n 0 2 dX17_moves_87 rfl rfl ?_
    refine g_getR fdX17_191 dX17_moves_88 ?_
    refine g_aload_n 0 2 dX17_moves_91 rfl rfl ?_
    refine g_getI fdX17_1104 dX17_moves_92 ?_
    refine g_iconst (v := 1) dX17_moves_95 (by decide) ?_
    refine g_isub dX17_moves_96 ?_
    refine g_laload dX17_moves_97 ?_
    refine g_lastore dX17_moves_98 (fun σ8 => ?_)
    refine g_goto 176 dX17_moves_99 (by decide) ?_
    exact g_return rfl dX17_moves_176
  refine g_case hx (t := 102) (by decide +kernel) ?_ (fun hx => ?_)
  · refine g_aload_n 0 2 dX17_moves_102 rfl rfl ?_
    refine g_aload_n 0 2 dX17_moves_103 rfl rfl ?_
    refine g_getR fdX17_128 dX17_moves_104 ?_
    refine g_aload_n 0 2 dX17_moves_107 rfl rfl ?_
    refine g_getR fdX17_143 dX17_moves_108 ?_
    refine g_sipush (v := 128) dX17_moves_111 (by decide) ?_
    refine g_aload_n 0 2 dX17_moves_114 rfl rfl ?_
    refine g_getI fdX17_1110 dX17_moves_115 ?_
    refine g_imul dX17_moves_118 ?_
    refine g_iload_n 2 1 dX17_moves_119 rfl rfl ?_
    refine g_iadd dX17_moves_120 ?_
    refine g_iaload dX17_moves_121 ?_
    refine g_laload dX17_moves_122 ?_
    refine g_callV (fc := fun sς => Mdl_push sς x0 (gJ σ1 (gR σ1 x0 61) (ix (gI σ1 (gR σ1 x0 67) (ix (((128 : Int32) * (gI σ1 x0 95)) + r2.toInt32)))))) (ci := 17) (as := [jv (gJ σ1 (gR σ1 x0 61) (ix (gI σ1 (gR σ1 x0 67) (ix (((128 : Int32) * (gI σ1 x0 95)) + r2.toInt32)))))]) rfl rfl rfl q4318 qs345 mdX17_1136 (ctX17_push x0 (gJ σ1 (gR σ1 x0 61) (ix (gI σ1 (gR σ1 x0 67) (ix (((128 : Int32) * (gI σ1 x0 95)) + r2.toInt32)))))) rfl (Nat.le_of_ble_eq_true rfl) (Nat.le_of_ble_eq_true rfl) (Nat.le_of_ble_eq_true rfl) pu_V dX17_moves_123 (fun _ σ9 => ?_)
    refine g_goto 176 dX17_moves_126 (by decide) ?_
    exact g_return rfl dX17_moves_176
  refine g_case hx (t := 129) (by decide +kernel) ?_ (fun hx => ?_)
  · refine g_aload_n 0 2 dX17_moves_129 rfl rfl ?_
    refine g_getR fdX17_128 dX17_moves_130 ?_
    refine g_aload_n 0 2 dX17_moves_133 rfl rfl ?_
    refine g_getR fdX17_143 dX17_moves_134 ?_
    refine g_sipush (v := 128) dX17_moves_137 (by decide) ?_
    refine g_aload_n 0 2 dX17_moves_140 rfl rfl ?_
    refine g_getI fdX17_1110 dX17_moves_141 ?_
    refine g_imul dX17_moves_144 ?_
    refine g_iload_n 2 1 dX17_moves_145 rfl rfl ?_
    refine g_iadd dX17_moves_146 ?_
    refine g_iaload dX17_moves_147 ?_
    refine g_aload_n 0 2 dX17_moves_148 rfl rfl ?_
    refine g_callV (fc := fun sς => Mdl_pop sς x0 ) (ci := 17) (as := []) rfl rfl rfl q4182 qs327 mdX17_1157 (ctX17_pop x0 ) rfl (Nat.le_of_ble_eq_true rfl) (Nat.le_of_ble_eq_true rfl) (Nat.le_of_ble_eq_true rfl) pu_J dX17_moves_149 (fun r11 σ10 => ?_)
    refine g_lastore dX17_moves_152 (fun σ12 => ?_)
    refine g_goto 176 dX17_moves_153 (by decide) ?_
    exact g_return rfl dX17_moves_176
  refine g_dflt (t := 156) (tswT_d (by decide +kernel) (by decide +kernel) hx) ?_
  refine g_aload_n 0 2 dX17_moves_156 rfl rfl ?_
  refine g_iload_n 1 3 dX17_moves_157 rfl rfl ?_
  refine g_aload_n 0 2 dX17_moves_158 rfl rfl ?_
  refine g_getR fdX17_137 dX17_moves_159 ?_
  refine g_sipush (v := 128) dX17_moves_162 (by decide) ?_
  refine g_aload_n 0 2 dX17_moves_165 rfl rfl ?_
  refine g_getI fdX17_1110 dX17_moves_166 ?_
  refine g_imul dX17_moves_169 ?_
  refine g_iload_n 2 1 dX17_moves_170 rfl rfl ?_
  refine g_iadd dX17_moves_171 ?_
  refine g_iaload dX17_moves_172 ?_
  refine g_callV (fc := fun sς => Mdl_entry sς x0 x1 (gI σ1 (gR σ1 x0 65) (ix (((128 : Int32) * (gI σ1 x0 95)) + r2.toInt32)))) (ci := 17) (as := [iv x1, iv (gI σ1 (gR σ1 x0 65) (ix (((128 : Int32) * (gI σ1 x0 95)) + r2.toInt32)))]) rfl rfl rfl q4346 qs352 mdX17_1179 (ctX17_entry x0 x1 (gI σ1 (gR σ1 x0 65) (ix (((128 : Int32) * (gI σ1 x0 95)) + r2.toInt32)))) rfl (Nat.le_of_ble_eq_true rfl) (Nat.le_of_ble_eq_true rfl) (Nat.le_of_ble_eq_true rfl) pu_V dX17_moves_173 (fun _ σ13 => ?_)
  exact g_return rfl dX17_moves_176
theorem V.dX17_gets_0 : decode cX17_gets 0 = .ok (.aload_n 0, 1) := by decide +kernel
theorem V.dX17_gets_1 : decode cX17_gets 1 = .ok (.getfield 119, 3) := by decide +kernel
theorem V.dX17_gets_4 : decode cX17_gets 4 = .ok (.aload_n 0, 1) := by decide +kernel
theorem V.dX17_gets_5 : decode cX17_gets 5 = .ok (.iload_n 1, 1) := by decide +kernel
theorem V.dX17_gets_6 : decode cX17_gets 6 = .ok (.lload_n 2, 1) := by decide +kernel
theorem V.dX17_gets_7 : decode cX17_gets 7 = .ok (.invokevirtual 1061, 3) := by decide +kernel
theorem V.dX17_gets_10 : decode cX17_gets 10 = .ok (.baload, 1) := by decide +kernel
theorem V.dX17_gets_11 : decode cX17_gets 11 = .ok (.i2l, 1) := by decide +kernel
theorem V.dX17_gets_12 : decode cX17_gets 12 = .ok (.ldc2_w 297, 3) := by decide +kernel
theorem V.dX17_gets_15 : decode cX17_gets 15 = .ok (.land, 1) := by decide +kernel
theorem V.dX17_gets_16 : decode cX17_gets 16 = .ok (.lreturn, 1) := by decide +kernel
/-! ModuleEngineModel.gets(IJ)J -/
def V.Mdl_gets (σ : HS) (x0 : Nat) (x1 : Int32) (x2 : Int64) : Option (Int64 × HS) :=
  ck (tg σ x0 = 18) <|
  ck (tg σ x0 = 18) <| cl (Mdl_placeOf σ x0 x1 x2) fun r2 σ1 =>
  ck (tg σ1 (gR σ x0 57) = 102 ∧ inb r2 (ln σ1 (gR σ x0 57))) <|
  some (((gI σ1 (gR σ x0 57) (ix r2)).toInt64) &&& (255 : Int64), σ1)
theorem V.ctX17_gets (x0 : Nat) (x1 : Int32) (x2 : Int64) : Ct yX17_gets  cX17_gets 4 (some .long) 1 23 eJ [av x0, iv x1, jv x2] (fun σ => Mdl_gets σ x0 x1 x2) := by
  refine Ct.of (own := RX17) (nm := "gets") (desc := "(IJ)J") rfl (by decide) (Nat.le_of_ble_eq_true rfl) (by decide) (fun X σ => ?_)
  show G X RX17 "gets" cX17_gets 4 (some .long) 1 23 enJ 0 [(0, av x0), (1, iv x1), (2, jv x2)] [] σ (Mdl_gets σ x0 x1 x2)
  unfold Mdl_gets
  refine g_aload_n 0 0 dX17_gets_0 rfl rfl ?_
  refine g_getR fdX17_119 dX17_gets_1 ?_
  refine g_aload_n 0 0 dX17_gets_4 rfl rfl ?_
  refine g_iload_n 1 1 dX17_gets_5 rfl rfl ?_
  refine g_lload_n 2 2 dX17_gets_6 rfl rfl ?_
  refine g_callV (fc := fun sς => Mdl_placeOf sς x0 x1 x2) (ci := 17) (as := [iv x1, jv x2]) rfl rfl rfl q4104 qs312 mdX17_1061 (ctX17_placeOf x0 x1 x2) rfl (Nat.le_of_ble_eq_true rfl) (Nat.le_of_ble_eq_true rfl) (Nat.le_of_ble_eq_true rfl) pu_I dX17_gets_7 (fun r2 σ1 => ?_)
  refine g_baload dX17_gets_10 ?_
  refine g_i2l dX17_gets_11 ?_
  refine g_ldc2 q3613 dX17_gets_12 ?_
  refine g_land dX17_gets_15 ?_
  exact g_lreturn rfl dX17_gets_16
theorem V.dX17_accesses1_0 : decode cX17_accesses1 0 = .ok (.aload_n 0, 1) := by decide +kernel
theorem V.dX17_accesses1_1 : decode cX17_accesses1 1 = .ok (.invokevirtual 603, 3) := by decide +kernel
theorem V.dX17_accesses1_4 : decode cX17_accesses1 4 = .ok (.lstore_n 2, 1) := by decide +kernel
theorem V.dX17_accesses1_5 : decode cX17_accesses1 5 = .ok (.aload_n 0, 1) := by decide +kernel
theorem V.dX17_accesses1_6 : decode cX17_accesses1 6 = .ok (.invokevirtual 603, 3) := by decide +kernel
theorem V.dX17_accesses1_9 : decode cX17_accesses1 9 = .ok (.lstore 4, 2) := by decide +kernel
theorem V.dX17_accesses1_11 : decode cX17_accesses1 11 = .ok (.iconst 1, 1) := by decide +kernel
theorem V.dX17_accesses1_12 : decode cX17_accesses1 12 = .ok (.iload_n 1, 1) := by decide +kernel
theorem V.dX17_accesses1_13 : decode cX17_accesses1 13 = .ok (.invokestatic 728, 3) := by decide +kernel
theorem V.dX17_accesses1_16 : decode cX17_accesses1 16 = .ok (.ishl, 1) := by decide +kernel
theorem V.dX17_accesses1_17 : decode cX17_accesses1 17 = .ok (.istore 6, 2) := by decide +kernel
theorem V.dX17_accesses1_19 : decode cX17_accesses1 19 = .ok (.aload_n 0, 1) := by decide +kernel
theorem V.dX17_accesses1_20 : decode cX17_accesses1 20 = .ok (.getfield 140, 3) := by decide +kernel
theorem V.dX17_accesses1_23 : decode cX17_accesses1 23 = .ok (.sipush 128, 3) := by decide +kernel
theorem V.dX17_accesses1_26 : decode cX17_accesses1 26 = .ok (.aload_n 0, 1) := by decide +kernel
theorem V.dX17_accesses1_27 : decode cX17_accesses1 27 = .ok (.getfield 1110, 3) := by decide +kernel
theorem V.dX17_accesses1_30 : decode cX17_accesses1 30 = .ok (.imul, 1) := by decide +kernel
theorem V.dX17_accesses1_31 : decode cX17_accesses1 31 = .ok (.iaload, 1) := by decide +kernel
theorem V.dX17_accesses1_32 : decode cX17_accesses1 32 = .ok (.istore 7, 2) := by decide +kernel
theorem V.dX17_accesses1_34 : decode cX17_accesses1 34 = .ok (.iload_n 1, 1) := by decide +kernel
theorem V.dX17_accesses1_35 : decode cX17_accesses1 35 = .ok (.bipush 53, 2) := by decide +kernel
theorem V.dX17_accesses1_37 : decode cX17_accesses1 37 = .ok (.if_icmp .le 10, 3) := by decide +kernel
theorem V.dX17_accesses1_40 : decode cX17_accesses1 40 = .ok (.aload_n 0, 1) := by decide +kernel
theorem V.dX17_accesses1_41 : decode cX17_accesses1 41 = .ok (.invokevirtual 1157, 3) := by decide +kernel
theorem V.dX17_accesses1_44 : decode cX17_accesses1 44 = .ok (.goto 4, 3) := by decide +kernel
theorem V.dX17_accesses1_47 : decode cX17_accesses1 47 = .ok (.lconst 0, 1) := by decide +kernel
theorem V.dX17_accesses1_48 : decode cX17_accesses1 48 = .ok (.lstore 8, 2) := by decide +kernel
theorem V.dX17_accesses1_50 : decode cX17_accesses1 50 = .ok (.aload_n 0, 1) := by decide +kernel
theorem V.dX17_accesses1_51 : decode cX17_accesses1 51 = .ok (.invokevirtual 1157, 3) := by decide +kernel
theorem V.dX17_accesses1_54 : decode cX17_accesses1 54 = .ok (.lload 4, 2) := by decide +kernel
theorem V.dX17_accesses1_56 : decode cX17_accesses1 56 = .ok (.ladd, 1) := by decide +kernel
theorem V.dX17_accesses1_57 : decode cX17_accesses1 57 = .ok (.lstore 10, 2) := by decide +kernel
theorem V.dX17_accesses1_59 : decode cX17_accesses1 59 = .ok (.lload 10, 2) := by decide +kernel
theorem V.dX17_accesses1_61 : decode cX17_accesses1 61 = .ok (.iload 6, 2) := by decide +kernel
theorem V.dX17_accesses1_63 : decode cX17_accesses1 63 = .ok (.i2l, 1) := by decide +kernel
theorem V.dX17_accesses1_64 : decode cX17_accesses1 64 = .ok (.ladd, 1) := by decide +kernel
theorem V.dX17_accesses1_65 : decode cX17_accesses1 65 = .ok (.ldc2_w 636, 3) := by decide +kernel
theorem V.dX17_accesses1_68 : decode cX17_accesses1 68 = .ok (.aload_n 0, 1) := by decide +kernel
theorem V.dX17_accesses1_69 : decode cX17_accesses1 69 = .ok (.getfield 109, 3) := by decide +kernel
theorem V.dX17_accesses1_72 : decode cX17_accesses1 72 = .ok (.iload 7, 2) := by decide +kernel
theorem V.dX17_accesses1_74 : decode cX17_accesses1 74 = .ok (.iaload, 1) := by decide +kernel
theorem V.dX17_accesses1_75 : decode cX17_accesses1 75 = .ok (.i2l, 1) := by decide +kernel
theorem V.dX17_accesses1_76 : decode cX17_accesses1 76 = .ok (.lmul, 1) := by decide +kernel
theorem V.dX17_accesses1_77 : decode cX17_accesses1 77 = .ok (.lcmp, 1) := by decide +kernel
theorem V.dX17_accesses1_78 : decode cX17_accesses1 78 = .ok (.ifCond .le 10, 3) := by decide +kernel
theorem V.dX17_accesses1_81 : decode cX17_accesses1 81 = .ok (.aload_n 0, 1) := by decide +kernel
theorem V.dX17_accesses1_82 : decode cX17_accesses1 82 = .ok (.iconst 5, 1) := by decide +kernel
theorem V.dX17_accesses1_83 : decode cX17_accesses1 83 = .ok (.iconst 1, 1) := by decide +kernel
theorem V.dX17_accesses1_84 : decode cX17_accesses1 84 = .ok (.invokevirtual 1163, 3) := by decide +kernel
theorem V.dX17_accesses1_87 : decode cX17_accesses1 87 = .ok (.return_, 1) := by decide +kernel
theorem V.dX17_accesses1_88 : decode cX17_accesses1 88 = .ok (.iload_n 1, 1) := by decide +kernel
theorem V.dX17_accesses1_89 : decode cX17_accesses1 89 = .ok (.bipush 53, 2) := by decide +kernel
theorem V.dX17_accesses1_91 : decode cX17_accesses1 91 = .ok (.if_icmp .le 42, 3) := by decide +kernel
theorem V.dX17_accesses1_94 : decode cX17_accesses1 94 = .ok (.iconst 0, 1) := by decide +kernel
theorem V.dX17_accesses1_95 : decode cX17_accesses1 95 = .ok (.istore 12, 2) := by decide +kernel
theorem V.dX17_accesses1_97 : decode cX17_accesses1 97 = .ok (.iload 12, 2) := by decide +kernel
theorem V.dX17_accesses1_99 : decode cX17_accesses1 99 = .ok (.iload 6, 2) := by decide +kernel
theorem V.dX17_accesses1_101 : decode cX17_accesses1 101 = .ok (.if_icmp .ge 31, 3) := by decide +kernel
theorem V.dX17_accesses1_104 : decode cX17_accesses1 104 = .ok (.aload_n 0, 1) := by decide +kernel
theorem V.dX17_accesses1_105 : decode cX17_accesses1 105 = .ok (.iload 7, 2) := by decide +kernel
theorem V.dX17_accesses1_107 : decode cX17_accesses1 107 = .ok (.lload 10, 2) := by decide +kernel
theorem V.dX17_accesses1_109 : decode cX17_accesses1 109 = .ok (.iload 12, 2) := by decide +kernel
theorem V.dX17_accesses1_111 : decode cX17_accesses1 111 = .ok (.i2l, 1) := by decide +kernel
theorem V.dX17_accesses1_112 : decode cX17_accesses1 112 = .ok (.ladd, 1) := by decide +kernel
theorem V.dX17_accesses1_113 : decode cX17_accesses1 113 = .ok (.lload 8, 2) := by decide +kernel
theorem V.dX17_accesses1_115 : decode cX17_accesses1 115 = .ok (.bipush 8, 2) := by decide +kernel
theorem V.dX17_accesses1_117 : decode cX17_accesses1 117 = .ok (.iload 12, 2) := by decide +kernel
theorem V.dX17_accesses1_119 : decode cX17_accesses1 119 = .ok (.imul, 1) := by decide +kernel
theorem V.dX17_accesses1_120 : decode cX17_accesses1 120 = .ok (.lushr, 1) := by decide +kernel
theorem V.dX17_accesses1_121 : decode cX17_accesses1 121 = .ok (.l2i, 1) := by decide +kernel
theorem V.dX17_accesses1_122 : decode cX17_accesses1 122 = .ok (.i2b, 1) := by decide +kernel
theorem V.dX17_accesses1_123 : decode cX17_accesses1 123 = .ok (.invokevirtual 1055, 3) := by decide +kernel
theorem V.dX17_accesses1_126 : decode cX17_accesses1 126 = .ok (.iinc 12 1, 3) := by decide +kernel
theorem V.dX17_accesses1_129 : decode cX17_accesses1 129 = .ok (.goto (-32), 3) := by decide +kernel
theorem V.dX17_accesses1_132 : decode cX17_accesses1 132 = .ok (.return_, 1) := by decide +kernel
theorem V.dX17_accesses1_133 : decode cX17_accesses1 133 = .ok (.iconst 0, 1) := by decide +kernel
theorem V.dX17_accesses1_134 : decode cX17_accesses1 134 = .ok (.istore 12, 2) := by decide +kernel
theorem V.dX17_accesses1_136 : decode cX17_accesses1 136 = .ok (.iload 12, 2) := by decide +kernel
theorem V.dX17_accesses1_138 : decode cX17_accesses1 138 = .ok (.iload 6, 2) := by decide +kernel
theorem V.dX17_accesses1_140 : decode cX17_accesses1 140 = .ok (.if_icmp .ge 32, 3) := by decide +kernel
theorem V.dX17_accesses1_143 : decode cX17_accesses1 143 = .ok (.lload 8, 2) := by decide +kernel
theorem V.dX17_accesses1_145 : decode cX17_accesses1 145 = .ok (.aload_n 0, 1) := by decide +kernel
theorem V.dX17_accesses1_146 : decode cX17_accesses1 146 = .ok (.iload 7, 2) := by decide +kernel
theorem V.dX17_accesses1_148 : decode cX17_accesses1 148 = .ok (.lload 10, 2) := by decide +kernel
theorem V.dX17_accesses1_150 : decode cX17_accesses1 150 = .ok (.iload 12, 2) := by decide +kernel
theorem V.dX17_accesses1_152 : decode cX17_accesses1 152 = .ok (.i2l, 1) := by decide +kernel
theorem V.dX17_accesses1_153 : decode cX17_accesses1 153 = .ok (.ladd, 1) := by decide +kernel
theorem V.dX17_accesses1_154 : decode cX17_accesses1 154 = .ok (.invokevirtual 1182, 3) := by decide +kernel
theorem V.dX17_accesses1_157 : decode cX17_accesses1 157 = .ok (.bipush 8, 2) := by decide +kernel
theorem V.dX17_accesses1_159 : decode cX17_accesses1 159 = .ok (.iload 12, 2) := by decide +kernel
theorem V.dX17_accesses1_161 : decode cX17_accesses1 161 = .ok (.imul, 1) := by decide +kernel
theorem V.dX17_accesses1_162 : decode cX17_accesses1 162 = .ok (.lshl, 1) := by decide +kernel
theorem V.dX17_accesses1_163 : decode cX17_accesses1 163 = .ok (.lor, 1) := by decide +kernel
theorem V.dX17_accesses1_164 : decode cX17_accesses1 164 = .ok (.lstore 8, 2) := by decide +kernel
theorem V.dX17_accesses1_166 : decode cX17_accesses1 166 = .ok (.iinc 12 1, 3) := by decide +kernel
theorem V.dX17_accesses1_169 : decode cX17_accesses1 169 = .ok (.goto (-33), 3) := by decide +kernel
theorem V.dX17_accesses1_172 : decode cX17_accesses1 172 = .ok (.bipush 64, 2) := by decide +kernel
theorem V.dX17_accesses1_174 : decode cX17_accesses1 174 = .ok (.bipush 8, 2) := by decide +kernel
theorem V.dX17_accesses1_176 : decode cX17_accesses1 176 = .ok (.iload 6, 2) := by decide +kernel
theorem V.dX17_accesses1_178 : decode cX17_accesses1 178 = .ok (.imul, 1) := by decide +kernel
theorem V.dX17_accesses1_179 : decode cX17_accesses1 179 = .ok (.isub, 1) := by decide +kernel
theorem V.dX17_accesses1_180 : decode cX17_accesses1 180 = .ok (.istore 12, 2) := by decide +kernel
theorem V.dX17_accesses1_182 : decode cX17_accesses1 182 = .ok (.iload_n 1, 1) := by decide +kernel
theorem V.dX17_accesses1_183 : decode cX17_accesses1 183 = .ok (.bipush 43, 2) := by decide +kernel
theorem V.dX17_accesses1_185 : decode cX17_accesses1 185 = .ok (.if_icmp .le 19, 3) := by decide +kernel
theorem V.dX17_accesses1_188 : decode cX17_accesses1 188 = .ok (.iload_n 1, 1) := by decide +kernel
theorem V.dX17_accesses1_189 : decode cX17_accesses1 189 = .ok (.iconst 2, 1) := by decide +kernel
theorem V.dX17_accesses1_190 : decode cX17_accesses1 190 = .ok (.irem, 1) := by decide +kernel
theorem V.dX17_accesses1_191 : decode cX17_accesses1 191 = .ok (.ifCond .ne 13, 3) := by decide +kernel
theorem V.dX17_accesses1_194 : decode cX17_accesses1 194 = .ok (.lload 8, 2) := by decide +kernel
theorem V.dX17_accesses1_196 : decode cX17_accesses1 196 = .ok (.iload 12, 2) := by decide +kernel
theorem V.dX17_accesses1_198 : decode cX17_accesses1 198 = .ok (.lshl, 1) := by decide +kernel
theorem V.dX17_accesses1_199 : decode cX17_accesses1 199 = .ok (.iload 12, 2) := by decide +kernel
theorem V.dX17_accesses1_201 : decode cX17_accesses1 201 = .ok (.lshr, 1) := by decide +kernel
theorem V.dX17_accesses1_202 : decode cX17_accesses1 202 = .ok (.lstore 8, 2) := by decide +kernel
theorem V.dX17_accesses1_204 : decode cX17_accesses1 204 = .ok (.aload_n 0, 1) := by decide +kernel
theorem V.dX17_accesses1_205 : decode cX17_accesses1 205 = .ok (.iload_n 1, 1) := by decide +kernel
theorem V.dX17_accesses1_206 : decode cX17_accesses1 206 = .ok (.invokestatic 793, 3) := by decide +kernel
theorem V.dX17_accesses1_209 : decode cX17_accesses1 209 = .ok (.lload 8, 2) := by decide +kernel
theorem V.dX17_accesses1_211 : decode cX17_accesses1 211 = .ok (.invokestatic 1083, 3) := by decide +kernel
theorem V.dX17_accesses1_214 : decode cX17_accesses1 214 = .ok (.invokevirtual 1136, 3) := by decide +kernel
theorem V.dX17_accesses1_217 : decode cX17_accesses1 217 = .ok (.return_, 1) := by decide +kernel
theorem V.mdX17_1182 : MD RX17 1182 yX17_gets cX17_gets 4 (some .long) 2 := ⟨Or.inl q4352, q377, q4355, by decide, by decide, by decide +kernel⟩
/-! ModuleEngineModel.accesses1(I)V -/
def V.Mdl_accesses1_p204  (σ : HS) (x0 : Nat) (x1 : Int32) (x8 : Int64) : Option (Unit × HS) :=
  cl (Mdl_accessType σ x1) fun r2 σ1 =>
  cl (Mdl_held σ1 r2 x8) fun r4 σ3 =>
  ck (tg σ3 x0 = 18) <| cl (Mdl_push σ3 x0 r4) fun _ σ5 =>
  some ((), σ5)
theorem V.gX17_accesses1_p204 {X : CX}  (σ : HS) (x0 : Nat) (x1 : Int32) (x8 : Int64) : G X RX17 "accesses1" cX17_accesses1 13 none 2 47 enV 204 [(0, av x0), (1, iv x1), (8, jv x8)] [] σ (Mdl_accesses1_p204 σ x0 x1 x8) := by
  unfold Mdl_accesses1_p204
  refine g_aload_n 0 0 dX17_accesses1_204 rfl rfl ?_
  refine g_iload_n 1 1 dX17_accesses1_205 rfl rfl ?_
  refine g_callS (fc := fun sς => Mdl_accessType sς x1) (as := [iv x1]) q3987 mdX17_793 (ctX17_accessType x1) rfl (Nat.le_of_ble_eq_true rfl) (Nat.le_of_ble_eq_true rfl) (Nat.le_of_ble_eq_true rfl) pu_I dX17_accesses1_206 (fun r2 σ1 => ?_)
  refine g_lload 2 dX17_accesses1_209 rfl ?_
  refine g_callS (fc := fun sς => Mdl_held sς r2 x8) (as := [iv r2, jv x8]) q4165 mdX17_1083 (ctX17_held r2 x8) rfl (Nat.le_of_ble_eq_true rfl) (Nat.le_of_ble_eq_true rfl) (Nat.le_of_ble_eq_true rfl) pu_J dX17_accesses1_211 (fun r4 σ3 => ?_)
  refine g_callV (fc := fun sς => Mdl_push sς x0 r4) (ci := 17) (as := [jv r4]) rfl rfl rfl q4318 qs345 mdX17_1136 (ctX17_push x0 r4) rfl (Nat.le_of_ble_eq_true rfl) (Nat.le_of_ble_eq_true rfl) (Nat.le_of_ble_eq_true rfl) pu_V dX17_accesses1_214 (fun _ σ5 => ?_)
  exact g_return rfl dX17_accesses1_217
def V.Mdl_accesses1_p136  : Nat → HS → Nat → Int32 → Int32 → Int32 → Int64 → Int64 → Int32 → Option (Unit × HS)
  | 0, _, _, _, _, _, _, _, _ => none
  | n + 1, σ, x0, x1, x6, x7, x8, x10, x12 =>
    if x6 ≤ x12 then (
      bn ((64 : Int32) - ((8 : Int32) * x6)) fun y1 =>
      if x1 ≤ (43 : Int32) then (
        Mdl_accesses1_p204 σ x0 x1 x8)
      else (
        ck (¬ (2 : Int32) = 0) <|
        if (x1 - x1 / (2 : Int32) * (2 : Int32)) = 0 then (
          bn (lshr (lshl x8 y1) y1) fun y2 =>
          Mdl_accesses1_p204 σ x0 x1 y2)
        else (
          Mdl_accesses1_p204 σ x0 x1 x8)))
    else (
      ck (tg σ x0 = 18) <| cl (Mdl_gets σ x0 x7 (x10 + x12.toInt64)) fun r4 σ3 =>
      bn (x8 ||| (lshl r4 ((8 : Int32) * x12))) fun y5 =>
      bn (x12 + (1 : Int32)) fun y6 =>
      Mdl_accesses1_p136 n σ3 x0 x1 x6 x7 y5 x10 y6)
theorem V.gX17_accesses1_p136 {X : CX}  : ∀ (n : Nat) (σ : HS) (x0 : Nat) (x1 : Int32) (x6 : Int32) (x7 : Int32) (x8 : Int64) (x10 : Int64) (x12 : Int32), G X RX17 "accesses1" cX17_accesses1 13 none 2 47 enV 136 [(0, av x0), (1, iv x1), (6, iv x6), (7, iv x7), (8, jv x8), (10, jv x10), (12, iv x12)] [] σ (Mdl_accesses1_p136 n σ x0 x1 x6 x7 x8 x10 x12)
  | 0, σ, x0, x1, x6, x7, x8, x10, x12 => by rw [Mdl_accesses1_p136]; exact G.nul
  | n + 1, σ, x0, x1, x6, x7, x8, x10, x12 => by
    rw [Mdl_accesses1_p136]
    refine g_iload 6 dX17_accesses1_136 rfl ?_
    refine g_iload 2 dX17_accesses1_138 rfl ?_
    refine g_icmp_ge 172 dX17_accesses1_140 (by decide) ?_ ?_
    · refine g_bipush (v := 64) dX17_accesses1_172 (by decide) ?_
      refine g_bipush (v := 8) dX17_accesses1_174 (by decide) ?_
      refine g_iload 2 dX17_accesses1_176 rfl ?_
      refine g_imul dX17_accesses1_178 ?_
      refine g_isub dX17_accesses1_179 ?_
      refine g_nmI (fun y1 => ?_)
      refine g_istore dX17_accesses1_180 (by decide) rfl ?_
      refine g_iload_n 1 2 dX17_accesses1_182 rfl rfl ?_
      refine g_bipush (v := 43) dX17_accesses1_183 (by decide) ?_
      refine g_icmp_le 204 dX17_accesses1_185 (by decide) ?_ ?_
      · refine G.sub [1, 2, 5] rfl ?_
        exact gX17_accesses1_p204 _ _ _ _
      · refine g_iload_n 1 2 dX17_accesses1_188 rfl rfl ?_
        refine g_iconst (v := 2) dX17_accesses1_189 (by decide) ?_
        refine g_irem dX17_accesses1_190 ?_
        refine g_if_ne 204 dX17_accesses1_191 (by decide) ?_ ?_
        · refine G.sub [1, 2, 5] rfl ?_
          exact gX17_accesses1_p204 _ _ _ _
        · refine g_lload 5 dX17_accesses1_194 rfl ?_
          refine g_iload 0 dX17_accesses1_196 rfl ?_
          refine g_lshl dX17_accesses1_198 ?_
          refine g_iload 0 dX17_accesses1_199 rfl ?_
          refine g_lshr dX17_accesses1_201 ?_
          refine g_nmJ (fun y2 => ?_)
          refine g_lstore dX17_accesses1_202 (by decide) rfl ?_
          refine G.sub [2, 3, 0] rfl ?_
          exact gX17_accesses1_p204 _ _ _ _
    · refine g_lload 4 dX17_accesses1_143 rfl ?_
      refine g_aload_n 0 0 dX17_accesses1_145 rfl rfl ?_
      refine g_iload 3 dX17_accesses1_146 rfl ?_
      refine g_lload 5 dX17_accesses1_148 rfl ?_
      refine g_iload 6 dX17_accesses1_150 rfl ?_
      refine g_i2l dX17_accesses1_152 ?_
      refine g_ladd dX17_accesses1_153 ?_
      refine g_callV (fc := fun sς => Mdl_gets sς x0 x7 (x10 + x12.toInt64)) (ci := 17) (as := [iv x7, jv (x10 + x12.toInt64)]) rfl rfl rfl q4354 qs354 mdX17_1182 (ctX17_gets x0 x7 (x10 + x12.toInt64)) rfl (Nat.le_of_ble_eq_true rfl) (Nat.le_of_ble_eq_true rfl) (Nat.le_of_ble_eq_true rfl) pu_J dX17_accesses1_154 (fun r4 σ3 => ?_)
      refine g_bipush (v := 8) dX17_accesses1_157 (by decide) ?_
      refine g_iload 6 dX17_accesses1_159 rfl ?_
      refine g_imul dX17_accesses1_161 ?_
      refine g_lshl dX17_accesses1_162 ?_
      refine g_lor dX17_accesses1_163 ?_
      refine g_nmJ (fun y5 => ?_)
      refine g_lstore dX17_accesses1_164 (by decide) rfl ?_
      refine g_iincB (w := 1) 6 dX17_accesses1_166 rfl (by decide) (by decide) (fun _ => rfl) (fun y6 => ?_)
      refine g_goto 136 dX17_accesses1_169 (by decide) ?_
      refine G.sub [2, 3, 4, 5, 1, 6, 0] rfl ?_
      exact gX17_accesses1_p136 n _ _ _ _ _ _ _ _
def V.Mdl_accesses1_p97  : Nat → HS → Nat → Int32 → Int32 → Int64 → Int64 → Int32 → Option (Unit × HS)
  | 0, _, _, _, _, _, _, _ => none
  | n + 1, σ, x0, x6, x7, x8, x10, x12 =>
    if x6 ≤ x12 then (
      some ((), σ))
    else (
      ck (tg σ x0 = 18) <| cl (Mdl_sets σ x0 x7 (x10 + x12.toInt64) (i2b ((lushr x8 ((8 : Int32) * x12)).toInt32))) fun _ σ1 =>
      bn (x12 + (1 : Int32)) fun y2 =>
      Mdl_accesses1_p97 n σ1 x0 x6 x7 x8 x10 y2)
theorem V.gX17_accesses1_p97 {X : CX}  : ∀ (n : Nat) (σ : HS) (x0 : Nat) (x6 : Int32) (x7 : Int32) (x8 : Int64) (x10 : Int64) (x12 : Int32), G X RX17 "accesses1" cX17_accesses1 13 none 2 47 enV 97 [(0, av x0), (6, iv x6), (7, iv x7), (8, jv x8), (10, jv x10), (12, iv x12)] [] σ (Mdl_accesses1_p97 n σ x0 x6 x7 x8 x10 x12)
  | 0, σ, x0, x6, x7, x8, x10, x12 => by rw [Mdl_accesses1_p97]; exact G.nul
  | n + 1, σ, x0, x6, x7, x8, x10, x12 => by
    rw [Mdl_accesses1_p97]
    refine g_iload 5 dX17_accesses1_97 rfl ?_
    refine g_iload 1 dX17_accesses1_99 rfl ?_
    refine g_icmp_ge 132 dX17_accesses1_101 (by decide) ?_ ?_
    · exact g_return rfl dX17_accesses1_132
    · refine g_aload_n 0 0 dX17_accesses1_104 rfl rfl ?_
      refine g_iload 2 dX17_accesses1_105 rfl ?_
      refine g_lload 4 dX17_accesses1_107 rfl ?_
      refine g_iload 5 dX17_accesses1_109 rfl ?_
      refine g_i2l dX17_accesses1_111 ?_
      refine g_ladd dX17_accesses1_112 ?_
      refine g_lload 3 dX17_accesses1_113 rfl ?_
      refine g_bipush (v := 8) dX17_accesses1_115 (by decide) ?_
      refine g_iload 5 dX17_accesses1_117 rfl ?_
      refine g_imul dX17_accesses1_119 ?_
      refine g_lushr dX17_accesses1_120 ?_
      refine g_l2i dX17_accesses1_121 ?_
      refine g_i2b dX17_accesses1_122 ?_
      refine g_callV (fc := fun sς => Mdl_sets sς x0 x7 (x10 + x12.toInt64) (i2b ((lushr x8 ((8 : Int32) * x12)).toInt32))) (ci := 17) (as := [iv x7, jv (x10 + x12.toInt64), iv (i2b ((lushr x8 ((8 : Int32) * x12)).toInt32))]) rfl rfl rfl q4100 qs311 mdX17_1055 (ctX17_sets x0 x7 (x10 + x12.toInt64) (i2b ((lushr x8 ((8 : Int32) * x12)).toInt32))) rfl (Nat.le_of_ble_eq_true rfl) (Nat.le_of_ble_eq_true rfl) (Nat.le_of_ble_eq_true rfl) pu_V dX17_accesses1_123 (fun _ σ1 => ?_)
      refine g_iincB (w := 1) 5 dX17_accesses1_126 rfl (by decide) (by decide) (fun _ => rfl) (fun y2 => ?_)
      refine g_goto 97 dX17_accesses1_129 (by decide) ?_
      refine G.sub [1, 2, 3, 4, 5, 0] rfl ?_
      exact gX17_accesses1_p97 n _ _ _ _ _ _ _
def V.Mdl_accesses1_p48  (σ : HS) (x0 : Nat) (x1 : Int32) (x4 : Int64) (x6 : Int32) (x7 : Int32) (s0 : Int64) : Option (Unit × HS) :=
  ck (tg σ x0 = 18) <| cl (Mdl_pop σ x0 ) fun r2 σ1 =>
  bn (r2 + x4) fun y3 =>
  ck (tg σ1 x0 = 18) <|
  ck (tg σ1 (gR σ1 x0 54) = 100 ∧ inb x7 (ln σ1 (gR σ1 x0 54))) <|
  if (y3 + x6.toInt64) ≤ ((65536 : Int64) * ((gI σ1 (gR σ1 x0 54) (ix x7)).toInt64)) then (
    if x1 ≤ (53 : Int32) then (
      Mdl_accesses1_p136 FU σ1 x0 x1 x6 x7 s0 y3 (0 : Int32))
    else (
      Mdl_accesses1_p97 FU σ1 x0 x6 x7 s0 y3 (0 : Int32)))
  else (
    ck (tg σ1 x0 = 18) <| cl (Mdl_endsBy σ1 x0 (5 : Int32) (1 : Int32)) fun _ σ4 =>
    some ((), σ4))
theorem V.gX17_accesses1_p48 {X : CX}  (σ : HS) (x0 : Nat) (x1 : Int32) (x4 : Int64) (x6 : Int32) (x7 : Int32) (s0 : Int64) : G X RX17 "accesses1" cX17_accesses1 13 none 2 47 enV 48 [(0, av x0), (1, iv x1), (4, jv x4), (6, iv x6), (7, iv x7)] [jv s0] σ (Mdl_accesses1_p48 σ x0 x1 x4 x6 x7 s0) := by
  unfold Mdl_accesses1_p48
  refine g_lstore dX17_accesses1_48 (by decide) rfl ?_
  refine g_aload_n 0 1 dX17_accesses1_50 rfl rfl ?_
  refine g_callV (fc := fun sς => Mdl_pop sς x0 ) (ci := 17) (as := []) rfl rfl rfl q4182 qs327 mdX17_1157 (ctX17_pop x0 ) rfl (Nat.le_of_ble_eq_true rfl) (Nat.le_of_ble_eq_true rfl) (Nat.le_of_ble_eq_true rfl) pu_J dX17_accesses1_51 (fun r2 σ1 => ?_)
  refine g_lload 3 dX17_accesses1_54 rfl ?_
  refine g_ladd dX17_accesses1_56 ?_
  refine g_nmJ (fun y3 => ?_)
  refine g_lstore dX17_accesses1_57 (by decide) rfl ?_
  refine g_lload 0 dX17_accesses1_59 rfl ?_
  refine g_iload 5 dX17_accesses1_61 rfl ?_
  refine g_i2l dX17_accesses1_63 ?_
  refine g_ladd dX17_accesses1_64 ?_
  refine g_ldc2 q3778 dX17_accesses1_65 ?_
  refine g_aload_n 0 2 dX17_accesses1_68 rfl rfl ?_
  refine g_getR fdX17_109 dX17_accesses1_69 ?_
  refine g_iload 6 dX17_accesses1_72 rfl ?_
  refine g_iaload dX17_accesses1_74 ?_
  refine g_i2l dX17_accesses1_75 ?_
  refine g_lmul dX17_accesses1_76 ?_
  refine g_lcmp_le 88 dX17_accesses1_77 dX17_accesses1_78 (by decide) ?_ ?_
  · refine g_iload_n 1 3 dX17_accesses1_88 rfl rfl ?_
    refine g_bipush (v := 53) dX17_accesses1_89 (by decide) ?_
    refine g_icmp_le 133 dX17_accesses1_91 (by decide) ?_ ?_
    · refine g_iconst (v := 0) dX17_accesses1_133 (by decide) ?_
      refine g_istore dX17_accesses1_134 (by decide) rfl ?_
      refine G.sub [3, 4, 6, 7, 2, 1, 0] rfl ?_
      exact gX17_accesses1_p136 FU _ _ _ _ _ _ _ _
    · refine g_iconst (v := 0) dX17_accesses1_94 (by decide) ?_
      refine g_istore dX17_accesses1_95 (by decide) rfl ?_
      refine G.sub [3, 6, 7, 2, 1, 0] rfl ?_
      exact gX17_accesses1_p97 FU _ _ _ _ _ _ _
  · refine g_aload_n 0 2 dX17_accesses1_81 rfl rfl ?_
    refine g_iconst (v := 5) dX17_accesses1_82 (by decide) ?_
    refine g_iconst (v := 1) dX17_accesses1_83 (by decide) ?_
    refine g_callV (fc := fun sς => Mdl_endsBy sς x0 (5 : Int32) (1 : Int32)) (ci := 17) (as := [iv (5 : Int32), iv (1 : Int32)]) rfl rfl rfl q4314 qs344 mdX17_1163 (ctX17_endsBy x0 (5 : Int32) (1 : Int32)) rfl (Nat.le_of_ble_eq_true rfl) (Nat.le_of_ble_eq_true rfl) (Nat.le_of_ble_eq_true rfl) pu_V dX17_accesses1_84 (fun _ σ4 => ?_)
    exact g_return rfl dX17_accesses1_87
def V.Mdl_accesses1 (σ : HS) (x0 : Nat) (x1 : Int32) : Option (Unit × HS) :=
  ck (tg σ x0 = 18) <| cl (Mdl_word σ x0 ) fun r2 σ1 =>
  ck (tg σ1 x0 = 18) <| cl (Mdl_word σ1 x0 ) fun r4 σ3 =>
  cl (Mdl_widthOf σ3 x1) fun r6 σ5 =>
  bn ((1 : Int32) <<< (r6 &&& 31)) fun y7 =>
  ck (tg σ5 x0 = 18) <|
  ck (tg σ5 x0 = 18) <|
  ck (tg σ5 (gR σ5 x0 66) = 100 ∧ inb ((128 : Int32) * (gI σ5 x0 95)) (ln σ5 (gR σ5 x0 66))) <|
  bn (gI σ5 (gR σ5 x0 66) (ix ((128 : Int32) * (gI σ5 x0 95)))) fun y8 =>
  if x1 ≤ (53 : Int32) then (
    Mdl_accesses1_p48 σ5 x0 x1 r4 y7 y8 (0 : Int64))
  else (
    ck (tg σ5 x0 = 18) <| cl (Mdl_pop σ5 x0 ) fun r10 σ9 =>
    Mdl_accesses1_p48 σ9 x0 x1 r4 y7 y8 r10)
theorem V.ctX17_accesses1 (x0 : Nat) (x1 : Int32) : Ct yX17_accesses1  cX17_accesses1 13 none 2 47 eV [av x0, iv x1] (fun σ => Mdl_accesses1 σ x0 x1) := by
  refine Ct.of (own := RX17) (nm := "accesses1") (desc := "(I)V") rfl (by decide) (Nat.le_of_ble_eq_true rfl) (by decide) (fun X σ => ?_)
  show G X RX17 "accesses1" cX17_accesses1 13 none 2 47 enV 0 [(0, av x0), (1, iv x1)] [] σ (Mdl_accesses1 σ x0 x1)
  unfold Mdl_accesses1
  refine g_aload_n 0 0 dX17_accesses1_0 rfl rfl ?_
  refine g_callV (fc := fun sς => Mdl_word sς x0 ) (ci := 17) (as := []) rfl rfl rfl q3813 qs250 mdX17_603 (ctX17_word x0 ) rfl (Nat.le_of_ble_eq_true rfl) (Nat.le_of_ble_eq_true rfl) (Nat.le_of_ble_eq_true rfl) pu_J dX17_accesses1_1 (fun r2 σ1 => ?_)
  refine g_lstore_n 2 dX17_accesses1_4 rfl (by decide) rfl ?_
  refine g_aload_n 0 1 dX17_accesses1_5 rfl rfl ?_
  refine g_callV (fc := fun sς => Mdl_word sς x0 ) (ci := 17) (as := []) rfl rfl rfl q3813 qs250 mdX17_603 (ctX17_word x0 ) rfl (Nat.le_of_ble_eq_true rfl) (Nat.le_of_ble_eq_true rfl) (Nat.le_of_ble_eq_true rfl) pu_J dX17_accesses1_6 (fun r4 σ3 => ?_)
  refine g_lstore dX17_accesses1_9 (by decide) rfl ?_
  refine g_iconst (v := 1) dX17_accesses1_11 (by decide) ?_
  refine g_iload_n 1 3 dX17_accesses1_12 rfl rfl ?_
  refine g_callS (fc := fun sς => Mdl_widthOf sς x1) (as := [iv x1]) q3874 mdX17_728 (ctX17_widthOf x1) rfl (Nat.le_of_ble_eq_true rfl) (Nat.le_of_ble_eq_true rfl) (Nat.le_of_ble_eq_true rfl) pu_I dX17_accesses1_13 (fun r6 σ5 => ?_)
  refine g_ishl dX17_accesses1_16 ?_
  refine g_nmI (fun y7 => ?_)
  refine g_istore dX17_accesses1_17 (by decide) rfl ?_
  refine g_aload_n 0 3 dX17_accesses1_19 rfl rfl ?_
  refine g_getR fdX17_140 dX17_accesses1_20 ?_
  refine g_sipush (v := 128) dX17_accesses1_23 (by decide) ?_
  refine g_aload_n 0 3 dX17_accesses1_26 rfl rfl ?_
  refine g_getI fdX17_1110 dX17_accesses1_27 ?_
  refine g_imul dX17_accesses1_30 ?_
  refine g_iaload dX17_accesses1_31 ?_
  refine g_nmI (fun y8 => ?_)
  refine g_istore dX17_accesses1_32 (by decide) rfl ?_
  refine g_iload_n 1 5 dX17_accesses1_34 rfl rfl ?_
  refine g_bipush (v := 53) dX17_accesses1_35 (by decide) ?_
  refine g_icmp_le 47 dX17_accesses1_37 (by decide) ?_ ?_
  · refine g_lconst (v := 0) dX17_accesses1_47 (by decide) ?_
    refine G.sub [4, 5, 2, 1, 0] rfl ?_
    exact gX17_accesses1_p48 _ _ _ _ _ _ _
  · refine g_aload_n 0 4 dX17_accesses1_40 rfl rfl ?_
    refine g_callV (fc := fun sς => Mdl_pop sς x0 ) (ci := 17) (as := []) rfl rfl rfl q4182 qs327 mdX17_1157 (ctX17_pop x0 ) rfl (Nat.le_of_ble_eq_true rfl) (Nat.le_of_ble_eq_true rfl) (Nat.le_of_ble_eq_true rfl) pu_J dX17_accesses1_41 (fun r10 σ9 => ?_)
    refine g_goto 48 dX17_accesses1_44 (by decide) ?_
    refine G.sub [4, 5, 2, 1, 0] rfl ?_
    exact gX17_accesses1_p48 _ _ _ _ _ _ _
theorem V.dX17_stretches_0 : decode cX17_stretches 0 = .ok (.aload_n 0, 1) := by decide +kernel
theorem V.dX17_stretches_1 : decode cX17_stretches 1 = .ok (.getfield 140, 3) := by decide +kernel
theorem V.dX17_stretches_4 : decode cX17_stretches 4 = .ok (.sipush 128, 3) := by decide +kernel
theorem V.dX17_stretches_7 : decode cX17_stretches 7 = .ok (.aload_n 0, 1) := by decide +kernel
theorem V.dX17_stretches_8 : decode cX17_stretches 8 = .ok (.getfield 1110, 3) := by decide +kernel
theorem V.dX17_stretches_11 : decode cX17_stretches 11 = .ok (.imul, 1) := by decide +kernel
theorem V.dX17_stretches_12 : decode cX17_stretches 12 = .ok (.iaload, 1) := by decide +kernel
theorem V.dX17_stretches_13 : decode cX17_stretches 13 = .ok (.istore_n 3, 1) := by decide +kernel
theorem V.dX17_stretches_14 : decode cX17_stretches 14 = .ok (.aload_n 0, 1) := by decide +kernel
theorem V.dX17_stretches_15 : decode cX17_stretches 15 = .ok (.invokevirtual 1157, 3) := by decide +kernel
theorem V.dX17_stretches_18 : decode cX17_stretches 18 = .ok (.lstore 4, 2) := by decide +kernel
theorem V.dX17_stretches_20 : decode cX17_stretches 20 = .ok (.aload_n 0, 1) := by decide +kernel
theorem V.dX17_stretches_21 : decode cX17_stretches 21 = .ok (.invokevirtual 1157, 3) := by decide +kernel
theorem V.dX17_stretches_24 : decode cX17_stretches 24 = .ok (.lstore 6, 2) := by decide +kernel
theorem V.dX17_stretches_26 : decode cX17_stretches 26 = .ok (.aload_n 0, 1) := by decide +kernel
theorem V.dX17_stretches_27 : decode cX17_stretches 27 = .ok (.invokevirtual 1157, 3) := by decide +kernel
theorem V.dX17_stretches_30 : decode cX17_stretches 30 = .ok (.lstore 8, 2) := by decide +kernel
theorem V.dX17_stretches_32 : decode cX17_stretches 32 = .ok (.ldc2_w 636, 3) := by decide +kernel
theorem V.dX17_stretches_35 : decode cX17_stretches 35 = .ok (.aload_n 0, 1) := by decide +kernel
theorem V.dX17_stretches_36 : decode cX17_stretches 36 = .ok (.getfield 109, 3) := by decide +kernel
theorem V.dX17_stretches_39 : decode cX17_stretches 39 = .ok (.iload_n 3, 1) := by decide +kernel
theorem V.dX17_stretches_40 : decode cX17_stretches 40 = .ok (.iaload, 1) := by decide +kernel
theorem V.dX17_stretches_41 : decode cX17_stretches 41 = .ok (.i2l, 1) := by decide +kernel
theorem V.dX17_stretches_42 : decode cX17_stretches 42 = .ok (.lmul, 1) := by decide +kernel
theorem V.dX17_stretches_43 : decode cX17_stretches 43 = .ok (.lstore 10, 2) := by decide +kernel
theorem V.dX17_stretches_45 : decode cX17_stretches 45 = .ok (.iload_n 1, 1) := by decide +kernel
theorem V.dX17_stretches_46 : decode cX17_stretches 46 = .ok (.bipush 8, 2) := by decide +kernel
theorem V.dX17_stretches_48 : decode cX17_stretches 48 = .ok (.if_icmp .ne 33, 3) := by decide +kernel
theorem V.dX17_stretches_51 : decode cX17_stretches 51 = .ok (.aload_n 0, 1) := by decide +kernel
theorem V.dX17_stretches_52 : decode cX17_stretches 52 = .ok (.iconst 5, 1) := by decide +kernel
theorem V.dX17_stretches_53 : decode cX17_stretches 53 = .ok (.aload_n 0, 1) := by decide +kernel
theorem V.dX17_stretches_54 : decode cX17_stretches 54 = .ok (.aload_n 0, 1) := by decide +kernel
theorem V.dX17_stretches_55 : decode cX17_stretches 55 = .ok (.getfield 1110, 3) := by decide +kernel
theorem V.dX17_stretches_58 : decode cX17_stretches 58 = .ok (.iload_n 2, 1) := by decide +kernel
theorem V.dX17_stretches_59 : decode cX17_stretches 59 = .ok (.iload_n 3, 1) := by decide +kernel
theorem V.dX17_stretches_60 : decode cX17_stretches 60 = .ok (.lload 8, 2) := by decide +kernel
theorem V.dX17_stretches_62 : decode cX17_stretches 62 = .ok (.lload 6, 2) := by decide +kernel
theorem V.dX17_stretches_64 : decode cX17_stretches 64 = .ok (.lload 4, 2) := by decide +kernel
theorem V.dX17_stretches_66 : decode cX17_stretches 66 = .ok (.invokevirtual 1040, 3) := by decide +kernel
theorem V.dX17_stretches_69 : decode cX17_stretches 69 = .ok (.ifCond .ne 7, 3) := by decide +kernel
theorem V.dX17_stretches_72 : decode cX17_stretches 72 = .ok (.iconst 1, 1) := by decide +kernel
theorem V.dX17_stretches_73 : decode cX17_stretches 73 = .ok (.goto 4, 3) := by decide +kernel
theorem V.dX17_stretches_76 : decode cX17_stretches 76 = .ok (.iconst 0, 1) := by decide +kernel
theorem V.dX17_stretches_77 : decode cX17_stretches 77 = .ok (.invokevirtual 1163, 3) := by decide +kernel
theorem V.dX17_stretches_80 : decode cX17_stretches 80 = .ok (.return_, 1) := by decide +kernel
theorem V.dX17_stretches_81 : decode cX17_stretches 81 = .ok (.lload 8, 2) := by decide +kernel
theorem V.dX17_stretches_83 : decode cX17_stretches 83 = .ok (.lload 4, 2) := by decide +kernel
theorem V.dX17_stretches_85 : decode cX17_stretches 85 = .ok (.ladd, 1) := by decide +kernel
theorem V.dX17_stretches_86 : decode cX17_stretches 86 = .ok (.lload 10, 2) := by decide +kernel
theorem V.dX17_stretches_88 : decode cX17_stretches 88 = .ok (.lcmp, 1) := by decide +kernel
theorem V.dX17_stretches_89 : decode cX17_stretches 89 = .ok (.ifCond .gt 20, 3) := by decide +kernel
theorem V.dX17_stretches_92 : decode cX17_stretches 92 = .ok (.iload_n 1, 1) := by decide +kernel
theorem V.dX17_stretches_93 : decode cX17_stretches 93 = .ok (.bipush 10, 2) := by decide +kernel
theorem V.dX17_stretches_95 : decode cX17_stretches 95 = .ok (.if_icmp .ne 18, 3) := by decide +kernel
theorem V.dX17_stretches_98 : decode cX17_stretches 98 = .ok (.lload 6, 2) := by decide +kernel
theorem V.dX17_stretches_100 : decode cX17_stretches 100 = .ok (.lload 4, 2) := by decide +kernel
theorem V.dX17_stretches_102 : decode cX17_stretches 102 = .ok (.ladd, 1) := by decide +kernel
theorem V.dX17_stretches_103 : decode cX17_stretches 103 = .ok (.lload 10, 2) := by decide +kernel
theorem V.dX17_stretches_105 : decode cX17_stretches 105 = .ok (.lcmp, 1) := by decide +kernel
theorem V.dX17_stretches_106 : decode cX17_stretches 106 = .ok (.ifCond .le 7, 3) := by decide +kernel
theorem V.dX17_stretches_109 : decode cX17_stretches 109 = .ok (.iconst 1, 1) := by decide +kernel
theorem V.dX17_stretches_110 : decode cX17_stretches 110 = .ok (.goto 4, 3) := by decide +kernel
theorem V.dX17_stretches_113 : decode cX17_stretches 113 = .ok (.iconst 0, 1) := by decide +kernel
theorem V.dX17_stretches_114 : decode cX17_stretches 114 = .ok (.istore 12, 2) := by decide +kernel
theorem V.dX17_stretches_116 : decode cX17_stretches 116 = .ok (.aload_n 0, 1) := by decide +kernel
theorem V.dX17_stretches_117 : decode cX17_stretches 117 = .ok (.iconst 5, 1) := by decide +kernel
theorem V.dX17_stretches_118 : decode cX17_stretches 118 = .ok (.iload 12, 2) := by decide +kernel
theorem V.dX17_stretches_120 : decode cX17_stretches 120 = .ok (.invokevirtual 1163, 3) := by decide +kernel
theorem V.dX17_stretches_123 : decode cX17_stretches 123 = .ok (.lconst 0, 1) := by decide +kernel
theorem V.dX17_stretches_124 : decode cX17_stretches 124 = .ok (.lstore 13, 2) := by decide +kernel
theorem V.dX17_stretches_126 : decode cX17_stretches 126 = .ok (.lload 13, 2) := by decide +kernel
theorem V.dX17_stretches_128 : decode cX17_stretches 128 = .ok (.lload 4, 2) := by decide +kernel
theorem V.dX17_stretches_130 : decode cX17_stretches 130 = .ok (.lcmp, 1) := by decide +kernel
theorem V.dX17_stretches_131 : decode cX17_stretches 131 = .ok (.ifCond .ge 80, 3) := by decide +kernel
theorem V.dX17_stretches_134 : decode cX17_stretches 134 = .ok (.iload 12, 2) := by decide +kernel
theorem V.dX17_stretches_136 : decode cX17_stretches 136 = .ok (.ifCond .ne 75, 3) := by decide +kernel
theorem V.dX17_stretches_139 : decode cX17_stretches 139 = .ok (.iload_n 1, 1) := by decide +kernel
theorem V.dX17_stretches_140 : decode cX17_stretches 140 = .ok (.bipush 10, 2) := by decide +kernel
theorem V.dX17_stretches_142 : decode cX17_stretches 142 = .ok (.if_icmp .ne 21, 3) := by decide +kernel
theorem V.dX17_stretches_145 : decode cX17_stretches 145 = .ok (.lload 6, 2) := by decide +kernel
theorem V.dX17_stretches_147 : decode cX17_stretches 147 = .ok (.lload 8, 2) := by decide +kernel
theorem V.dX17_stretches_149 : decode cX17_stretches 149 = .ok (.lcmp, 1) := by decide +kernel
theorem V.dX17_stretches_150 : decode cX17_stretches 150 = .ok (.ifCond .ge 13, 3) := by decide +kernel
theorem V.dX17_stretches_153 : decode cX17_stretches 153 = .ok (.lload 4, 2) := by decide +kernel
theorem V.dX17_stretches_155 : decode cX17_stretches 155 = .ok (.lconst 1, 1) := by decide +kernel
theorem V.dX17_stretches_156 : decode cX17_stretches 156 = .ok (.lsub, 1) := by decide +kernel
theorem V.dX17_stretches_157 : decode cX17_stretches 157 = .ok (.lload 13, 2) := by decide +kernel
theorem V.dX17_stretches_159 : decode cX17_stretches 159 = .ok (.lsub, 1) := by decide +kernel
theorem V.dX17_stretches_160 : decode cX17_stretches 160 = .ok (.goto 5, 3) := by decide +kernel
theorem V.dX17_stretches_163 : decode cX17_stretches 163 = .ok (.lload 13, 2) := by decide +kernel
theorem V.dX17_stretches_165 : decode cX17_stretches 165 = .ok (.lstore 15, 2) := by decide +kernel
theorem V.dX17_stretches_167 : decode cX17_stretches 167 = .ok (.aload_n 0, 1) := by decide +kernel
theorem V.dX17_stretches_168 : decode cX17_stretches 168 = .ok (.iload_n 3, 1) := by decide +kernel
theorem V.dX17_stretches_169 : decode cX17_stretches 169 = .ok (.lload 8, 2) := by decide +kernel
theorem V.dX17_stretches_171 : decode cX17_stretches 171 = .ok (.lload 15, 2) := by decide +kernel
theorem V.dX17_stretches_173 : decode cX17_stretches 173 = .ok (.ladd, 1) := by decide +kernel
theorem V.dX17_stretches_174 : decode cX17_stretches 174 = .ok (.iload_n 1, 1) := by decide +kernel
theorem V.dX17_stretches_175 : decode cX17_stretches 175 = .ok (.bipush 11, 2) := by decide +kernel
theorem V.dX17_stretches_177 : decode cX17_stretches 177 = .ok (.if_icmp .ne 10, 3) := by decide +kernel
theorem V.dX17_stretches_180 : decode cX17_stretches 180 = .ok (.lload 6, 2) := by decide +kernel
theorem V.dX17_stretches_182 : decode cX17_stretches 182 = .ok (.l2i, 1) := by decide +kernel
theorem V.dX17_stretches_183 : decode cX17_stretches 183 = .ok (.i2b, 1) := by decide +kernel
theorem V.dX17_stretches_184 : decode cX17_stretches 184 = .ok (.goto 15, 3) := by decide +kernel
theorem V.dX17_stretches_187 : decode cX17_stretches 187 = .ok (.aload_n 0, 1) := by decide +kernel
theorem V.dX17_stretches_188 : decode cX17_stretches 188 = .ok (.iload_n 3, 1) := by decide +kernel
theorem V.dX17_stretches_189 : decode cX17_stretches 189 = .ok (.lload 6, 2) := by decide +kernel
theorem V.dX17_stretches_191 : decode cX17_stretches 191 = .ok (.lload 15, 2) := by decide +kernel
theorem V.dX17_stretches_193 : decode cX17_stretches 193 = .ok (.ladd, 1) := by decide +kernel
theorem V.dX17_stretches_194 : decode cX17_stretches 194 = .ok (.invokevirtual 1182, 3) := by decide +kernel
theorem V.dX17_stretches_197 : decode cX17_stretches 197 = .ok (.l2i, 1) := by decide +kernel
theorem V.dX17_stretches_198 : decode cX17_stretches 198 = .ok (.i2b, 1) := by decide +kernel
theorem V.dX17_stretches_199 : decode cX17_stretches 199 = .ok (.invokevirtual 1055, 3) := by decide +kernel
theorem V.dX17_stretches_202 : decode cX17_stretches 202 = .ok (.lload 13, 2) := by decide +kernel
theorem V.dX17_stretches_204 : decode cX17_stretches 204 = .ok (.lconst 1, 1) := by decide +kernel
theorem V.dX17_stretches_205 : decode cX17_stretches 205 = .ok (.ladd, 1) := by decide +kernel
theorem V.dX17_stretches_206 : decode cX17_stretches 206 = .ok (.lstore 13, 2) := by decide +kernel
theorem V.dX17_stretches_208 : decode cX17_stretches 208 = .ok (.goto (-82), 3) := by decide +kernel
theorem V.dX17_stretches_211 : decode cX17_stretches 211 = .ok (.return_, 1) := by decide +kernel
/-! ModuleEngineModel.stretches(II)V -/
def V.Mdl_stretches_p199 (rec126 : HS → Nat → Int32 → Int32 → Int64 → Int64 → Int64 → Int32 → Int64 → Option (Unit × HS)) (σ : HS) (x0 : Nat) (x1 : Int32) (x3 : Int32) (x4 : Int64) (x6 : Int64) (x8 : Int64) (x12 : Int32) (x13 : Int64) (s0 : Int32) (s1 : Int64) (s2 : Int32) (s3 : Nat) : Option (Unit × HS) :=
  ck (tg σ s3 = 18) <| cl (Mdl_sets σ s3 s2 s1 s0) fun _ σ1 =>
  bn (x13 + (1 : Int64)) fun y2 =>
  rec126 σ1 x0 x1 x3 x4 x6 x8 x12 y2
theorem V.gX17_stretches_p199 {X : CX} (rec126 : HS → Nat → Int32 → Int32 → Int64 → Int64 → Int64 → Int32 → Int64 → Option (Unit × HS)) (hrec126 : ∀ (σ : HS) (x0 : Nat) (x1 : Int32) (x3 : Int32) (x4 : Int64) (x6 : Int64) (x8 : Int64) (x12 : Int32) (x13 : Int64), G X RX17 "stretches" cX17_stretches 17 none 3 79 enV 126 [(0, av x0), (1, iv x1), (3, iv x3), (4, jv x4), (6, jv x6), (8, jv x8), (12, iv x12), (13, jv x13)] [] σ (rec126 σ x0 x1 x3 x4 x6 x8 x12 x13)) (σ : HS) (x0 : Nat) (x1 : Int32) (x3 : Int32) (x4 : Int64) (x6 : Int64) (x8 : Int64) (x12 : Int32) (x13 : Int64) (s0 : Int32) (s1 : Int64) (s2 : Int32) (s3 : Nat) : G X RX17 "stretches" cX17_stretches 17 none 3 79 enV 199 [(0, av x0), (1, iv x1), (3, iv x3), (4, jv x4), (6, jv x6), (8, jv x8), (12, iv x12), (13, jv x13)] [iv s0, jv s1, iv s2, av s3] σ (Mdl_stretches_p199 rec126 σ x0 x1 x3 x4 x6 x8 x12 x13 s0 s1 s2 s3) := by
  unfold Mdl_stretches_p199
  refine g_callV (fc := fun sς => Mdl_sets sς s3 s2 s1 s0) (ci := 17) (as := [iv s2, jv s1, iv s0]) rfl rfl rfl q4100 qs311 mdX17_1055 (ctX17_sets s3 s2 s1 s0) rfl (Nat.le_of_ble_eq_true rfl) (Nat.le_of_ble_eq_true rfl) (Nat.le_of_ble_eq_true rfl) pu_V dX17_stretches_199 (fun _ σ1 => ?_)
  refine g_lload 7 dX17_stretches_202 rfl ?_
  refine g_lconst (v := 1) dX17_stretches_204 (by decide) ?_
  refine g_ladd dX17_stretches_205 ?_
  refine g_nmJ (fun y2 => ?_)
  refine g_lstore dX17_stretches_206 (by decide) rfl ?_
  refine g_goto 126 dX17_stretches_208 (by decide) ?_
  refine G.sub [1, 2, 3, 4, 5, 6, 7, 0] rfl ?_
  exact hrec126 _ _ _ _ _ _ _ _ _
def V.Mdl_stretches_p165 (rec126 : HS → Nat → Int32 → Int32 → Int64 → Int64 → Int64 → Int32 → Int64 → Option (Unit × HS)) (σ : HS) (x0 : Nat) (x1 : Int32) (x3 : Int32) (x4 : Int64) (x6 : Int64) (x8 : Int64) (x12 : Int32) (x13 : Int64) (s0 : Int64) : Option (Unit × HS) :=
  if x1 = (11 : Int32) then (
    Mdl_stretches_p199 rec126 σ x0 x1 x3 x4 x6 x8 x12 x13 (i2b x6.toInt32) (x8 + s0) x3 x0)
  else (
    ck (tg σ x0 = 18) <| cl (Mdl_gets σ x0 x3 (x6 + s0)) fun r2 σ1 =>
    Mdl_stretches_p199 rec126 σ1 x0 x1 x3 x4 x6 x8 x12 x13 (i2b r2.toInt32) (x8 + s0) x3 x0)
theorem V.gX17_stretches_p165 {X : CX} (rec126 : HS → Nat → Int32 → Int32 → Int64 → Int64 → Int64 → Int32 → Int64 → Option (Unit × HS)) (hrec126 : ∀ (σ : HS) (x0 : Nat) (x1 : Int32) (x3 : Int32) (x4 : Int64) (x6 : Int64) (x8 : Int64) (x12 : Int32) (x13 : Int64), G X RX17 "stretches" cX17_stretches 17 none 3 79 enV 126 [(0, av x0), (1, iv x1), (3, iv x3), (4, jv x4), (6, jv x6), (8, jv x8), (12, iv x12), (13, jv x13)] [] σ (rec126 σ x0 x1 x3 x4 x6 x8 x12 x13)) (σ : HS) (x0 : Nat) (x1 : Int32) (x3 : Int32) (x4 : Int64) (x6 : Int64) (x8 : Int64) (x12 : Int32) (x13 : Int64) (s0 : Int64) : G X RX17 "stretches" cX17_stretches 17 none 3 79 enV 165 [(0, av x0), (1, iv x1), (3, iv x3), (4, jv x4), (6, jv x6), (8, jv x8), (12, iv x12), (13, jv x13)] [jv s0] σ (Mdl_stretches_p165 rec126 σ x0 x1 x3 x4 x6 x8 x12 x13 s0) := by
  unfold Mdl_stretches_p165
  refine g_lstore dX17_stretches_165 (by decide) rfl ?_
  refine g_aload_n 0 1 dX17_stretches_167 rfl rfl ?_
  refine g_iload_n 3 3 dX17_stretches_168 rfl rfl ?_
  refine g_lload 6 dX17_stretches_169 rfl ?_
  refine g_lload 0 dX17_stretches_171 rfl ?_
  refine g_ladd dX17_stretches_173 ?_
  refine g_iload_n 1 2 dX17_stretches_174 rfl rfl ?_
  refine g_bipush (v := 11) dX17_stretches_175 (by decide) ?_
  refine g_icmp_ne 187 dX17_stretches_177 (by decide) ?_ ?_
  · refine g_aload_n 0 1 dX17_stretches_187 rfl rfl ?_
    refine g_iload_n 3 3 dX17_stretches_188 rfl rfl ?_
    refine g_lload 5 dX17_stretches_189 rfl ?_
    refine g_lload 0 dX17_stretches_191 rfl ?_
    refine g_ladd dX17_stretches_193 ?_
    refine g_callV (fc := fun sς => Mdl_gets sς x0 x3 (x6 + s0)) (ci := 17) (as := [iv x3, jv (x6 + s0)]) rfl rfl rfl q4354 qs354 mdX17_1182 (ctX17_gets x0 x3 (x6 + s0)) rfl (Nat.le_of_ble_eq_true rfl) (Nat.le_of_ble_eq_true rfl) (Nat.le_of_ble_eq_true rfl) pu_J dX17_stretches_194 (fun r2 σ1 => ?_)
    refine g_l2i dX17_stretches_197 ?_
    refine g_i2b dX17_stretches_198 ?_
    refine G.sub [1, 2, 3, 4, 5, 6, 7, 8] rfl ?_
    exact gX17_stretches_p199 rec126 hrec126 _ _ _ _ _ _ _ _ _ _ _ _ _
  · refine g_lload 5 dX17_stretches_180 rfl ?_
    refine g_l2i dX17_stretches_182 ?_
    refine g_i2b dX17_stretches_183 ?_
    refine g_goto 199 dX17_stretches_184 (by decide) ?_
    refine G.sub [1, 2, 3, 4, 5, 6, 7, 8] rfl ?_
    exact gX17_stretches_p199 rec126 hrec126 _ _ _ _ _ _ _ _ _ _ _ _ _
def V.Mdl_stretches_p163 (rec126 : HS → Nat → Int32 → Int32 → Int64 → Int64 → Int64 → Int32 → Int64 → Option (Unit × HS)) (σ : HS) (x0 : Nat) (x1 : Int32) (x3 : Int32) (x4 : Int64) (x6 : Int64) (x8 : Int64) (x12 : Int32) (x13 : Int64) : Option (Unit × HS) :=
  Mdl_stretches_p165 rec126 σ x0 x1 x3 x4 x6 x8 x12 x13 x13
theorem V.gX17_stretches_p163 {X : CX} (rec126 : HS → Nat → Int32 → Int32 → Int64 → Int64 → Int64 → Int32 → Int64 → Option (Unit × HS)) (hrec126 : ∀ (σ : HS) (x0 : Nat) (x1 : Int32) (x3 : Int32) (x4 : Int64) (x6 : Int64) (x8 : Int64) (x12 : Int32) (x13 : Int64), G X RX17 "stretches" cX17_stretches 17 none 3 79 enV 126 [(0, av x0), (1, iv x1), (3, iv x3), (4, jv x4), (6, jv x6), (8, jv x8), (12, iv x12), (13, jv x13)] [] σ (rec126 σ x0 x1 x3 x4 x6 x8 x12 x13)) (σ : HS) (x0 : Nat) (x1 : Int32) (x3 : Int32) (x4 : Int64) (x6 : Int64) (x8 : Int64) (x12 : Int32) (x13 : Int64) : G X RX17 "stretches" cX17_stretches 17 none 3 79 enV 163 [(0, av x0), (1, iv x1), (3, iv x3), (4, jv x4), (6, jv x6), (8, jv x8), (12, iv x12), (13, jv x13)] [] σ (Mdl_stretches_p163 rec126 σ x0 x1 x3 x4 x6 x8 x12 x13) := by
  unfold Mdl_stretches_p163
  refine g_lload 7 dX17_stretches_163 rfl ?_
  exact gX17_stretches_p165 rec126 hrec126 _ _ _ _ _ _ _ _ _ _
def V.Mdl_stretches_p126  : Nat → HS → Nat → Int32 → Int32 → Int64 → Int64 → Int64 → Int32 → Int64 → Option (Unit × HS)
  | 0, _, _, _, _, _, _, _, _, _ => none
  | n + 1, σ, x0, x1, x3, x4, x6, x8, x12, x13 =>
    if x4 ≤ x13 then (
      some ((), σ))
    else (
      if x12 = 0 then (
        if x1 = (10 : Int32) then (
          if x8 ≤ x6 then (
            Mdl_stretches_p163 (Mdl_stretches_p126 n) σ x0 x1 x3 x4 x6 x8 x12 x13)
          else (
            Mdl_stretches_p165 (Mdl_stretches_p126 n) σ x0 x1 x3 x4 x6 x8 x12 x13 ((x4 - (1 : Int64)) - x13)))
        else (
          Mdl_stretches_p163 (Mdl_stretches_p126 n) σ x0 x1 x3 x4 x6 x8 x12 x13))
      else (
        some ((), σ)))
theorem V.gX17_stretches_p126 {X : CX}  : ∀ (n : Nat) (σ : HS) (x0 : Nat) (x1 : Int32) (x3 : Int32) (x4 : Int64) (x6 : Int64) (x8 : Int64) (x12 : Int32) (x13 : Int64), G X RX17 "stretches" cX17_stretches 17 none 3 79 enV 126 [(0, av x0), (1, iv x1), (3, iv x3), (4, jv x4), (6, jv x6), (8, jv x8), (12, iv x12), (13, jv x13)] [] σ (Mdl_stretches_p126 n σ x0 x1 x3 x4 x6 x8 x12 x13)
  | 0, σ, x0, x1, x3, x4, x6, x8, x12, x13 => by rw [Mdl_stretches_p126]; exact G.nul
  | n + 1, σ, x0, x1, x3, x4, x6, x8, x12, x13 => by
    rw [Mdl_stretches_p126]
    refine g_lload 7 dX17_stretches_126 rfl ?_
    refine g_lload 3 dX17_stretches_128 rfl ?_
    refine g_lcmp_ge 211 dX17_stretches_130 dX17_stretches_131 (by decide) ?_ ?_
    · exact g_return rfl dX17_stretches_211
    · refine g_iload 6 dX17_stretches_134 rfl ?_
      refine g_if_ne 211 dX17_stretches_136 (by decide) ?_ ?_
      · exact g_return rfl dX17_stretches_211
      · refine g_iload_n 1 1 dX17_stretches_139 rfl rfl ?_
        refine g_bipush (v := 10) dX17_stretches_140 (by decide) ?_
        refine g_icmp_ne 163 dX17_stretches_142 (by decide) ?_ ?_
        · exact gX17_stretches_p163 (Mdl_stretches_p126 n) (gX17_stretches_p126 n) _ _ _ _ _ _ _ _ _
        · refine g_lload 4 dX17_stretches_145 rfl ?_
          refine g_lload 5 dX17_stretches_147 rfl ?_
          refine g_lcmp_ge 163 dX17_stretches_149 dX17_stretches_150 (by decide) ?_ ?_
          · exact gX17_stretches_p163 (Mdl_stretches_p126 n) (gX17_stretches_p126 n) _ _ _ _ _ _ _ _ _
          · refine g_lload 3 dX17_stretches_153 rfl ?_
            refine g_lconst (v := 1) dX17_stretches_155 (by decide) ?_
            refine g_lsub dX17_stretches_156 ?_
            refine g_lload 7 dX17_stretches_157 rfl ?_
            refine g_lsub dX17_stretches_159 ?_
            refine g_goto 165 dX17_stretches_160 (by decide) ?_
            exact gX17_stretches_p165 (Mdl_stretches_p126 n) (gX17_stretches_p126 n) _ _ _ _ _ _ _ _ _ _
def V.Mdl_stretches_p114  (σ : HS) (x0 : Nat) (x1 : Int32) (x3 : Int32) (x4 : Int64) (x6 : Int64) (x8 : Int64) (s0 : Int32) : Option (Unit × HS) :=
  ck (tg σ x0 = 18) <| cl (Mdl_endsBy σ x0 (5 : Int32) s0) fun _ σ1 =>
  Mdl_stretches_p126 FU σ1 x0 x1 x3 x4 x6 x8 s0 (0 : Int64)
theorem V.gX17_stretches_p114 {X : CX}  (σ : HS) (x0 : Nat) (x1 : Int32) (x3 : Int32) (x4 : Int64) (x6 : Int64) (x8 : Int64) (s0 : Int32) : G X RX17 "stretches" cX17_stretches 17 none 3 79 enV 114 [(0, av x0), (1, iv x1), (3, iv x3), (4, jv x4), (6, jv x6), (8, jv x8)] [iv s0] σ (Mdl_stretches_p114 σ x0 x1 x3 x4 x6 x8 s0) := by
  unfold Mdl_stretches_p114
  refine g_istore dX17_stretches_114 (by decide) rfl ?_
  refine g_aload_n 0 1 dX17_stretches_116 rfl rfl ?_
  refine g_iconst (v := 5) dX17_stretches_117 (by decide) ?_
  refine g_iload 0 dX17_stretches_118 rfl ?_
  refine g_callV (fc := fun sς => Mdl_endsBy sς x0 (5 : Int32) s0) (ci := 17) (as := [iv (5 : Int32), iv s0]) rfl rfl rfl q4314 qs344 mdX17_1163 (ctX17_endsBy x0 (5 : Int32) s0) rfl (Nat.le_of_ble_eq_true rfl) (Nat.le_of_ble_eq_true rfl) (Nat.le_of_ble_eq_true rfl) pu_V dX17_stretches_120 (fun _ σ1 => ?_)
  refine g_lconst (v := 0) dX17_stretches_123 (by decide) ?_
  refine g_lstore dX17_stretches_124 (by decide) rfl ?_
  refine G.sub [2, 3, 4, 5, 6, 7, 1, 0] rfl ?_
  exact gX17_stretches_p126 FU _ _ _ _ _ _ _ _ _
def V.Mdl_stretches_p109  (σ : HS) (x0 : Nat) (x1 : Int32) (x3 : Int32) (x4 : Int64) (x6 : Int64) (x8 : Int64) : Option (Unit × HS) :=
  Mdl_stretches_p114 σ x0 x1 x3 x4 x6 x8 (1 : Int32)
theorem V.gX17_stretches_p109 {X : CX}  (σ : HS) (x0 : Nat) (x1 : Int32) (x3 : Int32) (x4 : Int64) (x6 : Int64) (x8 : Int64) : G X RX17 "stretches" cX17_stretches 17 none 3 79 enV 109 [(0, av x0), (1, iv x1), (3, iv x3), (4, jv x4), (6, jv x6), (8, jv x8)] [] σ (Mdl_stretches_p109 σ x0 x1 x3 x4 x6 x8) := by
  unfold Mdl_stretches_p109
  refine g_iconst (v := 1) dX17_stretches_109 (by decide) ?_
  refine g_goto 114 dX17_stretches_110 (by decide) ?_
  exact gX17_stretches_p114 _ _ _ _ _ _ _ _
def V.Mdl_stretches_p113  (σ : HS) (x0 : Nat) (x1 : Int32) (x3 : Int32) (x4 : Int64) (x6 : Int64) (x8 : Int64) : Option (Unit × HS) :=
  Mdl_stretches_p114 σ x0 x1 x3 x4 x6 x8 (0 : Int32)
theorem V.gX17_stretches_p113 {X : CX}  (σ : HS) (x0 : Nat) (x1 : Int32) (x3 : Int32) (x4 : Int64) (x6 : Int64) (x8 : Int64) : G X RX17 "stretches" cX17_stretches 17 none 3 79 enV 113 [(0, av x0), (1, iv x1), (3, iv x3), (4, jv x4), (6, jv x6), (8, jv x8)] [] σ (Mdl_stretches_p113 σ x0 x1 x3 x4 x6 x8) := by
  unfold Mdl_stretches_p113
  refine g_iconst (v := 0) dX17_stretches_113 (by decide) ?_
  exact gX17_stretches_p114 _ _ _ _ _ _ _ _
def V.Mdl_stretches_p77  (σ : HS) (s0 : Int32) (s1 : Int32) (s2 : Nat) : Option (Unit × HS) :=
  ck (tg σ s2 = 18) <| cl (Mdl_endsBy σ s2 s1 s0) fun _ σ1 =>
  some ((), σ1)
theorem V.gX17_stretches_p77 {X : CX}  (σ : HS) (s0 : Int32) (s1 : Int32) (s2 : Nat) : G X RX17 "stretches" cX17_stretches 17 none 3 79 enV 77 [] [iv s0, iv s1, av s2] σ (Mdl_stretches_p77 σ s0 s1 s2) := by
  unfold Mdl_stretches_p77
  refine g_callV (fc := fun sς => Mdl_endsBy sς s2 s1 s0) (ci := 17) (as := [iv s1, iv s0]) rfl rfl rfl q4314 qs344 mdX17_1163 (ctX17_endsBy s2 s1 s0) rfl (Nat.le_of_ble_eq_true rfl) (Nat.le_of_ble_eq_true rfl) (Nat.le_of_ble_eq_true rfl) pu_V dX17_stretches_77 (fun _ σ1 => ?_)
  exact g_return rfl dX17_stretches_80
def V.Mdl_stretches (σ : HS) (x0 : Nat) (x1 : Int32) (x2 : Int32) : Option (Unit × HS) :=
  ck (tg σ x0 = 18) <|
  ck (tg σ x0 = 18) <|
  ck (tg σ (gR σ x0 66) = 100 ∧ inb ((128 : Int32) * (gI σ x0 95)) (ln σ (gR σ x0 66))) <|
  bn (gI σ (gR σ x0 66) (ix ((128 : Int32) * (gI σ x0 95)))) fun y1 =>
  ck (tg σ x0 = 18) <| cl (Mdl_pop σ x0 ) fun r3 σ2 =>
  ck (tg σ2 x0 = 18) <| cl (Mdl_pop σ2 x0 ) fun r5 σ4 =>
  ck (tg σ4 x0 = 18) <| cl (Mdl_pop σ4 x0 ) fun r7 σ6 =>
  ck (tg σ6 x0 = 18) <|
  ck (tg σ6 (gR σ6 x0 54) = 100 ∧ inb y1 (ln σ6 (gR σ6 x0 54))) <|
  bn ((65536 : Int64) * ((gI σ6 (gR σ6 x0 54) (ix y1)).toInt64)) fun y8 =>
  if x1 = (8 : Int32) then (
    ck (tg σ6 x0 = 18) <|
    ck (tg σ6 x0 = 18) <| cl (Mdl_copiesData σ6 x0 (gI σ6 x0 95) x2 y1 r7 r5 r3) fun r10 σ9 =>
    if r10 = 0 then (
      Mdl_stretches_p77 σ9 (1 : Int32) (5 : Int32) x0)
    else (
      Mdl_stretches_p77 σ9 (0 : Int32) (5 : Int32) x0))
  else (
    if y8 < (r7 + r3) then (
      Mdl_stretches_p109 σ6 x0 x1 y1 r3 r5 r7)
    else (
      if x1 = (10 : Int32) then (
        if (r5 + r3) ≤ y8 then (
          Mdl_stretches_p113 σ6 x0 x1 y1 r3 r5 r7)
        else (
          Mdl_stretches_p109 σ6 x0 x1 y1 r3 r5 r7))
      else (
        Mdl_stretches_p113 σ6 x0 x1 y1 r3 r5 r7)))
theorem V.ctX17_stretches (x0 : Nat) (x1 : Int32) (x2 : Int32) : Ct yX17_stretches  cX17_stretches 17 none 3 79 eV [av x0, iv x1, iv x2] (fun σ => Mdl_stretches σ x0 x1 x2) := by
  refine Ct.of (own := RX17) (nm := "stretches") (desc := "(II)V") rfl (by decide) (Nat.le_of_ble_eq_true rfl) (by decide) (fun X σ => ?_)
  show G X RX17 "stretches" cX17_stretches 17 none 3 79 enV 0 [(0, av x0), (1, iv x1), (2, iv x2)] [] σ (Mdl_stretches σ x0 x1 x2)
  unfold Mdl_stretches
  refine g_aload_n 0 0 dX17_stretches_0 rfl rfl ?_
  refine g_getR fdX17_140 dX17_stretches_1 ?_
  refine g_sipush (v := 128) dX17_stretches_4 (by decide) ?_
  refine g_aload_n 0 0 dX17_stretches_7 rfl rfl ?_
  refine g_getI fdX17_1110 dX17_stretches_8 ?_
  refine g_imul dX17_stretches_11 ?_
  refine g_iaload dX17_stretches_12 ?_
  refine g_nmI (fun y1 => ?_)
  refine g_istore_n 3 dX17_stretches_13 rfl (by decide) rfl ?_
  refine g_aload_n 0 1 dX17_stretches_14 rfl rfl ?_
  refine g_callV (fc := fun sς => Mdl_pop sς x0 ) (ci := 17) (as := []) rfl rfl rfl q4182 qs327 mdX17_1157 (ctX17_pop x0 ) rfl (Nat.le_of_ble_eq_true rfl) (Nat.le_of_ble_eq_true rfl) (Nat.le_of_ble_eq_true rfl) pu_J dX17_stretches_15 (fun r3 σ2 => ?_)
  refine g_lstore dX17_stretches_18 (by decide) rfl ?_
  refine g_aload_n 0 2 dX17_stretches_20 rfl rfl ?_
  refine g_callV (fc := fun sς => Mdl_pop sς x0 ) (ci := 17) (as := []) rfl rfl rfl q4182 qs327 mdX17_1157 (ctX17_pop x0 ) rfl (Nat.le_of_ble_eq_true rfl) (Nat.le_of_ble_eq_true rfl) (Nat.le_of_ble_eq_true rfl) pu_J dX17_stretches_21 (fun r5 σ4 => ?_)
  refine g_lstore dX17_stretches_24 (by decide) rfl ?_
  refine g_aload_n 0 3 dX17_stretches_26 rfl rfl ?_
  refine g_callV (fc := fun sς => Mdl_pop sς x0 ) (ci := 17) (as := []) rfl rfl rfl q4182 qs327 mdX17_1157 (ctX17_pop x0 ) rfl (Nat.le_of_ble_eq_true rfl) (Nat.le_of_ble_eq_true rfl) (Nat.le_of_ble_eq_true rfl) pu_J dX17_stretches_27 (fun r7 σ6 => ?_)
  refine g_lstore dX17_stretches_30 (by decide) rfl ?_
  refine g_ldc2 q3778 dX17_stretches_32 ?_
  refine g_aload_n 0 4 dX17_stretches_35 rfl rfl ?_
  refine g_getR fdX17_109 dX17_stretches_36 ?_
  refine g_iload_n 3 3 dX17_stretches_39 rfl rfl ?_
  refine g_iaload dX17_stretches_40 ?_
  refine g_i2l dX17_stretches_41 ?_
  refine g_lmul dX17_stretches_42 ?_
  refine g_nmJ (fun y8 => ?_)
  refine g_lstore dX17_stretches_43 (by decide) rfl ?_
  refine g_iload_n 1 6 dX17_stretches_45 rfl rfl ?_
  refine g_bipush (v := 8) dX17_stretches_46 (by decide) ?_
  refine g_icmp_ne 81 dX17_stretches_48 (by decide) ?_ ?_
  · refine g_lload 1 dX17_stretches_81 rfl ?_
    refine g_lload 3 dX17_stretches_83 rfl ?_
    refine g_ladd dX17_stretches_85 ?_
    refine g_lload 0 dX17_stretches_86 rfl ?_
    refine g_lcmp_gt 109 dX17_stretches_88 dX17_stretches_89 (by decide) ?_ ?_
    · refine G.sub [5, 6, 4, 3, 2, 1] rfl ?_
      exact gX17_stretches_p109 _ _ _ _ _ _ _
    · refine g_iload_n 1 6 dX17_stretches_92 rfl rfl ?_
      refine g_bipush (v := 10) dX17_stretches_93 (by decide) ?_
      refine g_icmp_ne 113 dX17_stretches_95 (by decide) ?_ ?_
      · refine G.sub [5, 6, 4, 3, 2, 1] rfl ?_
        exact gX17_stretches_p113 _ _ _ _ _ _ _
      · refine g_lload 2 dX17_stretches_98 rfl ?_
        refine g_lload 3 dX17_stretches_100 rfl ?_
        refine g_ladd dX17_stretches_102 ?_
        refine g_lload 0 dX17_stretches_103 rfl ?_
        refine g_lcmp_le 113 dX17_stretches_105 dX17_stretches_106 (by decide) ?_ ?_
        · refine G.sub [5, 6, 4, 3, 2, 1] rfl ?_
          exact gX17_stretches_p113 _ _ _ _ _ _ _
        · refine G.sub [5, 6, 4, 3, 2, 1] rfl ?_
          exact gX17_stretches_p109 _ _ _ _ _ _ _
  · refine g_aload_n 0 5 dX17_stretches_51 rfl rfl ?_
    refine g_iconst (v := 5) dX17_stretches_52 (by decide) ?_
    refine g_aload_n 0 5 dX17_stretches_53 rfl rfl ?_
    refine g_aload_n 0 5 dX17_stretches_54 rfl rfl ?_
    refine g_getI fdX17_1110 dX17_stretches_55 ?_
    refine g_iload_n 2 7 dX17_stretches_58 rfl rfl ?_
    refine g_iload_n 3 4 dX17_stretches_59 rfl rfl ?_
    refine g_lload 1 dX17_stretches_60 rfl ?_
    refine g_lload 2 dX17_stretches_62 rfl ?_
    refine g_lload 3 dX17_stretches_64 rfl ?_
    refine g_callV (fc := fun sς => Mdl_copiesData sς x0 (gI σ6 x0 95) x2 y1 r7 r5 r3) (ci := 17) (as := [iv (gI σ6 x0 95), iv x2, iv y1, jv r7, jv r5, jv r3]) rfl rfl rfl q4096 qs310 mdX17_1040 (ctX17_copiesData x0 (gI σ6 x0 95) x2 y1 r7 r5 r3) rfl (Nat.le_of_ble_eq_true rfl) (Nat.le_of_ble_eq_true rfl) (Nat.le_of_ble_eq_true rfl) pu_I dX17_stretches_66 (fun r10 σ9 => ?_)
    refine g_if_ne 76 dX17_stretches_69 (by decide) ?_ ?_
    · refine g_iconst (v := 0) dX17_stretches_76 (by decide) ?_
      refine G.sub [] rfl ?_
      exact gX17_stretches_p77 _ _ _ _
    · refine g_iconst (v := 1) dX17_stretches_72 (by decide) ?_
      refine g_goto 77 dX17_stretches_73 (by decide) ?_
      refine G.sub [] rfl ?_
      exact gX17_stretches_p77 _ _ _ _
theorem V.dX17_tablesStep_0 : decode cX17_tablesStep 0 = .ok (.aload_n 0, 1) := by decide +kernel
theorem V.dX17_tablesStep_1 : decode cX17_tablesStep 1 = .ok (.getfield 137, 3) := by decide +kernel
theorem V.dX17_tablesStep_4 : decode cX17_tablesStep 4 = .ok (.sipush 128, 3) := by decide +kernel
theorem V.dX17_tablesStep_7 : decode cX17_tablesStep 7 = .ok (.aload_n 0, 1) := by decide +kernel
theorem V.dX17_tablesStep_8 : decode cX17_tablesStep 8 = .ok (.getfield 1110, 3) := by decide +kernel
theorem V.dX17_tablesStep_11 : decode cX17_tablesStep 11 = .ok (.imul, 1) := by decide +kernel
theorem V.dX17_tablesStep_12 : decode cX17_tablesStep 12 = .ok (.iload_n 1, 1) := by decide +kernel
theorem V.dX17_tablesStep_13 : decode cX17_tablesStep 13 = .ok (.bipush 12, 2) := by decide +kernel
theorem V.dX17_tablesStep_15 : decode cX17_tablesStep 15 = .ok (.if_icmp .ne 7, 3) := by decide +kernel
theorem V.dX17_tablesStep_18 : decode cX17_tablesStep 18 = .ok (.iload_n 3, 1) := by decide +kernel
theorem V.dX17_tablesStep_19 : decode cX17_tablesStep 19 = .ok (.goto 4, 3) := by decide +kernel
theorem V.dX17_tablesStep_22 : decode cX17_tablesStep 22 = .ok (.iload_n 2, 1) := by decide +kernel
theorem V.dX17_tablesStep_23 : decode cX17_tablesStep 23 = .ok (.iadd, 1) := by decide +kernel
theorem V.dX17_tablesStep_24 : decode cX17_tablesStep 24 = .ok (.iaload, 1) := by decide +kernel
theorem V.dX17_tablesStep_25 : decode cX17_tablesStep 25 = .ok (.istore 4, 2) := by decide +kernel
theorem V.dX17_tablesStep_27 : decode cX17_tablesStep 27 = .ok (.iload_n 1, 1) := by decide +kernel
theorem V.dX17_tablesStep_28 : decode cX17_tablesStep 28 = .ok (.bipush 16, 2) := by decide +kernel
theorem V.dX17_tablesStep_30 : decode cX17_tablesStep 30 = .ok (.if_icmp .ne 16, 3) := by decide +kernel
theorem V.dX17_tablesStep_33 : decode cX17_tablesStep 33 = .ok (.aload_n 0, 1) := by decide +kernel
theorem V.dX17_tablesStep_34 : decode cX17_tablesStep 34 = .ok (.aload_n 0, 1) := by decide +kernel
theorem V.dX17_tablesStep_35 : decode cX17_tablesStep 35 = .ok (.getfield 96, 3) := by decide +kernel
theorem V.dX17_tablesStep_38 : decode cX17_tablesStep 38 = .ok (.iload 4, 2) := by decide +kernel
theorem V.dX17_tablesStep_40 : decode cX17_tablesStep 40 = .ok (.iaload, 1) := by decide +kernel
theorem V.dX17_tablesStep_41 : decode cX17_tablesStep 41 = .ok (.i2l, 1) := by decide +kernel
theorem V.dX17_tablesStep_42 : decode cX17_tablesStep 42 = .ok (.invokevirtual 1136, 3) := by decide +kernel
theorem V.dX17_tablesStep_45 : decode cX17_tablesStep 45 = .ok (.return_, 1) := by decide +kernel
theorem V.dX17_tablesStep_46 : decode cX17_tablesStep 46 = .ok (.aload_n 0, 1) := by decide +kernel
theorem V.dX17_tablesStep_47 : decode cX17_tablesStep 47 = .ok (.invokevirtual 1157, 3) := by decide +kernel
theorem V.dX17_tablesStep_50 : decode cX17_tablesStep 50 = .ok (.lstore 5, 2) := by decide +kernel
theorem V.dX17_tablesStep_52 : decode cX17_tablesStep 52 = .ok (.aload_n 0, 1) := by decide +kernel
theorem V.dX17_tablesStep_53 : decode cX17_tablesStep 53 = .ok (.invokevirtual 1157, 3) := by decide +kernel
theorem V.dX17_tablesStep_56 : decode cX17_tablesStep 56 = .ok (.lstore 7, 2) := by decide +kernel
theorem V.dX17_tablesStep_58 : decode cX17_tablesStep 58 = .ok (.iload_n 1, 1) := by decide +kernel
theorem V.dX17_tablesStep_59 : decode cX17_tablesStep 59 = .ok (.bipush 15, 2) := by decide +kernel
theorem V.dX17_tablesStep_61 : decode cX17_tablesStep 61 = .ok (.if_icmp .ne 106, 3) := by decide +kernel
theorem V.dX17_tablesStep_64 : decode cX17_tablesStep 64 = .ok (.aload_n 0, 1) := by decide +kernel
theorem V.dX17_tablesStep_65 : decode cX17_tablesStep 65 = .ok (.getfield 99, 3) := by decide +kernel
theorem V.dX17_tablesStep_68 : decode cX17_tablesStep 68 = .ok (.iload 4, 2) := by decide +kernel
theorem V.dX17_tablesStep_70 : decode cX17_tablesStep 70 = .ok (.laload, 1) := by decide +kernel
theorem V.dX17_tablesStep_71 : decode cX17_tablesStep 71 = .ok (.lconst 0, 1) := by decide +kernel
theorem V.dX17_tablesStep_72 : decode cX17_tablesStep 72 = .ok (.lcmp, 1) := by decide +kernel
theorem V.dX17_tablesStep_73 : decode cX17_tablesStep 73 = .ok (.ifCond .ge 9, 3) := by decide +kernel
theorem V.dX17_tablesStep_76 : decode cX17_tablesStep 76 = .ok (.ldc2_w 513, 3) := by decide +kernel
theorem V.dX17_tablesStep_79 : decode cX17_tablesStep 79 = .ok (.goto 10, 3) := by decide +kernel
theorem V.dX17_tablesStep_82 : decode cX17_tablesStep 82 = .ok (.aload_n 0, 1) := by decide +kernel
theorem V.dX17_tablesStep_83 : decode cX17_tablesStep 83 = .ok (.getfield 99, 3) := by decide +kernel
theorem V.dX17_tablesStep_86 : decode cX17_tablesStep 86 = .ok (.iload 4, 2) := by decide +kernel
theorem V.dX17_tablesStep_88 : decode cX17_tablesStep 88 = .ok (.laload, 1) := by decide +kernel
theorem V.dX17_tablesStep_89 : decode cX17_tablesStep 89 = .ok (.lstore 9, 2) := by decide +kernel
theorem V.dX17_tablesStep_91 : decode cX17_tablesStep 91 = .ok (.aload_n 0, 1) := by decide +kernel
theorem V.dX17_tablesStep_92 : decode cX17_tablesStep 92 = .ok (.getfield 96, 3) := by decide +kernel
theorem V.dX17_tablesStep_95 : decode cX17_tablesStep 95 = .ok (.iload 4, 2) := by decide +kernel
theorem V.dX17_tablesStep_97 : decode cX17_tablesStep 97 = .ok (.iaload, 1) := by decide +kernel
theorem V.dX17_tablesStep_98 : decode cX17_tablesStep 98 = .ok (.i2l, 1) := by decide +kernel
theorem V.dX17_tablesStep_99 : decode cX17_tablesStep 99 = .ok (.lload 5, 2) := by decide +kernel
theorem V.dX17_tablesStep_101 : decode cX17_tablesStep 101 = .ok (.ladd, 1) := by decide +kernel
theorem V.dX17_tablesStep_102 : decode cX17_tablesStep 102 = .ok (.lload 9, 2) := by decide +kernel
theorem V.dX17_tablesStep_104 : decode cX17_tablesStep 104 = .ok (.lcmp, 1) := by decide +kernel
theorem V.dX17_tablesStep_105 : decode cX17_tablesStep 105 = .ok (.ifCond .gt 18, 3) := by decide +kernel
theorem V.dX17_tablesStep_108 : decode cX17_tablesStep 108 = .ok (.lload 5, 2) := by decide +kernel
theorem V.dX17_tablesStep_110 : decode cX17_tablesStep 110 = .ok (.aload_n 0, 1) := by decide +kernel
theorem V.dX17_tablesStep_111 : decode cX17_tablesStep 111 = .ok (.getfield 89, 3) := by decide +kernel
theorem V.dX17_tablesStep_114 : decode cX17_tablesStep 114 = .ok (.i2l, 1) := by decide +kernel
theorem V.dX17_tablesStep_115 : decode cX17_tablesStep 115 = .ok (.lcmp, 1) := by decide +kernel
theorem V.dX17_tablesStep_116 : decode cX17_tablesStep 116 = .ok (.ifCond .gt 7, 3) := by decide +kernel
theorem V.dX17_tablesStep_119 : decode cX17_tablesStep 119 = .ok (.iconst 1, 1) := by decide +kernel
theorem V.dX17_tablesStep_120 : decode cX17_tablesStep 120 = .ok (.goto 4, 3) := by decide +kernel
theorem V.dX17_tablesStep_123 : decode cX17_tablesStep 123 = .ok (.iconst 0, 1) := by decide +kernel
theorem V.dX17_tablesStep_124 : decode cX17_tablesStep 124 = .ok (.istore 11, 2) := by decide +kernel
theorem V.dX17_tablesStep_126 : decode cX17_tablesStep 126 = .ok (.aload_n 0, 1) := by decide +kernel
theorem V.dX17_tablesStep_127 : decode cX17_tablesStep 127 = .ok (.iload 11, 2) := by decide +kernel
theorem V.dX17_tablesStep_129 : decode cX17_tablesStep 129 = .ok (.ifCond .eq 14, 3) := by decide +kernel
theorem V.dX17_tablesStep_132 : decode cX17_tablesStep 132 = .ok (.aload_n 0, 1) := by decide +kernel
theorem V.dX17_tablesStep_133 : decode cX17_tablesStep 133 = .ok (.getfield 96, 3) := by decide +kernel
theorem V.dX17_tablesStep_136 : decode cX17_tablesStep 136 = .ok (.iload 4, 2) := by decide +kernel
theorem V.dX17_tablesStep_138 : decode cX17_tablesStep 138 = .ok (.iaload, 1) := by decide +kernel
theorem V.dX17_tablesStep_139 : decode cX17_tablesStep 139 = .ok (.i2l, 1) := by decide +kernel
theorem V.dX17_tablesStep_140 : decode cX17_tablesStep 140 = .ok (.goto 6, 3) := by decide +kernel
theorem V.dX17_tablesStep_143 : decode cX17_tablesStep 143 = .ok (.ldc2_w 513, 3) := by decide +kernel
theorem V.dX17_tablesStep_146 : decode cX17_tablesStep 146 = .ok (.invokevirtual 1136, 3) := by decide +kernel
theorem V.dX17_tablesStep_149 : decode cX17_tablesStep 149 = .ok (.iload 11, 2) := by decide +kernel
theorem V.dX17_tablesStep_151 : decode cX17_tablesStep 151 = .ok (.ifCond .eq 15, 3) := by decide +kernel
theorem V.dX17_tablesStep_154 : decode cX17_tablesStep 154 = .ok (.aload_n 0, 1) := by decide +kernel
theorem V.dX17_tablesStep_155 : decode cX17_tablesStep 155 = .ok (.iload 4, 2) := by decide +kernel
theorem V.dX17_tablesStep_157 : decode cX17_tablesStep 157 = .ok (.lload 5, 2) := by decide +kernel
theorem V.dX17_tablesStep_159 : decode cX17_tablesStep 159 = .ok (.l2i, 1) := by decide +kernel
theorem V.dX17_tablesStep_160 : decode cX17_tablesStep 160 = .ok (.lload 7, 2) := by decide +kernel
theorem V.dX17_tablesStep_162 : decode cX17_tablesStep 162 = .ok (.l2i, 1) := by decide +kernel
theorem V.dX17_tablesStep_163 : decode cX17_tablesStep 163 = .ok (.invokevirtual 1013, 3) := by decide +kernel
theorem V.dX17_tablesStep_166 : decode cX17_tablesStep 166 = .ok (.return_, 1) := by decide +kernel
theorem V.dX17_tablesStep_167 : decode cX17_tablesStep 167 = .ok (.aload_n 0, 1) := by decide +kernel
theorem V.dX17_tablesStep_168 : decode cX17_tablesStep 168 = .ok (.invokevirtual 1157, 3) := by decide +kernel
theorem V.dX17_tablesStep_171 : decode cX17_tablesStep 171 = .ok (.lstore 9, 2) := by decide +kernel
theorem V.dX17_tablesStep_173 : decode cX17_tablesStep 173 = .ok (.iload_n 1, 1) := by decide +kernel
theorem V.dX17_tablesStep_174 : decode cX17_tablesStep 174 = .ok (.bipush 12, 2) := by decide +kernel
theorem V.dX17_tablesStep_176 : decode cX17_tablesStep 176 = .ok (.if_icmp .ne 35, 3) := by decide +kernel
theorem V.dX17_tablesStep_179 : decode cX17_tablesStep 179 = .ok (.aload_n 0, 1) := by decide +kernel
theorem V.dX17_tablesStep_180 : decode cX17_tablesStep 180 = .ok (.bipush 6, 2) := by decide +kernel
theorem V.dX17_tablesStep_182 : decode cX17_tablesStep 182 = .ok (.aload_n 0, 1) := by decide +kernel
theorem V.dX17_tablesStep_183 : decode cX17_tablesStep 183 = .ok (.aload_n 0, 1) := by decide +kernel
theorem V.dX17_tablesStep_184 : decode cX17_tablesStep 184 = .ok (.getfield 1110, 3) := by decide +kernel
theorem V.dX17_tablesStep_187 : decode cX17_tablesStep 187 = .ok (.iload_n 2, 1) := by decide +kernel
theorem V.dX17_tablesStep_188 : decode cX17_tablesStep 188 = .ok (.iload 4, 2) := by decide +kernel
theorem V.dX17_tablesStep_190 : decode cX17_tablesStep 190 = .ok (.lload 9, 2) := by decide +kernel
theorem V.dX17_tablesStep_192 : decode cX17_tablesStep 192 = .ok (.lload 7, 2) := by decide +kernel
theorem V.dX17_tablesStep_194 : decode cX17_tablesStep 194 = .ok (.lload 5, 2) := by decide +kernel
theorem V.dX17_tablesStep_196 : decode cX17_tablesStep 196 = .ok (.invokevirtual 1030, 3) := by decide +kernel
theorem V.dX17_tablesStep_199 : decode cX17_tablesStep 199 = .ok (.ifCond .ne 7, 3) := by decide +kernel
theorem V.dX17_tablesStep_202 : decode cX17_tablesStep 202 = .ok (.iconst 1, 1) := by decide +kernel
theorem V.dX17_tablesStep_203 : decode cX17_tablesStep 203 = .ok (.goto 4, 3) := by decide +kernel
theorem V.dX17_tablesStep_206 : decode cX17_tablesStep 206 = .ok (.iconst 0, 1) := by decide +kernel
theorem V.dX17_tablesStep_207 : decode cX17_tablesStep 207 = .ok (.invokevirtual 1163, 3) := by decide +kernel
theorem V.dX17_tablesStep_210 : decode cX17_tablesStep 210 = .ok (.return_, 1) := by decide +kernel
theorem V.dX17_tablesStep_211 : decode cX17_tablesStep 211 = .ok (.aload_n 0, 1) := by decide +kernel
theorem V.dX17_tablesStep_212 : decode cX17_tablesStep 212 = .ok (.getfield 137, 3) := by decide +kernel
theorem V.dX17_tablesStep_215 : decode cX17_tablesStep 215 = .ok (.sipush 128, 3) := by decide +kernel
theorem V.dX17_tablesStep_218 : decode cX17_tablesStep 218 = .ok (.aload_n 0, 1) := by decide +kernel
theorem V.dX17_tablesStep_219 : decode cX17_tablesStep 219 = .ok (.getfield 1110, 3) := by decide +kernel
theorem V.dX17_tablesStep_222 : decode cX17_tablesStep 222 = .ok (.imul, 1) := by decide +kernel
theorem V.dX17_tablesStep_223 : decode cX17_tablesStep 223 = .ok (.iload_n 3, 1) := by decide +kernel
theorem V.dX17_tablesStep_224 : decode cX17_tablesStep 224 = .ok (.iadd, 1) := by decide +kernel
theorem V.dX17_tablesStep_225 : decode cX17_tablesStep 225 = .ok (.iaload, 1) := by decide +kernel
theorem V.dX17_tablesStep_226 : decode cX17_tablesStep 226 = .ok (.istore 11, 2) := by decide +kernel
theorem V.dX17_tablesStep_228 : decode cX17_tablesStep 228 = .ok (.lload 9, 2) := by decide +kernel
theorem V.dX17_tablesStep_230 : decode cX17_tablesStep 230 = .ok (.lload 5, 2) := by decide +kernel
theorem V.dX17_tablesStep_232 : decode cX17_tablesStep 232 = .ok (.ladd, 1) := by decide +kernel
theorem V.dX17_tablesStep_233 : decode cX17_tablesStep 233 = .ok (.aload_n 0, 1) := by decide +kernel
theorem V.dX17_tablesStep_234 : decode cX17_tablesStep 234 = .ok (.getfield 96, 3) := by decide +kernel
theorem V.dX17_tablesStep_237 : decode cX17_tablesStep 237 = .ok (.iload 4, 2) := by decide +kernel
theorem V.dX17_tablesStep_239 : decode cX17_tablesStep 239 = .ok (.iaload, 1) := by decide +kernel
theorem V.dX17_tablesStep_240 : decode cX17_tablesStep 240 = .ok (.i2l, 1) := by decide +kernel
theorem V.dX17_tablesStep_241 : decode cX17_tablesStep 241 = .ok (.lcmp, 1) := by decide +kernel
theorem V.dX17_tablesStep_242 : decode cX17_tablesStep 242 = .ok (.ifCond .gt 26, 3) := by decide +kernel
theorem V.dX17_tablesStep_245 : decode cX17_tablesStep 245 = .ok (.iload_n 1, 1) := by decide +kernel
theorem V.dX17_tablesStep_246 : decode cX17_tablesStep 246 = .ok (.bipush 14, 2) := by decide +kernel
theorem V.dX17_tablesStep_248 : decode cX17_tablesStep 248 = .ok (.if_icmp .ne 24, 3) := by decide +kernel
theorem V.dX17_tablesStep_251 : decode cX17_tablesStep 251 = .ok (.lload 7, 2) := by decide +kernel
theorem V.dX17_tablesStep_253 : decode cX17_tablesStep 253 = .ok (.lload 5, 2) := by decide +kernel
theorem V.dX17_tablesStep_255 : decode cX17_tablesStep 255 = .ok (.ladd, 1) := by decide +kernel
theorem V.dX17_tablesStep_256 : decode cX17_tablesStep 256 = .ok (.aload_n 0, 1) := by decide +kernel
theorem V.dX17_tablesStep_257 : decode cX17_tablesStep 257 = .ok (.getfield 96, 3) := by decide +kernel
theorem V.dX17_tablesStep_260 : decode cX17_tablesStep 260 = .ok (.iload 11, 2) := by decide +kernel
theorem V.dX17_tablesStep_262 : decode cX17_tablesStep 262 = .ok (.iaload, 1) := by decide +kernel
theorem V.dX17_tablesStep_263 : decode cX17_tablesStep 263 = .ok (.i2l, 1) := by decide +kernel
theorem V.dX17_tablesStep_264 : decode cX17_tablesStep 264 = .ok (.lcmp, 1) := by decide +kernel
theorem V.dX17_tablesStep_265 : decode cX17_tablesStep 265 = .ok (.ifCond .le 7, 3) := by decide +kernel
theorem V.dX17_tablesStep_268 : decode cX17_tablesStep 268 = .ok (.iconst 1, 1) := by decide +kernel
theorem V.dX17_tablesStep_269 : decode cX17_tablesStep 269 = .ok (.goto 4, 3) := by decide +kernel
theorem V.dX17_tablesStep_272 : decode cX17_tablesStep 272 = .ok (.iconst 0, 1) := by decide +kernel
theorem V.dX17_tablesStep_273 : decode cX17_tablesStep 273 = .ok (.istore 12, 2) := by decide +kernel
theorem V.dX17_tablesStep_275 : decode cX17_tablesStep 275 = .ok (.aload_n 0, 1) := by decide +kernel
theorem V.dX17_tablesStep_276 : decode cX17_tablesStep 276 = .ok (.bipush 6, 2) := by decide +kernel
theorem V.dX17_tablesStep_278 : decode cX17_tablesStep 278 = .ok (.iload 12, 2) := by decide +kernel
theorem V.dX17_tablesStep_280 : decode cX17_tablesStep 280 = .ok (.invokevirtual 1163, 3) := by decide +kernel
theorem V.dX17_tablesStep_283 : decode cX17_tablesStep 283 = .ok (.lconst 0, 1) := by decide +kernel
theorem V.dX17_tablesStep_284 : decode cX17_tablesStep 284 = .ok (.lstore 13, 2) := by decide +kernel
theorem V.dX17_tablesStep_286 : decode cX17_tablesStep 286 = .ok (.lload 13, 2) := by decide +kernel
theorem V.dX17_tablesStep_288 : decode cX17_tablesStep 288 = .ok (.lload 5, 2) := by decide +kernel
theorem V.dX17_tablesStep_290 : decode cX17_tablesStep 290 = .ok (.lcmp, 1) := by decide +kernel
theorem V.dX17_tablesStep_291 : decode cX17_tablesStep 291 = .ok (.ifCond .ge 94, 3) := by decide +kernel
theorem V.dX17_tablesStep_294 : decode cX17_tablesStep 294 = .ok (.iload 12, 2) := by decide +kernel
theorem V.dX17_tablesStep_296 : decode cX17_tablesStep 296 = .ok (.ifCond .ne 89, 3) := by decide +kernel
theorem V.dX17_tablesStep_299 : decode cX17_tablesStep 299 = .ok (.iload_n 1, 1) := by decide +kernel
theorem V.dX17_tablesStep_300 : decode cX17_tablesStep 300 = .ok (.bipush 14, 2) := by decide +kernel
theorem V.dX17_tablesStep_302 : decode cX17_tablesStep 302 = .ok (.if_icmp .ne 21, 3) := by decide +kernel
theorem V.dX17_tablesStep_305 : decode cX17_tablesStep 305 = .ok (.lload 7, 2) := by decide +kernel
theorem V.dX17_tablesStep_307 : decode cX17_tablesStep 307 = .ok (.lload 9, 2) := by decide +kernel
theorem V.dX17_tablesStep_309 : decode cX17_tablesStep 309 = .ok (.lcmp, 1) := by decide +kernel
theorem V.dX17_tablesStep_310 : decode cX17_tablesStep 310 = .ok (.ifCond .ge 13, 3) := by decide +kernel
theorem V.dX17_tablesStep_313 : decode cX17_tablesStep 313 = .ok (.lload 5, 2) := by decide +kernel
theorem V.dX17_tablesStep_315 : decode cX17_tablesStep 315 = .ok (.lconst 1, 1) := by decide +kernel
theorem V.dX17_tablesStep_316 : decode cX17_tablesStep 316 = .ok (.lsub, 1) := by decide +kernel
theorem V.dX17_tablesStep_317 : decode cX17_tablesStep 317 = .ok (.lload 13, 2) := by decide +kernel
theorem V.dX17_tablesStep_319 : decode cX17_tablesStep 319 = .ok (.lsub, 1) := by decide +kernel
theorem V.dX17_tablesStep_320 : decode cX17_tablesStep 320 = .ok (.goto 5, 3) := by decide +kernel
theorem V.dX17_tablesStep_323 : decode cX17_tablesStep 323 = .ok (.lload 13, 2) := by decide +kernel
theorem V.dX17_tablesStep_325 : decode cX17_tablesStep 325 = .ok (.l2i, 1) := by decide +kernel
theorem V.dX17_tablesStep_326 : decode cX17_tablesStep 326 = .ok (.istore 15, 2) := by decide +kernel
theorem V.dX17_tablesStep_328 : decode cX17_tablesStep 328 = .ok (.aload_n 0, 1) := by decide +kernel
theorem V.dX17_tablesStep_329 : decode cX17_tablesStep 329 = .ok (.getfield 103, 3) := by decide +kernel
theorem V.dX17_tablesStep_332 : decode cX17_tablesStep 332 = .ok (.sipush 1024, 3) := by decide +kernel
theorem V.dX17_tablesStep_335 : decode cX17_tablesStep 335 = .ok (.iload 4, 2) := by decide +kernel
theorem V.dX17_tablesStep_337 : decode cX17_tablesStep 337 = .ok (.imul, 1) := by decide +kernel
theorem V.dX17_tablesStep_338 : decode cX17_tablesStep 338 = .ok (.lload 9, 2) := by decide +kernel
theorem V.dX17_tablesStep_340 : decode cX17_tablesStep 340 = .ok (.l2i, 1) := by decide +kernel
theorem V.dX17_tablesStep_341 : decode cX17_tablesStep 341 = .ok (.iadd, 1) := by decide +kernel
theorem V.dX17_tablesStep_342 : decode cX17_tablesStep 342 = .ok (.iload 15, 2) := by decide +kernel
theorem V.dX17_tablesStep_344 : decode cX17_tablesStep 344 = .ok (.iadd, 1) := by decide +kernel
theorem V.dX17_tablesStep_345 : decode cX17_tablesStep 345 = .ok (.iload_n 1, 1) := by decide +kernel
theorem V.dX17_tablesStep_346 : decode cX17_tablesStep 346 = .ok (.bipush 17, 2) := by decide +kernel
theorem V.dX17_tablesStep_348 : decode cX17_tablesStep 348 = .ok (.if_icmp .ne 9, 3) := by decide +kernel
theorem V.dX17_tablesStep_351 : decode cX17_tablesStep 351 = .ok (.lload 7, 2) := by decide +kernel
theorem V.dX17_tablesStep_353 : decode cX17_tablesStep 353 = .ok (.l2i, 1) := by decide +kernel
theorem V.dX17_tablesStep_354 : decode cX17_tablesStep 354 = .ok (.goto 21, 3) := by decide +kernel
theorem V.dX17_tablesStep_357 : decode cX17_tablesStep 357 = .ok (.aload_n 0, 1) := by decide +kernel
theorem V.dX17_tablesStep_358 : decode cX17_tablesStep 358 = .ok (.getfield 103, 3) := by decide +kernel
theorem V.dX17_tablesStep_361 : decode cX17_tablesStep 361 = .ok (.sipush 1024, 3) := by decide +kernel
theorem V.dX17_tablesStep_364 : decode cX17_tablesStep 364 = .ok (.iload 11, 2) := by decide +kernel
theorem V.dX17_tablesStep_366 : decode cX17_tablesStep 366 = .ok (.imul, 1) := by decide +kernel
theorem V.dX17_tablesStep_367 : decode cX17_tablesStep 367 = .ok (.lload 7, 2) := by decide +kernel
theorem V.dX17_tablesStep_369 : decode cX17_tablesStep 369 = .ok (.l2i, 1) := by decide +kernel
theorem V.dX17_tablesStep_370 : decode cX17_tablesStep 370 = .ok (.iadd, 1) := by decide +kernel
theorem V.dX17_tablesStep_371 : decode cX17_tablesStep 371 = .ok (.iload 15, 2) := by decide +kernel
theorem V.dX17_tablesStep_373 : decode cX17_tablesStep 373 = .ok (.iadd, 1) := by decide +kernel
theorem V.dX17_tablesStep_374 : decode cX17_tablesStep 374 = .ok (.iaload, 1) := by decide +kernel
theorem V.dX17_tablesStep_375 : decode cX17_tablesStep 375 = .ok (.iastore, 1) := by decide +kernel
theorem V.dX17_tablesStep_376 : decode cX17_tablesStep 376 = .ok (.lload 13, 2) := by decide +kernel
theorem V.dX17_tablesStep_378 : decode cX17_tablesStep 378 = .ok (.lconst 1, 1) := by decide +kernel
theorem V.dX17_tablesStep_379 : decode cX17_tablesStep 379 = .ok (.ladd, 1) := by decide +kernel
theorem V.dX17_tablesStep_380 : decode cX17_tablesStep 380 = .ok (.lstore 13, 2) := by decide +kernel
theorem V.dX17_tablesStep_382 : decode cX17_tablesStep 382 = .ok (.goto (-96), 3) := by decide +kernel
theorem V.dX17_tablesStep_385 : decode cX17_tablesStep 385 = .ok (.return_, 1) := by decide +kernel
/-! ModuleEngineModel.tablesStep(III)V -/
def V.Mdl_tablesStep_p375 (rec286 : HS → Nat → Int32 → Int32 → Int64 → Int64 → Int64 → Int32 → Int32 → Int64 → Option (Unit × HS)) (σ : HS) (x0 : Nat) (x1 : Int32) (x4 : Int32) (x5 : Int64) (x7 : Int64) (x9 : Int64) (x11 : Int32) (x12 : Int32) (x13 : Int64) (s0 : Int32) (s1 : Int32) (s2 : Nat) : Option (Unit × HS) :=
  ck (tg σ s2 = 100 ∧ inb s1 (ln σ s2)) <| bn (sI σ s2 (ix s1) s0) fun σ1 =>
  bn (x13 + (1 : Int64)) fun y2 =>
  rec286 σ1 x0 x1 x4 x5 x7 x9 x11 x12 y2
theorem V.gX17_tablesStep_p375 {X : CX} (rec286 : HS → Nat → Int32 → Int32 → Int64 → Int64 → Int64 → Int32 → Int32 → Int64 → Option (Unit × HS)) (hrec286 : ∀ (σ : HS) (x0 : Nat) (x1 : Int32) (x4 : Int32) (x5 : Int64) (x7 : Int64) (x9 : Int64) (x11 : Int32) (x12 : Int32) (x13 : Int64), G X RX17 "tablesStep" cX17_tablesStep 16 none 1 30 enV 286 [(0, av x0), (1, iv x1), (4, iv x4), (5, jv x5), (7, jv x7), (9, jv x9), (11, iv x11), (12, iv x12), (13, jv x13)] [] σ (rec286 σ x0 x1 x4 x5 x7 x9 x11 x12 x13)) (σ : HS) (x0 : Nat) (x1 : Int32) (x4 : Int32) (x5 : Int64) (x7 : Int64) (x9 : Int64) (x11 : Int32) (x12 : Int32) (x13 : Int64) (s0 : Int32) (s1 : Int32) (s2 : Nat) : G X RX17 "tablesStep" cX17_tablesStep 16 none 1 30 enV 375 [(0, av x0), (1, iv x1), (4, iv x4), (5, jv x5), (7, jv x7), (9, jv x9), (11, iv x11), (12, iv x12), (13, jv x13)] [iv s0, iv s1, av s2] σ (Mdl_tablesStep_p375 rec286 σ x0 x1 x4 x5 x7 x9 x11 x12 x13 s0 s1 s2) := by
  unfold Mdl_tablesStep_p375
  refine g_iastore dX17_tablesStep_375 (fun σ1 => ?_)
  refine g_lload 8 dX17_tablesStep_376 rfl ?_
  refine g_lconst (v := 1) dX17_tablesStep_378 (by decide) ?_
  refine g_ladd dX17_tablesStep_379 ?_
  refine g_nmJ (fun y2 => ?_)
  refine g_lstore dX17_tablesStep_380 (by decide) rfl ?_
  refine g_goto 286 dX17_tablesStep_382 (by decide) ?_
  refine G.sub [1, 2, 3, 4, 5, 6, 7, 8, 0] rfl ?_
  exact hrec286 _ _ _ _ _ _ _ _ _ _
def V.Mdl_tablesStep_p325 (rec286 : HS → Nat → Int32 → Int32 → Int64 → Int64 → Int64 → Int32 → Int32 → Int64 → Option (Unit × HS)) (σ : HS) (x0 : Nat) (x1 : Int32) (x4 : Int32) (x5 : Int64) (x7 : Int64) (x9 : Int64) (x11 : Int32) (x12 : Int32) (x13 : Int64) (s0 : Int64) : Option (Unit × HS) :=
  ck (tg σ x0 = 18) <|
  if x1 = (17 : Int32) then (
    Mdl_tablesStep_p375 rec286 σ x0 x1 x4 x5 x7 x9 x11 x12 x13 x7.toInt32 ((((1024 : Int32) * x4) + x9.toInt32) + s0.toInt32) (gR σ x0 51))
  else (
    ck (tg σ x0 = 18) <|
    ck (tg σ (gR σ x0 51) = 100 ∧ inb ((((1024 : Int32) * x11) + x7.toInt32) + s0.toInt32) (ln σ (gR σ x0 51))) <|
    Mdl_tablesStep_p375 rec286 σ x0 x1 x4 x5 x7 x9 x11 x12 x13 (gI σ (gR σ x0 51) (ix ((((1024 : Int32) * x11) + x7.toInt32) + s0.toInt32))) ((((1024 : Int32) * x4) + x9.toInt32) + s0.toInt32) (gR σ x0 51))
theorem V.gX17_tablesStep_p325 {X : CX} (rec286 : HS → Nat → Int32 → Int32 → Int64 → Int64 → Int64 → Int32 → Int32 → Int64 → Option (Unit × HS)) (hrec286 : ∀ (σ : HS) (x0 : Nat) (x1 : Int32) (x4 : Int32) (x5 : Int64) (x7 : Int64) (x9 : Int64) (x11 : Int32) (x12 : Int32) (x13 : Int64), G X RX17 "tablesStep" cX17_tablesStep 16 none 1 30 enV 286 [(0, av x0), (1, iv x1), (4, iv x4), (5, jv x5), (7, jv x7), (9, jv x9), (11, iv x11), (12, iv x12), (13, jv x13)] [] σ (rec286 σ x0 x1 x4 x5 x7 x9 x11 x12 x13)) (σ : HS) (x0 : Nat) (x1 : Int32) (x4 : Int32) (x5 : Int64) (x7 : Int64) (x9 : Int64) (x11 : Int32) (x12 : Int32) (x13 : Int64) (s0 : Int64) : G X RX17 "tablesStep" cX17_tablesStep 16 none 1 30 enV 325 [(0, av x0), (1, iv x1), (4, iv x4), (5, jv x5), (7, jv x7), (9, jv x9), (11, iv x11), (12, iv x12), (13, jv x13)] [jv s0] σ (Mdl_tablesStep_p325 rec286 σ x0 x1 x4 x5 x7 x9 x11 x12 x13 s0) := by
  unfold Mdl_tablesStep_p325
  refine g_l2i dX17_tablesStep_325 ?_
  refine g_istore dX17_tablesStep_326 (by decide) rfl ?_
  refine g_aload_n 0 1 dX17_tablesStep_328 rfl rfl ?_
  refine g_getR fdX17_103 dX17_tablesStep_329 ?_
  refine g_sipush (v := 1024) dX17_tablesStep_332 (by decide) ?_
  refine g_iload 3 dX17_tablesStep_335 rfl ?_
  refine g_imul dX17_tablesStep_337 ?_
  refine g_lload 6 dX17_tablesStep_338 rfl ?_
  refine g_l2i dX17_tablesStep_340 ?_
  refine g_iadd dX17_tablesStep_341 ?_
  refine g_iload 0 dX17_tablesStep_342 rfl ?_
  refine g_iadd dX17_tablesStep_344 ?_
  refine g_iload_n 1 2 dX17_tablesStep_345 rfl rfl ?_
  refine g_bipush (v := 17) dX17_tablesStep_346 (by decide) ?_
  refine g_icmp_ne 357 dX17_tablesStep_348 (by decide) ?_ ?_
  · refine g_aload_n 0 1 dX17_tablesStep_357 rfl rfl ?_
    refine g_getR fdX17_103 dX17_tablesStep_358 ?_
    refine g_sipush (v := 1024) dX17_tablesStep_361 (by decide) ?_
    refine g_iload 7 dX17_tablesStep_364 rfl ?_
    refine g_imul dX17_tablesStep_366 ?_
    refine g_lload 5 dX17_tablesStep_367 rfl ?_
    refine g_l2i dX17_tablesStep_369 ?_
    refine g_iadd dX17_tablesStep_370 ?_
    refine g_iload 0 dX17_tablesStep_371 rfl ?_
    refine g_iadd dX17_tablesStep_373 ?_
    refine g_iaload dX17_tablesStep_374 ?_
    refine G.sub [1, 2, 3, 4, 5, 6, 7, 8, 9] rfl ?_
    exact gX17_tablesStep_p375 rec286 hrec286 _ _ _ _ _ _ _ _ _ _ _ _ _
  · refine g_lload 5 dX17_tablesStep_351 rfl ?_
    refine g_l2i dX17_tablesStep_353 ?_
    refine g_goto 375 dX17_tablesStep_354 (by decide) ?_
    refine G.sub [1, 2, 3, 4, 5, 6, 7, 8, 9] rfl ?_
    exact gX17_tablesStep_p375 rec286 hrec286 _ _ _ _ _ _ _ _ _ _ _ _ _
def V.Mdl_tablesStep_p323 (rec286 : HS → Nat → Int32 → Int32 → Int64 → Int64 → Int64 → Int32 → Int32 → Int64 → Option (Unit × HS)) (σ : HS) (x0 : Nat) (x1 : Int32) (x4 : Int32) (x5 : Int64) (x7 : Int64) (x9 : Int64) (x11 : Int32) (x12 : Int32) (x13 : Int64) : Option (Unit × HS) :=
  Mdl_tablesStep_p325 rec286 σ x0 x1 x4 x5 x7 x9 x11 x12 x13 x13
theorem V.gX17_tablesStep_p323 {X : CX} (rec286 : HS → Nat → Int32 → Int32 → Int64 → Int64 → Int64 → Int32 → Int32 → Int64 → Option (Unit × HS)) (hrec286 : ∀ (σ : HS) (x0 : Nat) (x1 : Int32) (x4 : Int32) (x5 : Int64) (x7 : Int64) (x9 : Int64) (x11 : Int32) (x12 : Int32) (x13 : Int64), G X RX17 "tablesStep" cX17_tablesStep 16 none 1 30 enV 286 [(0, av x0), (1, iv x1), (4, iv x4), (5, jv x5), (7, jv x7), (9, jv x9), (11, iv x11), (12, iv x12), (13, jv x13)] [] σ (rec286 σ x0 x1 x4 x5 x7 x9 x11 x12 x13)) (σ : HS) (x0 : Nat) (x1 : Int32) (x4 : Int32) (x5 : Int64) (x7 : Int64) (x9 : Int64) (x11 : Int32) (x12 : Int32) (x13 : Int64) : G X RX17 "tablesStep" cX17_tablesStep 16 none 1 30 enV 323 [(0, av x0), (1, iv x1), (4, iv x4), (5, jv x5), (7, jv x7), (9, jv x9), (11, iv x11), (12, iv x12), (13, jv x13)] [] σ (Mdl_tablesStep_p323 rec286 σ x0 x1 x4 x5 x7 x9 x11 x12 x13) := by
  unfold Mdl_tablesStep_p323
  refine g_lload 8 dX17_tablesStep_323 rfl ?_
  exact gX17_tablesStep_p325 rec286 hrec286 _ _ _ _ _ _ _ _ _ _ _
def V.Mdl_tablesStep_p286  : Nat → HS → Nat → Int32 → Int32 → Int64 → Int64 → Int64 → Int32 → Int32 → Int64 → Option (Unit × HS)
  | 0, _, _, _, _, _, _, _, _, _, _ => none
  | n + 1, σ, x0, x1, x4, x5, x7, x9, x11, x12, x13 =>
    if x5 ≤ x13 then (
      some ((), σ))
    else (
      if x12 = 0 then (
        if x1 = (14 : Int32) then (
          if x9 ≤ x7 then (
            Mdl_tablesStep_p323 (Mdl_tablesStep_p286 n) σ x0 x1 x4 x5 x7 x9 x11 x12 x13)
          else (
            Mdl_tablesStep_p325 (Mdl_tablesStep_p286 n) σ x0 x1 x4 x5 x7 x9 x11 x12 x13 ((x5 - (1 : Int64)) - x13)))
        else (
          Mdl_tablesStep_p323 (Mdl_tablesStep_p286 n) σ x0 x1 x4 x5 x7 x9 x11 x12 x13))
      else (
        some ((), σ)))
theorem V.gX17_tablesStep_p286 {X : CX}  : ∀ (n : Nat) (σ : HS) (x0 : Nat) (x1 : Int32) (x4 : Int32) (x5 : Int64) (x7 : Int64) (x9 : Int64) (x11 : Int32) (x12 : Int32) (x13 : Int64), G X RX17 "tablesStep" cX17_tablesStep 16 none 1 30 enV 286 [(0, av x0), (1, iv x1), (4, iv x4), (5, jv x5), (7, jv x7), (9, jv x9), (11, iv x11), (12, iv x12), (13, jv x13)] [] σ (Mdl_tablesStep_p286 n σ x0 x1 x4 x5 x7 x9 x11 x12 x13)
  | 0, σ, x0, x1, x4, x5, x7, x9, x11, x12, x13 => by rw [Mdl_tablesStep_p286]; exact G.nul
  | n + 1, σ, x0, x1, x4, x5, x7, x9, x11, x12, x13 => by
    rw [Mdl_tablesStep_p286]
    refine g_lload 8 dX17_tablesStep_286 rfl ?_
    refine g_lload 3 dX17_tablesStep_288 rfl ?_
    refine g_lcmp_ge 385 dX17_tablesStep_290 dX17_tablesStep_291 (by decide) ?_ ?_
    · exact g_return rfl dX17_tablesStep_385
    · refine g_iload 7 dX17_tablesStep_294 rfl ?_
      refine g_if_ne 385 dX17_tablesStep_296 (by decide) ?_ ?_
      · exact g_return rfl dX17_tablesStep_385
      · refine g_iload_n 1 1 dX17_tablesStep_299 rfl rfl ?_
        refine g_bipush (v := 14) dX17_tablesStep_300 (by decide) ?_
        refine g_icmp_ne 323 dX17_tablesStep_302 (by decide) ?_ ?_
        · exact gX17_tablesStep_p323 (Mdl_tablesStep_p286 n) (gX17_tablesStep_p286 n) _ _ _ _ _ _ _ _ _ _
        · refine g_lload 4 dX17_tablesStep_305 rfl ?_
          refine g_lload 5 dX17_tablesStep_307 rfl ?_
          refine g_lcmp_ge 323 dX17_tablesStep_309 dX17_tablesStep_310 (by decide) ?_ ?_
          · exact gX17_tablesStep_p323 (Mdl_tablesStep_p286 n) (gX17_tablesStep_p286 n) _ _ _ _ _ _ _ _ _ _
          · refine g_lload 3 dX17_tablesStep_313 rfl ?_
            refine g_lconst (v := 1) dX17_tablesStep_315 (by decide) ?_
            refine g_lsub dX17_tablesStep_316 ?_
            refine g_lload 8 dX17_tablesStep_317 rfl ?_
            refine g_lsub dX17_tablesStep_319 ?_
            refine g_goto 325 dX17_tablesStep_320 (by decide) ?_
            exact gX17_tablesStep_p325 (Mdl_tablesStep_p286 n) (gX17_tablesStep_p286 n) _ _ _ _ _ _ _ _ _ _ _
def V.Mdl_tablesStep_p273  (σ : HS) (x0 : Nat) (x1 : Int32) (x4 : Int32) (x5 : Int64) (x7 : Int64) (x9 : Int64) (x11 : Int32) (s0 : Int32) : Option (Unit × HS) :=
  ck (tg σ x0 = 18) <| cl (Mdl_endsBy σ x0 (6 : Int32) s0) fun _ σ1 =>
  Mdl_tablesStep_p286 FU σ1 x0 x1 x4 x5 x7 x9 x11 s0 (0 : Int64)
theorem V.gX17_tablesStep_p273 {X : CX}  (σ : HS) (x0 : Nat) (x1 : Int32) (x4 : Int32) (x5 : Int64) (x7 : Int64) (x9 : Int64) (x11 : Int32) (s0 : Int32) : G X RX17 "tablesStep" cX17_tablesStep 16 none 1 30 enV 273 [(0, av x0), (1, iv x1), (4, iv x4), (5, jv x5), (7, jv x7), (9, jv x9), (11, iv x11)] [iv s0] σ (Mdl_tablesStep_p273 σ x0 x1 x4 x5 x7 x9 x11 s0) := by
  unfold Mdl_tablesStep_p273
  refine g_istore dX17_tablesStep_273 (by decide) rfl ?_
  refine g_aload_n 0 1 dX17_tablesStep_275 rfl rfl ?_
  refine g_bipush (v := 6) dX17_tablesStep_276 (by decide) ?_
  refine g_iload 0 dX17_tablesStep_278 rfl ?_
  refine g_callV (fc := fun sς => Mdl_endsBy sς x0 (6 : Int32) s0) (ci := 17) (as := [iv (6 : Int32), iv s0]) rfl rfl rfl q4314 qs344 mdX17_1163 (ctX17_endsBy x0 (6 : Int32) s0) rfl (Nat.le_of_ble_eq_true rfl) (Nat.le_of_ble_eq_true rfl) (Nat.le_of_ble_eq_true rfl) pu_V dX17_tablesStep_280 (fun _ σ1 => ?_)
  refine g_lconst (v := 0) dX17_tablesStep_283 (by decide) ?_
  refine g_lstore dX17_tablesStep_284 (by decide) rfl ?_
  refine G.sub [2, 3, 4, 5, 6, 7, 8, 1, 0] rfl ?_
  exact gX17_tablesStep_p286 FU _ _ _ _ _ _ _ _ _ _
def V.Mdl_tablesStep_p268  (σ : HS) (x0 : Nat) (x1 : Int32) (x4 : Int32) (x5 : Int64) (x7 : Int64) (x9 : Int64) (x11 : Int32) : Option (Unit × HS) :=
  Mdl_tablesStep_p273 σ x0 x1 x4 x5 x7 x9 x11 (1 : Int32)
theorem V.gX17_tablesStep_p268 {X : CX}  (σ : HS) (x0 : Nat) (x1 : Int32) (x4 : Int32) (x5 : Int64) (x7 : Int64) (x9 : Int64) (x11 : Int32) : G X RX17 "tablesStep" cX17_tablesStep 16 none 1 30 enV 268 [(0, av x0), (1, iv x1), (4, iv x4), (5, jv x5), (7, jv x7), (9, jv x9), (11, iv x11)] [] σ (Mdl_tablesStep_p268 σ x0 x1 x4 x5 x7 x9 x11) := by
  unfold Mdl_tablesStep_p268
  refine g_iconst (v := 1) dX17_tablesStep_268 (by decide) ?_
  refine g_goto 273 dX17_tablesStep_269 (by decide) ?_
  exact gX17_tablesStep_p273 _ _ _ _ _ _ _ _ _
def V.Mdl_tablesStep_p272  (σ : HS) (x0 : Nat) (x1 : Int32) (x4 : Int32) (x5 : Int64) (x7 : Int64) (x9 : Int64) (x11 : Int32) : Option (Unit × HS) :=
  Mdl_tablesStep_p273 σ x0 x1 x4 x5 x7 x9 x11 (0 : Int32)
theorem V.gX17_tablesStep_p272 {X : CX}  (σ : HS) (x0 : Nat) (x1 : Int32) (x4 : Int32) (x5 : Int64) (x7 : Int64) (x9 : Int64) (x11 : Int32) : G X RX17 "tablesStep" cX17_tablesStep 16 none 1 30 enV 272 [(0, av x0), (1, iv x1), (4, iv x4), (5, jv x5), (7, jv x7), (9, jv x9), (11, iv x11)] [] σ (Mdl_tablesStep_p272 σ x0 x1 x4 x5 x7 x9 x11) := by
  unfold Mdl_tablesStep_p272
  refine g_iconst (v := 0) dX17_tablesStep_272 (by decide) ?_
  exact gX17_tablesStep_p273 _ _ _ _ _ _ _ _ _
def V.Mdl_tablesStep_p207  (σ : HS) (s0 : Int32) (s1 : Int32) (s2 : Nat) : Option (Unit × HS) :=
  ck (tg σ s2 = 18) <| cl (Mdl_endsBy σ s2 s1 s0) fun _ σ1 =>
  some ((), σ1)
theorem V.gX17_tablesStep_p207 {X : CX}  (σ : HS) (s0 : Int32) (s1 : Int32) (s2 : Nat) : G X RX17 "tablesStep" cX17_tablesStep 16 none 1 30 enV 207 [] [iv s0, iv s1, av s2] σ (Mdl_tablesStep_p207 σ s0 s1 s2) := by
  unfold Mdl_tablesStep_p207
  refine g_callV (fc := fun sς => Mdl_endsBy sς s2 s1 s0) (ci := 17) (as := [iv s1, iv s0]) rfl rfl rfl q4314 qs344 mdX17_1163 (ctX17_endsBy s2 s1 s0) rfl (Nat.le_of_ble_eq_true rfl) (Nat.le_of_ble_eq_true rfl) (Nat.le_of_ble_eq_true rfl) pu_V dX17_tablesStep_207 (fun _ σ1 => ?_)
  exact g_return rfl dX17_tablesStep_210
def V.Mdl_tablesStep_p146  (σ : HS) (x0 : Nat) (x4 : Int32) (x5 : Int64) (x7 : Int64) (x11 : Int32) (s0 : Int64) (s1 : Nat) : Option (Unit × HS) :=
  ck (tg σ s1 = 18) <| cl (Mdl_push σ s1 s0) fun _ σ1 =>
  if x11 = 0 then (
    some ((), σ1))
  else (
    ck (tg σ1 x0 = 18) <| cl (Mdl_grows σ1 x0 x4 x5.toInt32 x7.toInt32) fun _ σ2 =>
    some ((), σ2))
theorem V.gX17_tablesStep_p146 {X : CX}  (σ : HS) (x0 : Nat) (x4 : Int32) (x5 : Int64) (x7 : Int64) (x11 : Int32) (s0 : Int64) (s1 : Nat) : G X RX17 "tablesStep" cX17_tablesStep 16 none 1 30 enV 146 [(0, av x0), (4, iv x4), (5, jv x5), (7, jv x7), (11, iv x11)] [jv s0, av s1] σ (Mdl_tablesStep_p146 σ x0 x4 x5 x7 x11 s0 s1) := by
  unfold Mdl_tablesStep_p146
  refine g_callV (fc := fun sς => Mdl_push sς s1 s0) (ci := 17) (as := [jv s0]) rfl rfl rfl q4318 qs345 mdX17_1136 (ctX17_push s1 s0) rfl (Nat.le_of_ble_eq_true rfl) (Nat.le_of_ble_eq_true rfl) (Nat.le_of_ble_eq_true rfl) pu_V dX17_tablesStep_146 (fun _ σ1 => ?_)
  refine g_iload 4 dX17_tablesStep_149 rfl ?_
  refine g_if_eq 166 dX17_tablesStep_151 (by decide) ?_ ?_
  · exact g_return rfl dX17_tablesStep_166
  · refine g_aload_n 0 0 dX17_tablesStep_154 rfl rfl ?_
    refine g_iload 1 dX17_tablesStep_155 rfl ?_
    refine g_lload 2 dX17_tablesStep_157 rfl ?_
    refine g_l2i dX17_tablesStep_159 ?_
    refine g_lload 3 dX17_tablesStep_160 rfl ?_
    refine g_l2i dX17_tablesStep_162 ?_
    refine g_callV (fc := fun sς => Mdl_grows sς x0 x4 x5.toInt32 x7.toInt32) (ci := 17) (as := [iv x4, iv x5.toInt32, iv x7.toInt32]) rfl rfl rfl q4060 qs301 mdX17_1013 (ctX17_grows x0 x4 x5.toInt32 x7.toInt32) rfl (Nat.le_of_ble_eq_true rfl) (Nat.le_of_ble_eq_true rfl) (Nat.le_of_ble_eq_true rfl) pu_V dX17_tablesStep_163 (fun _ σ2 => ?_)
    exact g_return rfl dX17_tablesStep_166
def V.Mdl_tablesStep_p124  (σ : HS) (x0 : Nat) (x4 : Int32) (x5 : Int64) (x7 : Int64) (s0 : Int32) : Option (Unit × HS) :=
  if s0 = 0 then (
    Mdl_tablesStep_p146 σ x0 x4 x5 x7 s0 (4294967295 : Int64) x0)
  else (
    ck (tg σ x0 = 18) <|
    ck (tg σ (gR σ x0 49) = 100 ∧ inb x4 (ln σ (gR σ x0 49))) <|
    Mdl_tablesStep_p146 σ x0 x4 x5 x7 s0 ((gI σ (gR σ x0 49) (ix x4)).toInt64) x0)
theorem V.gX17_tablesStep_p124 {X : CX}  (σ : HS) (x0 : Nat) (x4 : Int32) (x5 : Int64) (x7 : Int64) (s0 : Int32) : G X RX17 "tablesStep" cX17_tablesStep 16 none 1 30 enV 124 [(0, av x0), (4, iv x4), (5, jv x5), (7, jv x7)] [iv s0] σ (Mdl_tablesStep_p124 σ x0 x4 x5 x7 s0) := by
  unfold Mdl_tablesStep_p124
  refine g_istore dX17_tablesStep_124 (by decide) rfl ?_
  refine g_aload_n 0 1 dX17_tablesStep_126 rfl rfl ?_
  refine g_iload 0 dX17_tablesStep_127 rfl ?_
  refine g_if_eq 143 dX17_tablesStep_129 (by decide) ?_ ?_
  · refine g_ldc2 q3756 dX17_tablesStep_143 ?_
    refine G.sub [1, 2, 3, 4, 0] rfl ?_
    exact gX17_tablesStep_p146 _ _ _ _ _ _ _ _
  · refine g_aload_n 0 1 dX17_tablesStep_132 rfl rfl ?_
    refine g_getR fdX17_96 dX17_tablesStep_133 ?_
    refine g_iload 2 dX17_tablesStep_136 rfl ?_
    refine g_iaload dX17_tablesStep_138 ?_
    refine g_i2l dX17_tablesStep_139 ?_
    refine g_goto 146 dX17_tablesStep_140 (by decide) ?_
    refine G.sub [1, 2, 3, 4, 0] rfl ?_
    exact gX17_tablesStep_p146 _ _ _ _ _ _ _ _
def V.Mdl_tablesStep_p123  (σ : HS) (x0 : Nat) (x4 : Int32) (x5 : Int64) (x7 : Int64) : Option (Unit × HS) :=
  Mdl_tablesStep_p124 σ x0 x4 x5 x7 (0 : Int32)
theorem V.gX17_tablesStep_p123 {X : CX}  (σ : HS) (x0 : Nat) (x4 : Int32) (x5 : Int64) (x7 : Int64) : G X RX17 "tablesStep" cX17_tablesStep 16 none 1 30 enV 123 [(0, av x0), (4, iv x4), (5, jv x5), (7, jv x7)] [] σ (Mdl_tablesStep_p123 σ x0 x4 x5 x7) := by
  unfold Mdl_tablesStep_p123
  refine g_iconst (v := 0) dX17_tablesStep_123 (by decide) ?_
  exact gX17_tablesStep_p124 _ _ _ _ _ _
def V.Mdl_tablesStep_p89  (σ : HS) (x0 : Nat) (x4 : Int32) (x5 : Int64) (x7 : Int64) (s0 : Int64) : Option (Unit × HS) :=
  ck (tg σ x0 = 18) <|
  ck (tg σ (gR σ x0 49) = 100 ∧ inb x4 (ln σ (gR σ x0 49))) <|
  if s0 < (((gI σ (gR σ x0 49) (ix x4)).toInt64) + x5) then (
    Mdl_tablesStep_p123 σ x0 x4 x5 x7)
  else (
    ck (tg σ x0 = 18) <|
    if ((gI σ x0 47).toInt64) < x5 then (
      Mdl_tablesStep_p123 σ x0 x4 x5 x7)
    else (
      Mdl_tablesStep_p124 σ x0 x4 x5 x7 (1 : Int32)))
theorem V.gX17_tablesStep_p89 {X : CX}  (σ : HS) (x0 : Nat) (x4 : Int32) (x5 : Int64) (x7 : Int64) (s0 : Int64) : G X RX17 "tablesStep" cX17_tablesStep 16 none 1 30 enV 89 [(0, av x0), (4, iv x4), (5, jv x5), (7, jv x7)] [jv s0] σ (Mdl_tablesStep_p89 σ x0 x4 x5 x7 s0) := by
  unfold Mdl_tablesStep_p89
  refine g_lstore dX17_tablesStep_89 (by decide) rfl ?_
  refine g_aload_n 0 1 dX17_tablesStep_91 rfl rfl ?_
  refine g_getR fdX17_96 dX17_tablesStep_92 ?_
  refine g_iload 2 dX17_tablesStep_95 rfl ?_
  refine g_iaload dX17_tablesStep_97 ?_
  refine g_i2l dX17_tablesStep_98 ?_
  refine g_lload 3 dX17_tablesStep_99 rfl ?_
  refine g_ladd dX17_tablesStep_101 ?_
  refine g_lload 0 dX17_tablesStep_102 rfl ?_
  refine g_lcmp_gt 123 dX17_tablesStep_104 dX17_tablesStep_105 (by decide) ?_ ?_
  · refine G.sub [1, 2, 3, 4] rfl ?_
    exact gX17_tablesStep_p123 _ _ _ _ _
  · refine g_lload 3 dX17_tablesStep_108 rfl ?_
    refine g_aload_n 0 1 dX17_tablesStep_110 rfl rfl ?_
    refine g_getI fdX17_89 dX17_tablesStep_111 ?_
    refine g_i2l dX17_tablesStep_114 ?_
    refine g_lcmp_gt 123 dX17_tablesStep_115 dX17_tablesStep_116 (by decide) ?_ ?_
    · refine G.sub [1, 2, 3, 4] rfl ?_
      exact gX17_tablesStep_p123 _ _ _ _ _
    · refine g_iconst (v := 1) dX17_tablesStep_119 (by decide) ?_
      refine g_goto 124 dX17_tablesStep_120 (by decide) ?_
      refine G.sub [1, 2, 3, 4] rfl ?_
      exact gX17_tablesStep_p124 _ _ _ _ _ _
def V.Mdl_tablesStep_p23  (σ : HS) (x0 : Nat) (x1 : Int32) (x2 : Int32) (x3 : Int32) (s0 : Int32) (s1 : Int32) (s2 : Nat) : Option (Unit × HS) :=
  ck (tg σ s2 = 100 ∧ inb (s1 + s0) (ln σ s2)) <|
  bn (gI σ s2 (ix (s1 + s0))) fun y1 =>
  if x1 = (16 : Int32) then (
    ck (tg σ x0 = 18) <|
    ck (tg σ (gR σ x0 49) = 100 ∧ inb y1 (ln σ (gR σ x0 49))) <|
    ck (tg σ x0 = 18) <| cl (Mdl_push σ x0 ((gI σ (gR σ x0 49) (ix y1)).toInt64)) fun _ σ11 =>
    some ((), σ11))
  else (
    ck (tg σ x0 = 18) <| cl (Mdl_pop σ x0 ) fun r3 σ2 =>
    ck (tg σ2 x0 = 18) <| cl (Mdl_pop σ2 x0 ) fun r5 σ4 =>
    if x1 = (15 : Int32) then (
      ck (tg σ4 x0 = 18) <|
      ck (tg σ4 (gR σ4 x0 50) = 101 ∧ inb y1 (ln σ4 (gR σ4 x0 50))) <|
      if (0 : Int64) ≤ (gJ σ4 (gR σ4 x0 50) (ix y1)) then (
        ck (tg σ4 x0 = 18) <|
        ck (tg σ4 (gR σ4 x0 50) = 101 ∧ inb y1 (ln σ4 (gR σ4 x0 50))) <|
        Mdl_tablesStep_p89 σ4 x0 y1 r3 r5 (gJ σ4 (gR σ4 x0 50) (ix y1)))
      else (
        Mdl_tablesStep_p89 σ4 x0 y1 r3 r5 (4294967295 : Int64)))
    else (
      ck (tg σ4 x0 = 18) <| cl (Mdl_pop σ4 x0 ) fun r7 σ6 =>
      if x1 = (12 : Int32) then (
        ck (tg σ6 x0 = 18) <|
        ck (tg σ6 x0 = 18) <| cl (Mdl_copiesElement σ6 x0 (gI σ6 x0 95) x2 y1 r7 r5 r3) fun r10 σ9 =>
        if r10 = 0 then (
          Mdl_tablesStep_p207 σ9 (1 : Int32) (6 : Int32) x0)
        else (
          Mdl_tablesStep_p207 σ9 (0 : Int32) (6 : Int32) x0))
      else (
        ck (tg σ6 x0 = 18) <|
        ck (tg σ6 x0 = 18) <|
        ck (tg σ6 (gR σ6 x0 65) = 100 ∧ inb (((128 : Int32) * (gI σ6 x0 95)) + x3) (ln σ6 (gR σ6 x0 65))) <|
        bn (gI σ6 (gR σ6 x0 65) (ix (((128 : Int32) * (gI σ6 x0 95)) + x3))) fun y8 =>
        ck (tg σ6 x0 = 18) <|
        ck (tg σ6 (gR σ6 x0 49) = 100 ∧ inb y1 (ln σ6 (gR σ6 x0 49))) <|
        if ((gI σ6 (gR σ6 x0 49) (ix y1)).toInt64) < (r7 + r3) then (
          Mdl_tablesStep_p268 σ6 x0 x1 y1 r3 r5 r7 y8)
        else (
          if x1 = (14 : Int32) then (
            ck (tg σ6 x0 = 18) <|
            ck (tg σ6 (gR σ6 x0 49) = 100 ∧ inb y8 (ln σ6 (gR σ6 x0 49))) <|
            if (r5 + r3) ≤ ((gI σ6 (gR σ6 x0 49) (ix y8)).toInt64) then (
              Mdl_tablesStep_p272 σ6 x0 x1 y1 r3 r5 r7 y8)
            else (
              Mdl_tablesStep_p268 σ6 x0 x1 y1 r3 r5 r7 y8))
          else (
            Mdl_tablesStep_p272 σ6 x0 x1 y1 r3 r5 r7 y8)))))
theorem V.gX17_tablesStep_p23 {X : CX}  (σ : HS) (x0 : Nat) (x1 : Int32) (x2 : Int32) (x3 : Int32) (s0 : Int32) (s1 : Int32) (s2 : Nat) : G X RX17 "tablesStep" cX17_tablesStep 16 none 1 30 enV 23 [(0, av x0), (1, iv x1), (2, iv x2), (3, iv x3)] [iv s0, iv s1, av s2] σ (Mdl_tablesStep_p23 σ x0 x1 x2 x3 s0 s1 s2) := by
  unfold Mdl_tablesStep_p23
  refine g_iadd dX17_tablesStep_23 ?_
  refine g_iaload dX17_tablesStep_24 ?_
  refine g_nmI (fun y1 => ?_)
  refine g_istore dX17_tablesStep_25 (by decide) rfl ?_
  refine g_iload_n 1 2 dX17_tablesStep_27 rfl rfl ?_
  refine g_bipush (v := 16) dX17_tablesStep_28 (by decide) ?_
  refine g_icmp_ne 46 dX17_tablesStep_30 (by decide) ?_ ?_
  · refine g_aload_n 0 1 dX17_tablesStep_46 rfl rfl ?_
    refine g_callV (fc := fun sς => Mdl_pop sς x0 ) (ci := 17) (as := []) rfl rfl rfl q4182 qs327 mdX17_1157 (ctX17_pop x0 ) rfl (Nat.le_of_ble_eq_true rfl) (Nat.le_of_ble_eq_true rfl) (Nat.le_of_ble_eq_true rfl) pu_J dX17_tablesStep_47 (fun r3 σ2 => ?_)
    refine g_lstore dX17_tablesStep_50 (by decide) rfl ?_
    refine g_aload_n 0 2 dX17_tablesStep_52 rfl rfl ?_
    refine g_callV (fc := fun sς => Mdl_pop sς x0 ) (ci := 17) (as := []) rfl rfl rfl q4182 qs327 mdX17_1157 (ctX17_pop x0 ) rfl (Nat.le_of_ble_eq_true rfl) (Nat.le_of_ble_eq_true rfl) (Nat.le_of_ble_eq_true rfl) pu_J dX17_tablesStep_53 (fun r5 σ4 => ?_)
    refine g_lstore dX17_tablesStep_56 (by decide) rfl ?_
    refine g_iload_n 1 4 dX17_tablesStep_58 rfl rfl ?_
    refine g_bipush (v := 15) dX17_tablesStep_59 (by decide) ?_
    refine g_icmp_ne 167 dX17_tablesStep_61 (by decide) ?_ ?_
    · refine g_aload_n 0 3 dX17_tablesStep_167 rfl rfl ?_
      refine g_callV (fc := fun sς => Mdl_pop sς x0 ) (ci := 17) (as := []) rfl rfl rfl q4182 qs327 mdX17_1157 (ctX17_pop x0 ) rfl (Nat.le_of_ble_eq_true rfl) (Nat.le_of_ble_eq_true rfl) (Nat.le_of_ble_eq_true rfl) pu_J dX17_tablesStep_168 (fun r7 σ6 => ?_)
      refine g_lstore dX17_tablesStep_171 (by decide) rfl ?_
      refine g_iload_n 1 5 dX17_tablesStep_173 rfl rfl ?_
      refine g_bipush (v := 12) dX17_tablesStep_174 (by decide) ?_
      refine g_icmp_ne 211 dX17_tablesStep_176 (by decide) ?_ ?_
      · refine g_aload_n 0 4 dX17_tablesStep_211 rfl rfl ?_
        refine g_getR fdX17_137 dX17_tablesStep_212 ?_
        refine g_sipush (v := 128) dX17_tablesStep_215 (by decide) ?_
        refine g_aload_n 0 4 dX17_tablesStep_218 rfl rfl ?_
        refine g_getI fdX17_1110 dX17_tablesStep_219 ?_
        refine g_imul dX17_tablesStep_222 ?_
        refine g_iload_n 3 7 dX17_tablesStep_223 rfl rfl ?_
        refine g_iadd dX17_tablesStep_224 ?_
        refine g_iaload dX17_tablesStep_225 ?_
        refine g_nmI (fun y8 => ?_)
        refine g_istore dX17_tablesStep_226 (by decide) rfl ?_
        refine g_lload 1 dX17_tablesStep_228 rfl ?_
        refine g_lload 3 dX17_tablesStep_230 rfl ?_
        refine g_ladd dX17_tablesStep_232 ?_
        refine g_aload_n 0 5 dX17_tablesStep_233 rfl rfl ?_
        refine g_getR fdX17_96 dX17_tablesStep_234 ?_
        refine g_iload 4 dX17_tablesStep_237 rfl ?_
        refine g_iaload dX17_tablesStep_239 ?_
        refine g_i2l dX17_tablesStep_240 ?_
        refine g_lcmp_gt 268 dX17_tablesStep_241 dX17_tablesStep_242 (by decide) ?_ ?_
        · refine G.sub [5, 6, 4, 3, 2, 1, 0] rfl ?_
          exact gX17_tablesStep_p268 _ _ _ _ _ _ _ _
        · refine g_iload_n 1 6 dX17_tablesStep_245 rfl rfl ?_
          refine g_bipush (v := 14) dX17_tablesStep_246 (by decide) ?_
          refine g_icmp_ne 272 dX17_tablesStep_248 (by decide) ?_ ?_
          · refine G.sub [5, 6, 4, 3, 2, 1, 0] rfl ?_
            exact gX17_tablesStep_p272 _ _ _ _ _ _ _ _
          · refine g_lload 2 dX17_tablesStep_251 rfl ?_
            refine g_lload 3 dX17_tablesStep_253 rfl ?_
            refine g_ladd dX17_tablesStep_255 ?_
            refine g_aload_n 0 5 dX17_tablesStep_256 rfl rfl ?_
            refine g_getR fdX17_96 dX17_tablesStep_257 ?_
            refine g_iload 0 dX17_tablesStep_260 rfl ?_
            refine g_iaload dX17_tablesStep_262 ?_
            refine g_i2l dX17_tablesStep_263 ?_
            refine g_lcmp_le 272 dX17_tablesStep_264 dX17_tablesStep_265 (by decide) ?_ ?_
            · refine G.sub [5, 6, 4, 3, 2, 1, 0] rfl ?_
              exact gX17_tablesStep_p272 _ _ _ _ _ _ _ _
            · refine G.sub [5, 6, 4, 3, 2, 1, 0] rfl ?_
              exact gX17_tablesStep_p268 _ _ _ _ _ _ _ _
      · refine g_aload_n 0 4 dX17_tablesStep_179 rfl rfl ?_
        refine g_bipush (v := 6) dX17_tablesStep_180 (by decide) ?_
        refine g_aload_n 0 4 dX17_tablesStep_182 rfl rfl ?_
        refine g_aload_n 0 4 dX17_tablesStep_183 rfl rfl ?_
        refine g_getI fdX17_1110 dX17_tablesStep_184 ?_
        refine g_iload_n 2 6 dX17_tablesStep_187 rfl rfl ?_
        refine g_iload 3 dX17_tablesStep_188 rfl ?_
        refine g_lload 0 dX17_tablesStep_190 rfl ?_
        refine g_lload 1 dX17_tablesStep_192 rfl ?_
        refine g_lload 2 dX17_tablesStep_194 rfl ?_
        refine g_callV (fc := fun sς => Mdl_copiesElement sς x0 (gI σ6 x0 95) x2 y1 r7 r5 r3) (ci := 17) (as := [iv (gI σ6 x0 95), iv x2, iv y1, jv r7, jv r5, jv r3]) rfl rfl rfl q4084 qs307 mdX17_1030 (ctX17_copiesElement x0 (gI σ6 x0 95) x2 y1 r7 r5 r3) rfl (Nat.le_of_ble_eq_true rfl) (Nat.le_of_ble_eq_true rfl) (Nat.le_of_ble_eq_true rfl) pu_I dX17_tablesStep_196 (fun r10 σ9 => ?_)
        refine g_if_ne 206 dX17_tablesStep_199 (by decide) ?_ ?_
        · refine g_iconst (v := 0) dX17_tablesStep_206 (by decide) ?_
          refine G.sub [] rfl ?_
          exact gX17_tablesStep_p207 _ _ _ _
        · refine g_iconst (v := 1) dX17_tablesStep_202 (by decide) ?_
          refine g_goto 207 dX17_tablesStep_203 (by decide) ?_
          refine G.sub [] rfl ?_
          exact gX17_tablesStep_p207 _ _ _ _
    · refine g_aload_n 0 3 dX17_tablesStep_64 rfl rfl ?_
      refine g_getR fdX17_99 dX17_tablesStep_65 ?_
      refine g_iload 2 dX17_tablesStep_68 rfl ?_
      refine g_laload dX17_tablesStep_70 ?_
      refine g_lconst (v := 0) dX17_tablesStep_71 (by decide) ?_
      refine g_lcmp_ge 82 dX17_tablesStep_72 dX17_tablesStep_73 (by decide) ?_ ?_
      · refine g_aload_n 0 3 dX17_tablesStep_82 rfl rfl ?_
        refine g_getR fdX17_99 dX17_tablesStep_83 ?_
        refine g_iload 2 dX17_tablesStep_86 rfl ?_
        refine g_laload dX17_tablesStep_88 ?_
        refine G.sub [3, 2, 1, 0] rfl ?_
        exact gX17_tablesStep_p89 _ _ _ _ _ _
      · refine g_ldc2 q3756 dX17_tablesStep_76 ?_
        refine g_goto 89 dX17_tablesStep_79 (by decide) ?_
        refine G.sub [3, 2, 1, 0] rfl ?_
        exact gX17_tablesStep_p89 _ _ _ _ _ _
  · refine g_aload_n 0 1 dX17_tablesStep_33 rfl rfl ?_
    refine g_aload_n 0 1 dX17_tablesStep_34 rfl rfl ?_
    refine g_getR fdX17_96 dX17_tablesStep_35 ?_
    refine g_iload 0 dX17_tablesStep_38 rfl ?_
    refine g_iaload dX17_tablesStep_40 ?_
    refine g_i2l dX17_tablesStep_41 ?_
    refine g_callV (fc := fun sς => Mdl_push sς x0 ((gI σ (gR σ x0 49) (ix y1)).toInt64)) (ci := 17) (as := [jv ((gI σ (gR σ x0 49) (ix y1)).toInt64)]) rfl rfl rfl q4318 qs345 mdX17_1136 (ctX17_push x0 ((gI σ (gR σ x0 49) (ix y1)).toInt64)) rfl (Nat.le_of_ble_eq_true rfl) (Nat.le_of_ble_eq_true rfl) (Nat.le_of_ble_eq_true rfl) pu_V dX17_tablesStep_42 (fun _ σ11 => ?_)
    exact g_return rfl dX17_tablesStep_45
def V.Mdl_tablesStep (σ : HS) (x0 : Nat) (x1 : Int32) (x2 : Int32) (x3 : Int32) : Option (Unit × HS) :=
  ck (tg σ x0 = 18) <|
  ck (tg σ x0 = 18) <|
  if x1 = (12 : Int32) then (
    Mdl_tablesStep_p23 σ x0 x1 x2 x3 x3 ((128 : Int32) * (gI σ x0 95)) (gR σ x0 65))
  else (
    Mdl_tablesStep_p23 σ x0 x1 x2 x3 x2 ((128 : Int32) * (gI σ x0 95)) (gR σ x0 65))
theorem V.ctX17_tablesStep (x0 : Nat) (x1 : Int32) (x2 : Int32) (x3 : Int32) : Ct yX17_tablesStep  cX17_tablesStep 16 none 1 30 eV [av x0, iv x1, iv x2, iv x3] (fun σ => Mdl_tablesStep σ x0 x1 x2 x3) := by
  refine Ct.of (own := RX17) (nm := "tablesStep") (desc := "(III)V") rfl (by decide) (Nat.le_of_ble_eq_true rfl) (by decide) (fun X σ => ?_)
  show G X RX17 "tablesStep" cX17_tablesStep 16 none 1 30 enV 0 [(0, av x0), (1, iv x1), (2, iv x2), (3, iv x3)] [] σ (Mdl_tablesStep σ x0 x1 x2 x3)
  unfold Mdl_tablesStep
  refine g_aload_n 0 0 dX17_tablesStep_0 rfl rfl ?_
  refine g_getR fdX17_137 dX17_tablesStep_1 ?_
  refine g_sipush (v := 128) dX17_tablesStep_4 (by decide) ?_
  refine g_aload_n 0 0 dX17_tablesStep_7 rfl rfl ?_
  refine g_getI fdX17_1110 dX17_tablesStep_8 ?_
  refine g_imul dX17_tablesStep_11 ?_
  refine g_iload_n 1 1 dX17_tablesStep_12 rfl rfl ?_
  refine g_bipush (v := 12) dX17_tablesStep_13 (by decide) ?_
  refine g_icmp_ne 22 dX17_tablesStep_15 (by decide) ?_ ?_
  · refine g_iload_n 2 2 dX17_tablesStep_22 rfl rfl ?_
    exact gX17_tablesStep_p23 _ _ _ _ _ _ _ _
  · refine g_iload_n 3 3 dX17_tablesStep_18 rfl rfl ?_
    refine g_goto 23 dX17_tablesStep_19 (by decide) ?_
    exact gX17_tablesStep_p23 _ _ _ _ _ _ _ _
theorem V.dX17_furtherStep_0 : decode cX17_furtherStep 0 = .ok (.aload_n 0, 1) := by decide +kernel
theorem V.dX17_furtherStep_1 : decode cX17_furtherStep 1 = .ok (.invokevirtual 603, 3) := by decide +kernel
theorem V.dX17_furtherStep_4 : decode cX17_furtherStep 4 = .ok (.l2i, 1) := by decide +kernel
theorem V.dX17_furtherStep_5 : decode cX17_furtherStep 5 = .ok (.istore_n 1, 1) := by decide +kernel
theorem V.dX17_furtherStep_6 : decode cX17_furtherStep 6 = .ok (.iload_n 1, 1) := by decide +kernel
theorem V.dX17_furtherStep_7 : decode cX17_furtherStep 7 = .ok (.bipush 8, 2) := by decide +kernel
theorem V.dX17_furtherStep_9 : decode cX17_furtherStep 9 = .ok (.if_icmp .ge 13, 3) := by decide +kernel
theorem V.dX17_furtherStep_12 : decode cX17_furtherStep 12 = .ok (.aload_n 0, 1) := by decide +kernel
theorem V.dX17_furtherStep_13 : decode cX17_furtherStep 13 = .ok (.sipush 200, 3) := by decide +kernel
theorem V.dX17_furtherStep_16 : decode cX17_furtherStep 16 = .ok (.iload_n 1, 1) := by decide +kernel
theorem V.dX17_furtherStep_17 : decode cX17_furtherStep 17 = .ok (.iadd, 1) := by decide +kernel
theorem V.dX17_furtherStep_18 : decode cX17_furtherStep 18 = .ok (.invokevirtual 1139, 3) := by decide +kernel
theorem V.dX17_furtherStep_21 : decode cX17_furtherStep 21 = .ok (.return_, 1) := by decide +kernel
theorem V.dX17_furtherStep_22 : decode cX17_furtherStep 22 = .ok (.iload_n 1, 1) := by decide +kernel
theorem V.dX17_furtherStep_23 : decode cX17_furtherStep 23 = .ok (.bipush 10, 2) := by decide +kernel
theorem V.dX17_furtherStep_25 : decode cX17_furtherStep 25 = .ok (.if_icmp .eq 9, 3) := by decide +kernel
theorem V.dX17_furtherStep_28 : decode cX17_furtherStep 28 = .ok (.iload_n 1, 1) := by decide +kernel
theorem V.dX17_furtherStep_29 : decode cX17_furtherStep 29 = .ok (.bipush 11, 2) := by decide +kernel
theorem V.dX17_furtherStep_31 : decode cX17_furtherStep 31 = .ok (.if_icmp .ne 7, 3) := by decide +kernel
theorem V.dX17_furtherStep_34 : decode cX17_furtherStep 34 = .ok (.iconst 0, 1) := by decide +kernel
theorem V.dX17_furtherStep_35 : decode cX17_furtherStep 35 = .ok (.goto 8, 3) := by decide +kernel
theorem V.dX17_furtherStep_38 : decode cX17_furtherStep 38 = .ok (.aload_n 0, 1) := by decide +kernel
theorem V.dX17_furtherStep_39 : decode cX17_furtherStep 39 = .ok (.invokevirtual 603, 3) := by decide +kernel
theorem V.dX17_furtherStep_42 : decode cX17_furtherStep 42 = .ok (.l2i, 1) := by decide +kernel
theorem V.dX17_furtherStep_43 : decode cX17_furtherStep 43 = .ok (.istore_n 2, 1) := by decide +kernel
theorem V.dX17_furtherStep_44 : decode cX17_furtherStep 44 = .ok (.iload_n 1, 1) := by decide +kernel
theorem V.dX17_furtherStep_45 : decode cX17_furtherStep 45 = .ok (.bipush 12, 2) := by decide +kernel
theorem V.dX17_furtherStep_47 : decode cX17_furtherStep 47 = .ok (.if_icmp .eq 9, 3) := by decide +kernel
theorem V.dX17_furtherStep_50 : decode cX17_furtherStep 50 = .ok (.iload_n 1, 1) := by decide +kernel
theorem V.dX17_furtherStep_51 : decode cX17_furtherStep 51 = .ok (.bipush 14, 2) := by decide +kernel
theorem V.dX17_furtherStep_53 : decode cX17_furtherStep 53 = .ok (.if_icmp .ne 11, 3) := by decide +kernel
theorem V.dX17_furtherStep_56 : decode cX17_furtherStep 56 = .ok (.aload_n 0, 1) := by decide +kernel
theorem V.dX17_furtherStep_57 : decode cX17_furtherStep 57 = .ok (.invokevirtual 603, 3) := by decide +kernel
theorem V.dX17_furtherStep_60 : decode cX17_furtherStep 60 = .ok (.l2i, 1) := by decide +kernel
theorem V.dX17_furtherStep_61 : decode cX17_furtherStep 61 = .ok (.goto 4, 3) := by decide +kernel
theorem V.dX17_furtherStep_64 : decode cX17_furtherStep 64 = .ok (.iconst 0, 1) := by decide +kernel
theorem V.dX17_furtherStep_65 : decode cX17_furtherStep 65 = .ok (.istore_n 3, 1) := by decide +kernel
theorem V.dX17_furtherStep_66 : decode cX17_furtherStep 66 = .ok (.iload_n 1, 1) := by decide +kernel
theorem V.dX17_furtherStep_67 : decode cX17_furtherStep 67 = .ok (.bipush 9, 2) := by decide +kernel
theorem V.dX17_furtherStep_69 : decode cX17_furtherStep 69 = .ok (.if_icmp .ne 21, 3) := by decide +kernel
theorem V.dX17_furtherStep_72 : decode cX17_furtherStep 72 = .ok (.aload_n 0, 1) := by decide +kernel
theorem V.dX17_furtherStep_73 : decode cX17_furtherStep 73 = .ok (.getfield 152, 3) := by decide +kernel
theorem V.dX17_furtherStep_76 : decode cX17_furtherStep 76 = .ok (.bipush 64, 2) := by decide +kernel
theorem V.dX17_furtherStep_78 : decode cX17_furtherStep 78 = .ok (.aload_n 0, 1) := by decide +kernel
theorem V.dX17_furtherStep_79 : decode cX17_furtherStep 79 = .ok (.getfield 1110, 3) := by decide +kernel
theorem V.dX17_furtherStep_82 : decode cX17_furtherStep 82 = .ok (.imul, 1) := by decide +kernel
theorem V.dX17_furtherStep_83 : decode cX17_furtherStep 83 = .ok (.iload_n 2, 1) := by decide +kernel
theorem V.dX17_furtherStep_84 : decode cX17_furtherStep 84 = .ok (.iadd, 1) := by decide +kernel
theorem V.dX17_furtherStep_85 : decode cX17_furtherStep 85 = .ok (.iconst 0, 1) := by decide +kernel
theorem V.dX17_furtherStep_86 : decode cX17_furtherStep 86 = .ok (.bastore, 1) := by decide +kernel
theorem V.dX17_furtherStep_87 : decode cX17_furtherStep 87 = .ok (.goto 43, 3) := by decide +kernel
theorem V.dX17_furtherStep_90 : decode cX17_furtherStep 90 = .ok (.iload_n 1, 1) := by decide +kernel
theorem V.dX17_furtherStep_91 : decode cX17_furtherStep 91 = .ok (.bipush 13, 2) := by decide +kernel
theorem V.dX17_furtherStep_93 : decode cX17_furtherStep 93 = .ok (.if_icmp .ne 15, 3) := by decide +kernel
theorem V.dX17_furtherStep_96 : decode cX17_furtherStep 96 = .ok (.aload_n 0, 1) := by decide +kernel
theorem V.dX17_furtherStep_97 : decode cX17_furtherStep 97 = .ok (.aload_n 0, 1) := by decide +kernel
theorem V.dX17_furtherStep_98 : decode cX17_furtherStep 98 = .ok (.getfield 1110, 3) := by decide +kernel
theorem V.dX17_furtherStep_101 : decode cX17_furtherStep 101 = .ok (.iload_n 2, 1) := by decide +kernel
theorem V.dX17_furtherStep_102 : decode cX17_furtherStep 102 = .ok (.invokevirtual 1037, 3) := by decide +kernel
theorem V.dX17_furtherStep_105 : decode cX17_furtherStep 105 = .ok (.goto 25, 3) := by decide +kernel
theorem V.dX17_furtherStep_108 : decode cX17_furtherStep 108 = .ok (.iload_n 1, 1) := by decide +kernel
theorem V.dX17_furtherStep_109 : decode cX17_furtherStep 109 = .ok (.bipush 12, 2) := by decide +kernel
theorem V.dX17_furtherStep_111 : decode cX17_furtherStep 111 = .ok (.if_icmp .ge 12, 3) := by decide +kernel
theorem V.dX17_furtherStep_114 : decode cX17_furtherStep 114 = .ok (.aload_n 0, 1) := by decide +kernel
theorem V.dX17_furtherStep_115 : decode cX17_furtherStep 115 = .ok (.iload_n 1, 1) := by decide +kernel
theorem V.dX17_furtherStep_116 : decode cX17_furtherStep 116 = .ok (.iload_n 2, 1) := by decide +kernel
theorem V.dX17_furtherStep_117 : decode cX17_furtherStep 117 = .ok (.invokevirtual 1185, 3) := by decide +kernel
theorem V.dX17_furtherStep_120 : decode cX17_furtherStep 120 = .ok (.goto 10, 3) := by decide +kernel
theorem V.dX17_furtherStep_123 : decode cX17_furtherStep 123 = .ok (.aload_n 0, 1) := by decide +kernel
theorem V.dX17_furtherStep_124 : decode cX17_furtherStep 124 = .ok (.iload_n 1, 1) := by decide +kernel
theorem V.dX17_furtherStep_125 : decode cX17_furtherStep 125 = .ok (.iload_n 2, 1) := by decide +kernel
theorem V.dX17_furtherStep_126 : decode cX17_furtherStep 126 = .ok (.iload_n 3, 1) := by decide +kernel
theorem V.dX17_furtherStep_127 : decode cX17_furtherStep 127 = .ok (.invokevirtual 1188, 3) := by decide +kernel
theorem V.dX17_furtherStep_130 : decode cX17_furtherStep 130 = .ok (.return_, 1) := by decide +kernel
theorem V.mdX17_1139 : MD RX17 1139 yX17_operator cX17_operator 8 none 1 := ⟨Or.inl q4176, q377, q4179, by decide, by decide, by decide +kernel⟩
theorem V.mdX17_1188 : MD RX17 1188 yX17_tablesStep cX17_tablesStep 16 none 3 := ⟨Or.inl q4364, q377, q4367, by decide, by decide, by decide +kernel⟩
theorem V.mdX17_1185 : MD RX17 1185 yX17_stretches cX17_stretches 17 none 2 := ⟨Or.inl q4360, q377, q4363, by decide, by decide, by decide +kernel⟩
/-! ModuleEngineModel.furtherStep()V -/
def V.Mdl_furtherStep_p65  (σ : HS) (x0 : Nat) (x1 : Int32) (x2 : Int32) (s0 : Int32) : Option (Unit × HS) :=
  if x1 = (9 : Int32) then (
    ck (tg σ x0 = 18) <|
    ck (tg σ x0 = 18) <|
    ck (tg σ (gR σ x0 70) = 103 ∧ inb (((64 : Int32) * (gI σ x0 95)) + x2) (ln σ (gR σ x0 70)) ∧ zb (0 : Int32)) <| bn (sI σ (gR σ x0 70) (ix (((64 : Int32) * (gI σ x0 95)) + x2)) (0 : Int32)) fun σ4 =>
    some ((), σ4))
  else (
    if x1 = (13 : Int32) then (
      ck (tg σ x0 = 18) <|
      ck (tg σ x0 = 18) <| cl (Mdl_dropped σ x0 (gI σ x0 95) x2) fun _ σ3 =>
      some ((), σ3))
    else (
      if (12 : Int32) ≤ x1 then (
        ck (tg σ x0 = 18) <| cl (Mdl_tablesStep σ x0 x1 x2 s0) fun _ σ1 =>
        some ((), σ1))
      else (
        ck (tg σ x0 = 18) <| cl (Mdl_stretches σ x0 x1 x2) fun _ σ2 =>
        some ((), σ2))))
theorem V.gX17_furtherStep_p65 {X : CX}  (σ : HS) (x0 : Nat) (x1 : Int32) (x2 : Int32) (s0 : Int32) : G X RX17 "furtherStep" cX17_furtherStep 4 none 8 218 enV 65 [(0, av x0), (1, iv x1), (2, iv x2)] [iv s0] σ (Mdl_furtherStep_p65 σ x0 x1 x2 s0) := by
  unfold Mdl_furtherStep_p65
  refine g_istore_n 3 dX17_furtherStep_65 rfl (by decide) rfl ?_
  refine g_iload_n 1 2 dX17_furtherStep_66 rfl rfl ?_
  refine g_bipush (v := 9) dX17_furtherStep_67 (by decide) ?_
  refine g_icmp_ne 90 dX17_furtherStep_69 (by decide) ?_ ?_
  · refine g_iload_n 1 2 dX17_furtherStep_90 rfl rfl ?_
    refine g_bipush (v := 13) dX17_furtherStep_91 (by decide) ?_
    refine g_icmp_ne 108 dX17_furtherStep_93 (by decide) ?_ ?_
    · refine g_iload_n 1 2 dX17_furtherStep_108 rfl rfl ?_
      refine g_bipush (v := 12) dX17_furtherStep_109 (by decide) ?_
      refine g_icmp_ge 123 dX17_furtherStep_111 (by decide) ?_ ?_
      · refine g_aload_n 0 1 dX17_furtherStep_123 rfl rfl ?_
        refine g_iload_n 1 2 dX17_furtherStep_124 rfl rfl ?_
        refine g_iload_n 2 3 dX17_furtherStep_125 rfl rfl ?_
        refine g_iload_n 3 0 dX17_furtherStep_126 rfl rfl ?_
        refine g_callV (fc := fun sς => Mdl_tablesStep sς x0 x1 x2 s0) (ci := 17) (as := [iv x1, iv x2, iv s0]) rfl rfl rfl q4366 qs357 mdX17_1188 (ctX17_tablesStep x0 x1 x2 s0) rfl (Nat.le_of_ble_eq_true rfl) (Nat.le_of_ble_eq_true rfl) (Nat.le_of_ble_eq_true rfl) pu_V dX17_furtherStep_127 (fun _ σ1 => ?_)
        exact g_return rfl dX17_furtherStep_130
      · refine g_aload_n 0 1 dX17_furtherStep_114 rfl rfl ?_
        refine g_iload_n 1 2 dX17_furtherStep_115 rfl rfl ?_
        refine g_iload_n 2 3 dX17_furtherStep_116 rfl rfl ?_
        refine g_callV (fc := fun sς => Mdl_stretches sς x0 x1 x2) (ci := 17) (as := [iv x1, iv x2]) rfl rfl rfl q4362 qs356 mdX17_1185 (ctX17_stretches x0 x1 x2) rfl (Nat.le_of_ble_eq_true rfl) (Nat.le_of_ble_eq_true rfl) (Nat.le_of_ble_eq_true rfl) pu_V dX17_furtherStep_117 (fun _ σ2 => ?_)
        refine g_goto 130 dX17_furtherStep_120 (by decide) ?_
        exact g_return rfl dX17_furtherStep_130
    · refine g_aload_n 0 1 dX17_furtherStep_96 rfl rfl ?_
      refine g_aload_n 0 1 dX17_furtherStep_97 rfl rfl ?_
      refine g_getI fdX17_1110 dX17_furtherStep_98 ?_
      refine g_iload_n 2 3 dX17_furtherStep_101 rfl rfl ?_
      refine g_callV (fc := fun sς => Mdl_dropped sς x0 (gI σ x0 95) x2) (ci := 17) (as := [iv (gI σ x0 95), iv x2]) rfl rfl rfl q4092 qs309 mdX17_1037 (ctX17_dropped x0 (gI σ x0 95) x2) rfl (Nat.le_of_ble_eq_true rfl) (Nat.le_of_ble_eq_true rfl) (Nat.le_of_ble_eq_true rfl) pu_V dX17_furtherStep_102 (fun _ σ3 => ?_)
      refine g_goto 130 dX17_furtherStep_105 (by decide) ?_
      exact g_return rfl dX17_furtherStep_130
  · refine g_aload_n 0 1 dX17_furtherStep_72 rfl rfl ?_
    refine g_getR fdX17_152 dX17_furtherStep_73 ?_
    refine g_bipush (v := 64) dX17_furtherStep_76 (by decide) ?_
    refine g_aload_n 0 1 dX17_furtherStep_78 rfl rfl ?_
    refine g_getI fdX17_1110 dX17_furtherStep_79 ?_
    refine g_imul dX17_furtherStep_82 ?_
    refine g_iload_n 2 3 dX17_furtherStep_83 rfl rfl ?_
    refine g_iadd dX17_furtherStep_84 ?_
    refine g_iconst (v := 0) dX17_furtherStep_85 (by decide) ?_
    refine g_zastore dX17_furtherStep_86 (fun σ4 => ?_)
    refine g_goto 130 dX17_furtherStep_87 (by decide) ?_
    exact g_return rfl dX17_furtherStep_130
def V.Mdl_furtherStep_p56  (σ : HS) (x0 : Nat) (x1 : Int32) (x2 : Int32) : Option (Unit × HS) :=
  ck (tg σ x0 = 18) <| cl (Mdl_word σ x0 ) fun r2 σ1 =>
  Mdl_furtherStep_p65 σ1 x0 x1 x2 r2.toInt32
theorem V.gX17_furtherStep_p56 {X : CX}  (σ : HS) (x0 : Nat) (x1 : Int32) (x2 : Int32) : G X RX17 "furtherStep" cX17_furtherStep 4 none 8 218 enV 56 [(0, av x0), (1, iv x1), (2, iv x2)] [] σ (Mdl_furtherStep_p56 σ x0 x1 x2) := by
  unfold Mdl_furtherStep_p56
  refine g_aload_n 0 0 dX17_furtherStep_56 rfl rfl ?_
  refine g_callV (fc := fun sς => Mdl_word sς x0 ) (ci := 17) (as := []) rfl rfl rfl q3813 qs250 mdX17_603 (ctX17_word x0 ) rfl (Nat.le_of_ble_eq_true rfl) (Nat.le_of_ble_eq_true rfl) (Nat.le_of_ble_eq_true rfl) pu_J dX17_furtherStep_57 (fun r2 σ1 => ?_)
  refine g_l2i dX17_furtherStep_60 ?_
  refine g_goto 65 dX17_furtherStep_61 (by decide) ?_
  exact gX17_furtherStep_p65 _ _ _ _ _
def V.Mdl_furtherStep_p43  (σ : HS) (x0 : Nat) (x1 : Int32) (s0 : Int32) : Option (Unit × HS) :=
  if x1 = (12 : Int32) then (
    Mdl_furtherStep_p56 σ x0 x1 s0)
  else (
    if x1 = (14 : Int32) then (
      Mdl_furtherStep_p56 σ x0 x1 s0)
    else (
      Mdl_furtherStep_p65 σ x0 x1 s0 (0 : Int32)))
theorem V.gX17_furtherStep_p43 {X : CX}  (σ : HS) (x0 : Nat) (x1 : Int32) (s0 : Int32) : G X RX17 "furtherStep" cX17_furtherStep 4 none 8 218 enV 43 [(0, av x0), (1, iv x1)] [iv s0] σ (Mdl_furtherStep_p43 σ x0 x1 s0) := by
  unfold Mdl_furtherStep_p43
  refine g_istore_n 2 dX17_furtherStep_43 rfl (by decide) rfl ?_
  refine g_iload_n 1 2 dX17_furtherStep_44 rfl rfl ?_
  refine g_bipush (v := 12) dX17_furtherStep_45 (by decide) ?_
  refine g_icmp_eq 56 dX17_furtherStep_47 (by decide) ?_ ?_
  · refine G.sub [1, 2, 0] rfl ?_
    exact gX17_furtherStep_p56 _ _ _ _
  · refine g_iload_n 1 2 dX17_furtherStep_50 rfl rfl ?_
    refine g_bipush (v := 14) dX17_furtherStep_51 (by decide) ?_
    refine g_icmp_ne 64 dX17_furtherStep_53 (by decide) ?_ ?_
    · refine g_iconst (v := 0) dX17_furtherStep_64 (by decide) ?_
      refine G.sub [1, 2, 0] rfl ?_
      exact gX17_furtherStep_p65 _ _ _ _ _
    · refine G.sub [1, 2, 0] rfl ?_
      exact gX17_furtherStep_p56 _ _ _ _
def V.Mdl_furtherStep_p34  (σ : HS) (x0 : Nat) (x1 : Int32) : Option (Unit × HS) :=
  Mdl_furtherStep_p43 σ x0 x1 (0 : Int32)
theorem V.gX17_furtherStep_p34 {X : CX}  (σ : HS) (x0 : Nat) (x1 : Int32) : G X RX17 "furtherStep" cX17_furtherStep 4 none 8 218 enV 34 [(0, av x0), (1, iv x1)] [] σ (Mdl_furtherStep_p34 σ x0 x1) := by
  unfold Mdl_furtherStep_p34
  refine g_iconst (v := 0) dX17_furtherStep_34 (by decide) ?_
  refine g_goto 43 dX17_furtherStep_35 (by decide) ?_
  exact gX17_furtherStep_p43 _ _ _ _
def V.Mdl_furtherStep (σ : HS) (x0 : Nat) : Option (Unit × HS) :=
  ck (tg σ x0 = 18) <| cl (Mdl_word σ x0 ) fun r2 σ1 =>
  if (8 : Int32) ≤ r2.toInt32 then (
    if r2.toInt32 = (10 : Int32) then (
      Mdl_furtherStep_p34 σ1 x0 r2.toInt32)
    else (
      if r2.toInt32 = (11 : Int32) then (
        Mdl_furtherStep_p34 σ1 x0 r2.toInt32)
      else (
        ck (tg σ1 x0 = 18) <| cl (Mdl_word σ1 x0 ) fun r4 σ3 =>
        Mdl_furtherStep_p43 σ3 x0 r2.toInt32 r4.toInt32)))
  else (
    ck (tg σ1 x0 = 18) <| cl (Mdl_operator σ1 x0 ((200 : Int32) + r2.toInt32)) fun _ σ5 =>
    some ((), σ5))
theorem V.ctX17_furtherStep (x0 : Nat) : Ct yX17_furtherStep  cX17_furtherStep 4 none 8 218 eV [av x0] (fun σ => Mdl_furtherStep σ x0) := by
  refine Ct.of (own := RX17) (nm := "furtherStep") (desc := "()V") rfl (by decide) (Nat.le_of_ble_eq_true rfl) (by decide) (fun X σ => ?_)
  show G X RX17 "furtherStep" cX17_furtherStep 4 none 8 218 enV 0 [(0, av x0)] [] σ (Mdl_furtherStep σ x0)
  unfold Mdl_furtherStep
  refine g_aload_n 0 0 dX17_furtherStep_0 rfl rfl ?_
  refine g_callV (fc := fun sς => Mdl_word sς x0 ) (ci := 17) (as := []) rfl rfl rfl q3813 qs250 mdX17_603 (ctX17_word x0 ) rfl (Nat.le_of_ble_eq_true rfl) (Nat.le_of_ble_eq_true rfl) (Nat.le_of_ble_eq_true rfl) pu_J dX17_furtherStep_1 (fun r2 σ1 => ?_)
  refine g_l2i dX17_furtherStep_4 ?_
  refine g_istore_n 1 dX17_furtherStep_5 rfl (by decide) rfl ?_
  refine g_iload_n 1 0 dX17_furtherStep_6 rfl rfl ?_
  refine g_bipush (v := 8) dX17_furtherStep_7 (by decide) ?_
  refine g_icmp_ge 22 dX17_furtherStep_9 (by decide) ?_ ?_
  · refine g_iload_n 1 0 dX17_furtherStep_22 rfl rfl ?_
    refine g_bipush (v := 10) dX17_furtherStep_23 (by decide) ?_
    refine g_icmp_eq 34 dX17_furtherStep_25 (by decide) ?_ ?_
    · refine G.sub [1, 0] rfl ?_
      exact gX17_furtherStep_p34 _ _ _
    · refine g_iload_n 1 0 dX17_furtherStep_28 rfl rfl ?_
      refine g_bipush (v := 11) dX17_furtherStep_29 (by decide) ?_
      refine g_icmp_ne 38 dX17_furtherStep_31 (by decide) ?_ ?_
      · refine g_aload_n 0 1 dX17_furtherStep_38 rfl rfl ?_
        refine g_callV (fc := fun sς => Mdl_word sς x0 ) (ci := 17) (as := []) rfl rfl rfl q3813 qs250 mdX17_603 (ctX17_word x0 ) rfl (Nat.le_of_ble_eq_true rfl) (Nat.le_of_ble_eq_true rfl) (Nat.le_of_ble_eq_true rfl) pu_J dX17_furtherStep_39 (fun r4 σ3 => ?_)
        refine g_l2i dX17_furtherStep_42 ?_
        refine G.sub [1, 0] rfl ?_
        exact gX17_furtherStep_p43 _ _ _ _
      · refine G.sub [1, 0] rfl ?_
        exact gX17_furtherStep_p34 _ _ _
  · refine g_aload_n 0 1 dX17_furtherStep_12 rfl rfl ?_
    refine g_sipush (v := 200) dX17_furtherStep_13 (by decide) ?_
    refine g_iload_n 1 0 dX17_furtherStep_16 rfl rfl ?_
    refine g_iadd dX17_furtherStep_17 ?_
    refine g_callV (fc := fun sς => Mdl_operator sς x0 ((200 : Int32) + r2.toInt32)) (ci := 17) (as := [iv ((200 : Int32) + r2.toInt32)]) rfl rfl rfl q4178 qs326 mdX17_1139 (ctX17_operator x0 ((200 : Int32) + r2.toInt32)) rfl (Nat.le_of_ble_eq_true rfl) (Nat.le_of_ble_eq_true rfl) (Nat.le_of_ble_eq_true rfl) pu_V dX17_furtherStep_18 (fun _ σ5 => ?_)
    exact g_return rfl dX17_furtherStep_21
theorem V.dX17_others_0 : decode cX17_others 0 = .ok (.iload_n 1, 1) := by decide +kernel
theorem V.dX17_others_1 : decode cX17_others 1 = .ok (.bipush 63, 2) := by decide +kernel
theorem V.dX17_others_3 : decode cX17_others 3 = .ok (.if_icmp .eq 9, 3) := by decide +kernel
theorem V.dX17_others_6 : decode cX17_others 6 = .ok (.iload_n 1, 1) := by decide +kernel
theorem V.dX17_others_7 : decode cX17_others 7 = .ok (.bipush 64, 2) := by decide +kernel
theorem V.dX17_others_9 : decode cX17_others 9 = .ok (.if_icmp .ne 127, 3) := by decide +kernel
theorem V.dX17_others_12 : decode cX17_others 12 = .ok (.aload_n 0, 1) := by decide +kernel
theorem V.dX17_others_13 : decode cX17_others 13 = .ok (.getfield 140, 3) := by decide +kernel
theorem V.dX17_others_16 : decode cX17_others 16 = .ok (.sipush 128, 3) := by decide +kernel
theorem V.dX17_others_19 : decode cX17_others 19 = .ok (.aload_n 0, 1) := by decide +kernel
theorem V.dX17_others_20 : decode cX17_others 20 = .ok (.getfield 1110, 3) := by decide +kernel
theorem V.dX17_others_23 : decode cX17_others 23 = .ok (.imul, 1) := by decide +kernel
theorem V.dX17_others_24 : decode cX17_others 24 = .ok (.iaload, 1) := by decide +kernel
theorem V.dX17_others_25 : decode cX17_others 25 = .ok (.istore_n 2, 1) := by decide +kernel
theorem V.dX17_others_26 : decode cX17_others 26 = .ok (.aload_n 0, 1) := by decide +kernel
theorem V.dX17_others_27 : decode cX17_others 27 = .ok (.getfield 109, 3) := by decide +kernel
theorem V.dX17_others_30 : decode cX17_others 30 = .ok (.iload_n 2, 1) := by decide +kernel
theorem V.dX17_others_31 : decode cX17_others 31 = .ok (.iaload, 1) := by decide +kernel
theorem V.dX17_others_32 : decode cX17_others 32 = .ok (.istore_n 3, 1) := by decide +kernel
theorem V.dX17_others_33 : decode cX17_others 33 = .ok (.iload_n 1, 1) := by decide +kernel
theorem V.dX17_others_34 : decode cX17_others 34 = .ok (.bipush 63, 2) := by decide +kernel
theorem V.dX17_others_36 : decode cX17_others 36 = .ok (.if_icmp .ne 7, 3) := by decide +kernel
theorem V.dX17_others_39 : decode cX17_others 39 = .ok (.lconst 0, 1) := by decide +kernel
theorem V.dX17_others_40 : decode cX17_others 40 = .ok (.goto 7, 3) := by decide +kernel
theorem V.dX17_others_43 : decode cX17_others 43 = .ok (.aload_n 0, 1) := by decide +kernel
theorem V.dX17_others_44 : decode cX17_others 44 = .ok (.invokevirtual 1157, 3) := by decide +kernel
theorem V.dX17_others_47 : decode cX17_others 47 = .ok (.lstore 4, 2) := by decide +kernel
theorem V.dX17_others_49 : decode cX17_others 49 = .ok (.aload_n 0, 1) := by decide +kernel
theorem V.dX17_others_50 : decode cX17_others 50 = .ok (.getfield 112, 3) := by decide +kernel
theorem V.dX17_others_53 : decode cX17_others 53 = .ok (.iload_n 2, 1) := by decide +kernel
theorem V.dX17_others_54 : decode cX17_others 54 = .ok (.laload, 1) := by decide +kernel
theorem V.dX17_others_55 : decode cX17_others 55 = .ok (.lconst 0, 1) := by decide +kernel
theorem V.dX17_others_56 : decode cX17_others 56 = .ok (.lcmp, 1) := by decide +kernel
theorem V.dX17_others_57 : decode cX17_others 57 = .ok (.ifCond .ge 9, 3) := by decide +kernel
theorem V.dX17_others_60 : decode cX17_others 60 = .ok (.ldc2_w 636, 3) := by decide +kernel
theorem V.dX17_others_63 : decode cX17_others 63 = .ok (.goto 9, 3) := by decide +kernel
theorem V.dX17_others_66 : decode cX17_others 66 = .ok (.aload_n 0, 1) := by decide +kernel
theorem V.dX17_others_67 : decode cX17_others 67 = .ok (.getfield 112, 3) := by decide +kernel
theorem V.dX17_others_70 : decode cX17_others 70 = .ok (.iload_n 2, 1) := by decide +kernel
theorem V.dX17_others_71 : decode cX17_others 71 = .ok (.laload, 1) := by decide +kernel
theorem V.dX17_others_72 : decode cX17_others 72 = .ok (.lstore 6, 2) := by decide +kernel
theorem V.dX17_others_74 : decode cX17_others 74 = .ok (.iload_n 3, 1) := by decide +kernel
theorem V.dX17_others_75 : decode cX17_others 75 = .ok (.i2l, 1) := by decide +kernel
theorem V.dX17_others_76 : decode cX17_others 76 = .ok (.lload 4, 2) := by decide +kernel
theorem V.dX17_others_78 : decode cX17_others 78 = .ok (.ladd, 1) := by decide +kernel
theorem V.dX17_others_79 : decode cX17_others 79 = .ok (.lload 6, 2) := by decide +kernel
theorem V.dX17_others_81 : decode cX17_others 81 = .ok (.lcmp, 1) := by decide +kernel
theorem V.dX17_others_82 : decode cX17_others 82 = .ok (.ifCond .gt 18, 3) := by decide +kernel
theorem V.dX17_others_85 : decode cX17_others 85 = .ok (.lload 4, 2) := by decide +kernel
theorem V.dX17_others_87 : decode cX17_others 87 = .ok (.aload_n 0, 1) := by decide +kernel
theorem V.dX17_others_88 : decode cX17_others 88 = .ok (.getfield 106, 3) := by decide +kernel
theorem V.dX17_others_91 : decode cX17_others 91 = .ok (.i2l, 1) := by decide +kernel
theorem V.dX17_others_92 : decode cX17_others 92 = .ok (.lcmp, 1) := by decide +kernel
theorem V.dX17_others_93 : decode cX17_others 93 = .ok (.ifCond .gt 7, 3) := by decide +kernel
theorem V.dX17_others_96 : decode cX17_others 96 = .ok (.iconst 1, 1) := by decide +kernel
theorem V.dX17_others_97 : decode cX17_others 97 = .ok (.goto 4, 3) := by decide +kernel
theorem V.dX17_others_100 : decode cX17_others 100 = .ok (.iconst 0, 1) := by decide +kernel
theorem V.dX17_others_101 : decode cX17_others 101 = .ok (.istore 8, 2) := by decide +kernel
theorem V.dX17_others_103 : decode cX17_others 103 = .ok (.iload 8, 2) := by decide +kernel
theorem V.dX17_others_105 : decode cX17_others 105 = .ok (.ifCond .eq 11, 3) := by decide +kernel
theorem V.dX17_others_108 : decode cX17_others 108 = .ok (.aload_n 0, 1) := by decide +kernel
theorem V.dX17_others_109 : decode cX17_others 109 = .ok (.iload_n 2, 1) := by decide +kernel
theorem V.dX17_others_110 : decode cX17_others 110 = .ok (.lload 4, 2) := by decide +kernel
theorem V.dX17_others_112 : decode cX17_others 112 = .ok (.l2i, 1) := by decide +kernel
theorem V.dX17_others_113 : decode cX17_others 113 = .ok (.invokevirtual 1017, 3) := by decide +kernel
theorem V.dX17_others_116 : decode cX17_others 116 = .ok (.aload_n 0, 1) := by decide +kernel
theorem V.dX17_others_117 : decode cX17_others 117 = .ok (.iload 8, 2) := by decide +kernel
theorem V.dX17_others_119 : decode cX17_others 119 = .ok (.ifCond .eq 8, 3) := by decide +kernel
theorem V.dX17_others_122 : decode cX17_others 122 = .ok (.iload_n 3, 1) := by decide +kernel
theorem V.dX17_others_123 : decode cX17_others 123 = .ok (.i2l, 1) := by decide +kernel
theorem V.dX17_others_124 : decode cX17_others 124 = .ok (.goto 6, 3) := by decide +kernel
theorem V.dX17_others_127 : decode cX17_others 127 = .ok (.ldc2_w 513, 3) := by decide +kernel
theorem V.dX17_others_130 : decode cX17_others 130 = .ok (.invokevirtual 1136, 3) := by decide +kernel
theorem V.dX17_others_133 : decode cX17_others 133 = .ok (.goto 149, 3) := by decide +kernel
theorem V.dX17_others_136 : decode cX17_others 136 = .ok (.iload_n 1, 1) := by decide +kernel
theorem V.dX17_others_137 : decode cX17_others 137 = .ok (.bipush 65, 2) := by decide +kernel
theorem V.dX17_others_139 : decode cX17_others 139 = .ok (.if_icmp .eq 9, 3) := by decide +kernel
theorem V.dX17_others_142 : decode cX17_others 142 = .ok (.iload_n 1, 1) := by decide +kernel
theorem V.dX17_others_143 : decode cX17_others 143 = .ok (.bipush 66, 2) := by decide +kernel
theorem V.dX17_others_145 : decode cX17_others 145 = .ok (.if_icmp .ne 31, 3) := by decide +kernel
theorem V.dX17_others_148 : decode cX17_others 148 = .ok (.aload_n 0, 1) := by decide +kernel
theorem V.dX17_others_149 : decode cX17_others 149 = .ok (.iload_n 1, 1) := by decide +kernel
theorem V.dX17_others_150 : decode cX17_others 150 = .ok (.bipush 65, 2) := by decide +kernel
theorem V.dX17_others_152 : decode cX17_others 152 = .ok (.if_icmp .ne 14, 3) := by decide +kernel
theorem V.dX17_others_155 : decode cX17_others 155 = .ok (.aload_n 0, 1) := by decide +kernel
theorem V.dX17_others_156 : decode cX17_others 156 = .ok (.invokevirtual 597, 3) := by decide +kernel
theorem V.dX17_others_159 : decode cX17_others 159 = .ok (.ldc2_w 513, 3) := by decide +kernel
theorem V.dX17_others_162 : decode cX17_others 162 = .ok (.land, 1) := by decide +kernel
theorem V.dX17_others_163 : decode cX17_others 163 = .ok (.goto 7, 3) := by decide +kernel
theorem V.dX17_others_166 : decode cX17_others 166 = .ok (.aload_n 0, 1) := by decide +kernel
theorem V.dX17_others_167 : decode cX17_others 167 = .ok (.invokevirtual 597, 3) := by decide +kernel
theorem V.dX17_others_170 : decode cX17_others 170 = .ok (.invokevirtual 1136, 3) := by decide +kernel
theorem V.dX17_others_173 : decode cX17_others 173 = .ok (.goto 109, 3) := by decide +kernel
theorem V.dX17_others_176 : decode cX17_others 176 = .ok (.iload_n 1, 1) := by decide +kernel
theorem V.dX17_others_177 : decode cX17_others 177 = .ok (.bipush 67, 2) := by decide +kernel
theorem V.dX17_others_179 : decode cX17_others 179 = .ok (.if_icmp .eq 9, 3) := by decide +kernel
theorem V.dX17_others_182 : decode cX17_others 182 = .ok (.iload_n 1, 1) := by decide +kernel
theorem V.dX17_others_183 : decode cX17_others 183 = .ok (.bipush 68, 2) := by decide +kernel
theorem V.dX17_others_185 : decode cX17_others 185 = .ok (.if_icmp .ne 26, 3) := by decide +kernel
theorem V.dX17_others_188 : decode cX17_others 188 = .ok (.aload_n 0, 1) := by decide +kernel
theorem V.dX17_others_189 : decode cX17_others 189 = .ok (.aload_n 0, 1) := by decide +kernel
theorem V.dX17_others_190 : decode cX17_others 190 = .ok (.iload_n 1, 1) := by decide +kernel
theorem V.dX17_others_191 : decode cX17_others 191 = .ok (.bipush 67, 2) := by decide +kernel
theorem V.dX17_others_193 : decode cX17_others 193 = .ok (.if_icmp .ne 7, 3) := by decide +kernel
theorem V.dX17_others_196 : decode cX17_others 196 = .ok (.iconst 4, 1) := by decide +kernel
theorem V.dX17_others_197 : decode cX17_others 197 = .ok (.goto 5, 3) := by decide +kernel
theorem V.dX17_others_200 : decode cX17_others 200 = .ok (.bipush 8, 2) := by decide +kernel
theorem V.dX17_others_202 : decode cX17_others 202 = .ok (.invokevirtual 1027, 3) := by decide +kernel
theorem V.dX17_others_205 : decode cX17_others 205 = .ok (.invokevirtual 1136, 3) := by decide +kernel
theorem V.dX17_others_208 : decode cX17_others 208 = .ok (.goto 74, 3) := by decide +kernel
theorem V.dX17_others_211 : decode cX17_others 211 = .ok (.iload_n 1, 1) := by decide +kernel
theorem V.dX17_others_212 : decode cX17_others 212 = .ok (.sipush 208, 3) := by decide +kernel
theorem V.dX17_others_215 : decode cX17_others 215 = .ok (.if_icmp .ne 13, 3) := by decide +kernel
theorem V.dX17_others_218 : decode cX17_others 218 = .ok (.aload_n 0, 1) := by decide +kernel
theorem V.dX17_others_219 : decode cX17_others 219 = .ok (.ldc2_w 268, 3) := by decide +kernel
theorem V.dX17_others_222 : decode cX17_others 222 = .ok (.invokevirtual 1136, 3) := by decide +kernel
theorem V.dX17_others_225 : decode cX17_others 225 = .ok (.goto 57, 3) := by decide +kernel
theorem V.dX17_others_228 : decode cX17_others 228 = .ok (.iload_n 1, 1) := by decide +kernel
theorem V.dX17_others_229 : decode cX17_others 229 = .ok (.sipush 209, 3) := by decide +kernel
theorem V.dX17_others_232 : decode cX17_others 232 = .ok (.if_icmp .ne 26, 3) := by decide +kernel
theorem V.dX17_others_235 : decode cX17_others 235 = .ok (.aload_n 0, 1) := by decide +kernel
theorem V.dX17_others_236 : decode cX17_others 236 = .ok (.aload_n 0, 1) := by decide +kernel
theorem V.dX17_others_237 : decode cX17_others 237 = .ok (.invokevirtual 1157, 3) := by decide +kernel
theorem V.dX17_others_240 : decode cX17_others 240 = .ok (.ldc2_w 268, 3) := by decide +kernel
theorem V.dX17_others_243 : decode cX17_others 243 = .ok (.lcmp, 1) := by decide +kernel
theorem V.dX17_others_244 : decode cX17_others 244 = .ok (.ifCond .ne 7, 3) := by decide +kernel
theorem V.dX17_others_247 : decode cX17_others 247 = .ok (.lconst 1, 1) := by decide +kernel
theorem V.dX17_others_248 : decode cX17_others 248 = .ok (.goto 4, 3) := by decide +kernel
theorem V.dX17_others_251 : decode cX17_others 251 = .ok (.lconst 0, 1) := by decide +kernel
theorem V.dX17_others_252 : decode cX17_others 252 = .ok (.invokevirtual 1136, 3) := by decide +kernel
theorem V.dX17_others_255 : decode cX17_others 255 = .ok (.goto 27, 3) := by decide +kernel
theorem V.dX17_others_258 : decode cX17_others 258 = .ok (.aload_n 0, 1) := by decide +kernel
theorem V.dX17_others_259 : decode cX17_others 259 = .ok (.aload_n 0, 1) := by decide +kernel
theorem V.dX17_others_260 : decode cX17_others 260 = .ok (.getfield 134, 3) := by decide +kernel
theorem V.dX17_others_263 : decode cX17_others 263 = .ok (.sipush 128, 3) := by decide +kernel
theorem V.dX17_others_266 : decode cX17_others 266 = .ok (.aload_n 0, 1) := by decide +kernel
theorem V.dX17_others_267 : decode cX17_others 267 = .ok (.getfield 1110, 3) := by decide +kernel
theorem V.dX17_others_270 : decode cX17_others 270 = .ok (.imul, 1) := by decide +kernel
theorem V.dX17_others_271 : decode cX17_others 271 = .ok (.aload_n 0, 1) := by decide +kernel
theorem V.dX17_others_272 : decode cX17_others 272 = .ok (.invokevirtual 603, 3) := by decide +kernel
theorem V.dX17_others_275 : decode cX17_others 275 = .ok (.l2i, 1) := by decide +kernel
theorem V.dX17_others_276 : decode cX17_others 276 = .ok (.iadd, 1) := by decide +kernel
theorem V.dX17_others_277 : decode cX17_others 277 = .ok (.iaload, 1) := by decide +kernel
theorem V.dX17_others_278 : decode cX17_others 278 = .ok (.i2l, 1) := by decide +kernel
theorem V.dX17_others_279 : decode cX17_others 279 = .ok (.invokevirtual 1136, 3) := by decide +kernel
theorem V.dX17_others_282 : decode cX17_others 282 = .ok (.return_, 1) := by decide +kernel
/-! ModuleEngineModel.others(I)V -/
def V.Mdl_others_p130  (σ : HS) (s0 : Int64) (s1 : Nat) : Option (Unit × HS) :=
  ck (tg σ s1 = 18) <| cl (Mdl_push σ s1 s0) fun _ σ1 =>
  some ((), σ1)
theorem V.gX17_others_p130 {X : CX}  (σ : HS) (s0 : Int64) (s1 : Nat) : G X RX17 "others" cX17_others 9 none 2 45 enV 130 [] [jv s0, av s1] σ (Mdl_others_p130 σ s0 s1) := by
  unfold Mdl_others_p130
  refine g_callV (fc := fun sς => Mdl_push sς s1 s0) (ci := 17) (as := [jv s0]) rfl rfl rfl q4318 qs345 mdX17_1136 (ctX17_push s1 s0) rfl (Nat.le_of_ble_eq_true rfl) (Nat.le_of_ble_eq_true rfl) (Nat.le_of_ble_eq_true rfl) pu_V dX17_others_130 (fun _ σ1 => ?_)
  refine g_goto 282 dX17_others_133 (by decide) ?_
  exact g_return rfl dX17_others_282
def V.Mdl_others_p116  (σ : HS) (x0 : Nat) (x3 : Int32) (x8 : Int32) : Option (Unit × HS) :=
  if x8 = 0 then (
    Mdl_others_p130 σ (4294967295 : Int64) x0)
  else (
    Mdl_others_p130 σ x3.toInt64 x0)
theorem V.gX17_others_p116 {X : CX}  (σ : HS) (x0 : Nat) (x3 : Int32) (x8 : Int32) : G X RX17 "others" cX17_others 9 none 2 45 enV 116 [(0, av x0), (3, iv x3), (8, iv x8)] [] σ (Mdl_others_p116 σ x0 x3 x8) := by
  unfold Mdl_others_p116
  refine g_aload_n 0 0 dX17_others_116 rfl rfl ?_
  refine g_iload 2 dX17_others_117 rfl ?_
  refine g_if_eq 127 dX17_others_119 (by decide) ?_ ?_
  · refine g_ldc2 q3756 dX17_others_127 ?_
    refine G.sub [] rfl ?_
    exact gX17_others_p130 _ _ _
  · refine g_iload_n 3 1 dX17_others_122 rfl rfl ?_
    refine g_i2l dX17_others_123 ?_
    refine g_goto 130 dX17_others_124 (by decide) ?_
    refine G.sub [] rfl ?_
    exact gX17_others_p130 _ _ _
def V.Mdl_others_p101  (σ : HS) (x0 : Nat) (x2 : Int32) (x3 : Int32) (x4 : Int64) (s0 : Int32) : Option (Unit × HS) :=
  if s0 = 0 then (
    Mdl_others_p116 σ x0 x3 s0)
  else (
    ck (tg σ x0 = 18) <| cl (Mdl_growsPages σ x0 x2 x4.toInt32) fun _ σ1 =>
    Mdl_others_p116 σ1 x0 x3 s0)
theorem V.gX17_others_p101 {X : CX}  (σ : HS) (x0 : Nat) (x2 : Int32) (x3 : Int32) (x4 : Int64) (s0 : Int32) : G X RX17 "others" cX17_others 9 none 2 45 enV 101 [(0, av x0), (2, iv x2), (3, iv x3), (4, jv x4)] [iv s0] σ (Mdl_others_p101 σ x0 x2 x3 x4 s0) := by
  unfold Mdl_others_p101
  refine g_istore dX17_others_101 (by decide) rfl ?_
  refine g_iload 0 dX17_others_103 rfl ?_
  refine g_if_eq 116 dX17_others_105 (by decide) ?_ ?_
  · refine G.sub [1, 3, 0] rfl ?_
    exact gX17_others_p116 _ _ _ _
  · refine g_aload_n 0 1 dX17_others_108 rfl rfl ?_
    refine g_iload_n 2 2 dX17_others_109 rfl rfl ?_
    refine g_lload 4 dX17_others_110 rfl ?_
    refine g_l2i dX17_others_112 ?_
    refine g_callV (fc := fun sς => Mdl_growsPages sς x0 x2 x4.toInt32) (ci := 17) (as := [iv x2, iv x4.toInt32]) rfl rfl rfl q4064 qs302 mdX17_1017 (ctX17_growsPages x0 x2 x4.toInt32) rfl (Nat.le_of_ble_eq_true rfl) (Nat.le_of_ble_eq_true rfl) (Nat.le_of_ble_eq_true rfl) pu_V dX17_others_113 (fun _ σ1 => ?_)
    refine G.sub [1, 3, 0] rfl ?_
    exact gX17_others_p116 _ _ _ _
def V.Mdl_others_p100  (σ : HS) (x0 : Nat) (x2 : Int32) (x3 : Int32) (x4 : Int64) : Option (Unit × HS) :=
  Mdl_others_p101 σ x0 x2 x3 x4 (0 : Int32)
theorem V.gX17_others_p100 {X : CX}  (σ : HS) (x0 : Nat) (x2 : Int32) (x3 : Int32) (x4 : Int64) : G X RX17 "others" cX17_others 9 none 2 45 enV 100 [(0, av x0), (2, iv x2), (3, iv x3), (4, jv x4)] [] σ (Mdl_others_p100 σ x0 x2 x3 x4) := by
  unfold Mdl_others_p100
  refine g_iconst (v := 0) dX17_others_100 (by decide) ?_
  exact gX17_others_p101 _ _ _ _ _ _
def V.Mdl_others_p72  (σ : HS) (x0 : Nat) (x2 : Int32) (x3 : Int32) (x4 : Int64) (s0 : Int64) : Option (Unit × HS) :=
  if s0 < (x3.toInt64 + x4) then (
    Mdl_others_p100 σ x0 x2 x3 x4)
  else (
    ck (tg σ x0 = 18) <|
    if ((gI σ x0 53).toInt64) < x4 then (
      Mdl_others_p100 σ x0 x2 x3 x4)
    else (
      Mdl_others_p101 σ x0 x2 x3 x4 (1 : Int32)))
theorem V.gX17_others_p72 {X : CX}  (σ : HS) (x0 : Nat) (x2 : Int32) (x3 : Int32) (x4 : Int64) (s0 : Int64) : G X RX17 "others" cX17_others 9 none 2 45 enV 72 [(0, av x0), (2, iv x2), (3, iv x3), (4, jv x4)] [jv s0] σ (Mdl_others_p72 σ x0 x2 x3 x4 s0) := by
  unfold Mdl_others_p72
  refine g_lstore dX17_others_72 (by decide) rfl ?_
  refine g_iload_n 3 3 dX17_others_74 rfl rfl ?_
  refine g_i2l dX17_others_75 ?_
  refine g_lload 4 dX17_others_76 rfl ?_
  refine g_ladd dX17_others_78 ?_
  refine g_lload 0 dX17_others_79 rfl ?_
  refine g_lcmp_gt 100 dX17_others_81 dX17_others_82 (by decide) ?_ ?_
  · refine G.sub [1, 2, 3, 4] rfl ?_
    exact gX17_others_p100 _ _ _ _ _
  · refine g_lload 4 dX17_others_85 rfl ?_
    refine g_aload_n 0 1 dX17_others_87 rfl rfl ?_
    refine g_getI fdX17_106 dX17_others_88 ?_
    refine g_i2l dX17_others_91 ?_
    refine g_lcmp_gt 100 dX17_others_92 dX17_others_93 (by decide) ?_ ?_
    · refine G.sub [1, 2, 3, 4] rfl ?_
      exact gX17_others_p100 _ _ _ _ _
    · refine g_iconst (v := 1) dX17_others_96 (by decide) ?_
      refine g_goto 101 dX17_others_97 (by decide) ?_
      refine G.sub [1, 2, 3, 4] rfl ?_
      exact gX17_others_p101 _ _ _ _ _ _
def V.Mdl_others_p47  (σ : HS) (x0 : Nat) (x2 : Int32) (x3 : Int32) (s0 : Int64) : Option (Unit × HS) :=
  ck (tg σ x0 = 18) <|
  ck (tg σ (gR σ x0 55) = 101 ∧ inb x2 (ln σ (gR σ x0 55))) <|
  if (0 : Int64) ≤ (gJ σ (gR σ x0 55) (ix x2)) then (
    ck (tg σ x0 = 18) <|
    ck (tg σ (gR σ x0 55) = 101 ∧ inb x2 (ln σ (gR σ x0 55))) <|
    Mdl_others_p72 σ x0 x2 x3 s0 (gJ σ (gR σ x0 55) (ix x2)))
  else (
    Mdl_others_p72 σ x0 x2 x3 s0 (65536 : Int64))
theorem V.gX17_others_p47 {X : CX}  (σ : HS) (x0 : Nat) (x2 : Int32) (x3 : Int32) (s0 : Int64) : G X RX17 "others" cX17_others 9 none 2 45 enV 47 [(0, av x0), (2, iv x2), (3, iv x3)] [jv s0] σ (Mdl_others_p47 σ x0 x2 x3 s0) := by
  unfold Mdl_others_p47
  refine g_lstore dX17_others_47 (by decide) rfl ?_
  refine g_aload_n 0 1 dX17_others_49 rfl rfl ?_
  refine g_getR fdX17_112 dX17_others_50 ?_
  refine g_iload_n 2 2 dX17_others_53 rfl rfl ?_
  refine g_laload dX17_others_54 ?_
  refine g_lconst (v := 0) dX17_others_55 (by decide) ?_
  refine g_lcmp_ge 66 dX17_others_56 dX17_others_57 (by decide) ?_ ?_
  · refine g_aload_n 0 1 dX17_others_66 rfl rfl ?_
    refine g_getR fdX17_112 dX17_others_67 ?_
    refine g_iload_n 2 2 dX17_others_70 rfl rfl ?_
    refine g_laload dX17_others_71 ?_
    refine G.sub [1, 2, 3, 0] rfl ?_
    exact gX17_others_p72 _ _ _ _ _ _
  · refine g_ldc2 q3778 dX17_others_60 ?_
    refine g_goto 72 dX17_others_63 (by decide) ?_
    refine G.sub [1, 2, 3, 0] rfl ?_
    exact gX17_others_p72 _ _ _ _ _ _
def V.Mdl_others_p12  (σ : HS) (x0 : Nat) (x1 : Int32) : Option (Unit × HS) :=
  ck (tg σ x0 = 18) <|
  ck (tg σ x0 = 18) <|
  ck (tg σ (gR σ x0 66) = 100 ∧ inb ((128 : Int32) * (gI σ x0 95)) (ln σ (gR σ x0 66))) <|
  bn (gI σ (gR σ x0 66) (ix ((128 : Int32) * (gI σ x0 95)))) fun y1 =>
  ck (tg σ x0 = 18) <|
  ck (tg σ (gR σ x0 54) = 100 ∧ inb y1 (ln σ (gR σ x0 54))) <|
  bn (gI σ (gR σ x0 54) (ix y1)) fun y2 =>
  if x1 = (63 : Int32) then (
    Mdl_others_p47 σ x0 y1 y2 (0 : Int64))
  else (
    ck (tg σ x0 = 18) <| cl (Mdl_pop σ x0 ) fun r4 σ3 =>
    Mdl_others_p47 σ3 x0 y1 y2 r4)
theorem V.gX17_others_p12 {X : CX}  (σ : HS) (x0 : Nat) (x1 : Int32) : G X RX17 "others" cX17_others 9 none 2 45 enV 12 [(0, av x0), (1, iv x1)] [] σ (Mdl_others_p12 σ x0 x1) := by
  unfold Mdl_others_p12
  refine g_aload_n 0 0 dX17_others_12 rfl rfl ?_
  refine g_getR fdX17_140 dX17_others_13 ?_
  refine g_sipush (v := 128) dX17_others_16 (by decide) ?_
  refine g_aload_n 0 0 dX17_others_19 rfl rfl ?_
  refine g_getI fdX17_1110 dX17_others_20 ?_
  refine g_imul dX17_others_23 ?_
  refine g_iaload dX17_others_24 ?_
  refine g_nmI (fun y1 => ?_)
  refine g_istore_n 2 dX17_others_25 rfl (by decide) rfl ?_
  refine g_aload_n 0 1 dX17_others_26 rfl rfl ?_
  refine g_getR fdX17_109 dX17_others_27 ?_
  refine g_iload_n 2 0 dX17_others_30 rfl rfl ?_
  refine g_iaload dX17_others_31 ?_
  refine g_nmI (fun y2 => ?_)
  refine g_istore_n 3 dX17_others_32 rfl (by decide) rfl ?_
  refine g_iload_n 1 3 dX17_others_33 rfl rfl ?_
  refine g_bipush (v := 63) dX17_others_34 (by decide) ?_
  refine g_icmp_ne 43 dX17_others_36 (by decide) ?_ ?_
  · refine g_aload_n 0 2 dX17_others_43 rfl rfl ?_
    refine g_callV (fc := fun sς => Mdl_pop sς x0 ) (ci := 17) (as := []) rfl rfl rfl q4182 qs327 mdX17_1157 (ctX17_pop x0 ) rfl (Nat.le_of_ble_eq_true rfl) (Nat.le_of_ble_eq_true rfl) (Nat.le_of_ble_eq_true rfl) pu_J dX17_others_44 (fun r4 σ3 => ?_)
    refine G.sub [2, 1, 0] rfl ?_
    exact gX17_others_p47 _ _ _ _ _
  · refine g_lconst (v := 0) dX17_others_39 (by decide) ?_
    refine g_goto 47 dX17_others_40 (by decide) ?_
    refine G.sub [2, 1, 0] rfl ?_
    exact gX17_others_p47 _ _ _ _ _
def V.Mdl_others_p170  (σ : HS) (s0 : Int64) (s1 : Nat) : Option (Unit × HS) :=
  ck (tg σ s1 = 18) <| cl (Mdl_push σ s1 s0) fun _ σ1 =>
  some ((), σ1)
theorem V.gX17_others_p170 {X : CX}  (σ : HS) (s0 : Int64) (s1 : Nat) : G X RX17 "others" cX17_others 9 none 2 45 enV 170 [] [jv s0, av s1] σ (Mdl_others_p170 σ s0 s1) := by
  unfold Mdl_others_p170
  refine g_callV (fc := fun sς => Mdl_push sς s1 s0) (ci := 17) (as := [jv s0]) rfl rfl rfl q4318 qs345 mdX17_1136 (ctX17_push s1 s0) rfl (Nat.le_of_ble_eq_true rfl) (Nat.le_of_ble_eq_true rfl) (Nat.le_of_ble_eq_true rfl) pu_V dX17_others_170 (fun _ σ1 => ?_)
  refine g_goto 282 dX17_others_173 (by decide) ?_
  exact g_return rfl dX17_others_282
def V.Mdl_others_p148  (σ : HS) (x0 : Nat) (x1 : Int32) : Option (Unit × HS) :=
  if x1 = (65 : Int32) then (
    ck (tg σ x0 = 18) <| cl (Mdl_signedWord σ x0 ) fun r4 σ3 =>
    Mdl_others_p170 σ3 (r4 &&& (4294967295 : Int64)) x0)
  else (
    ck (tg σ x0 = 18) <| cl (Mdl_signedWord σ x0 ) fun r2 σ1 =>
    Mdl_others_p170 σ1 r2 x0)
theorem V.gX17_others_p148 {X : CX}  (σ : HS) (x0 : Nat) (x1 : Int32) : G X RX17 "others" cX17_others 9 none 2 45 enV 148 [(0, av x0), (1, iv x1)] [] σ (Mdl_others_p148 σ x0 x1) := by
  unfold Mdl_others_p148
  refine g_aload_n 0 0 dX17_others_148 rfl rfl ?_
  refine g_iload_n 1 1 dX17_others_149 rfl rfl ?_
  refine g_bipush (v := 65) dX17_others_150 (by decide) ?_
  refine g_icmp_ne 166 dX17_others_152 (by decide) ?_ ?_
  · refine g_aload_n 0 0 dX17_others_166 rfl rfl ?_
    refine g_callV (fc := fun sς => Mdl_signedWord sς x0 ) (ci := 17) (as := []) rfl rfl rfl q3830 qs254 mdX17_597 (ctX17_signedWord x0 ) rfl (Nat.le_of_ble_eq_true rfl) (Nat.le_of_ble_eq_true rfl) (Nat.le_of_ble_eq_true rfl) pu_J dX17_others_167 (fun r2 σ1 => ?_)
    refine G.sub [] rfl ?_
    exact gX17_others_p170 _ _ _
  · refine g_aload_n 0 0 dX17_others_155 rfl rfl ?_
    refine g_callV (fc := fun sς => Mdl_signedWord sς x0 ) (ci := 17) (as := []) rfl rfl rfl q3830 qs254 mdX17_597 (ctX17_signedWord x0 ) rfl (Nat.le_of_ble_eq_true rfl) (Nat.le_of_ble_eq_true rfl) (Nat.le_of_ble_eq_true rfl) pu_J dX17_others_156 (fun r4 σ3 => ?_)
    refine g_ldc2 q3756 dX17_others_159 ?_
    refine g_land dX17_others_162 ?_
    refine g_goto 170 dX17_others_163 (by decide) ?_
    refine G.sub [] rfl ?_
    exact gX17_others_p170 _ _ _
def V.Mdl_others_p202  (σ : HS) (s0 : Int32) (s1 : Nat) (s2 : Nat) : Option (Unit × HS) :=
  ck (tg σ s1 = 18) <| cl (Mdl_bytesAt σ s1 s0) fun r2 σ1 =>
  ck (tg σ1 s2 = 18) <| cl (Mdl_push σ1 s2 r2) fun _ σ3 =>
  some ((), σ3)
theorem V.gX17_others_p202 {X : CX}  (σ : HS) (s0 : Int32) (s1 : Nat) (s2 : Nat) : G X RX17 "others" cX17_others 9 none 2 45 enV 202 [] [iv s0, av s1, av s2] σ (Mdl_others_p202 σ s0 s1 s2) := by
  unfold Mdl_others_p202
  refine g_callV (fc := fun sς => Mdl_bytesAt sς s1 s0) (ci := 17) (as := [iv s0]) rfl rfl rfl q4072 qs304 mdX17_1027 (ctX17_bytesAt s1 s0) rfl (Nat.le_of_ble_eq_true rfl) (Nat.le_of_ble_eq_true rfl) (Nat.le_of_ble_eq_true rfl) pu_J dX17_others_202 (fun r2 σ1 => ?_)
  refine g_callV (fc := fun sς => Mdl_push sς s2 r2) (ci := 17) (as := [jv r2]) rfl rfl rfl q4318 qs345 mdX17_1136 (ctX17_push s2 r2) rfl (Nat.le_of_ble_eq_true rfl) (Nat.le_of_ble_eq_true rfl) (Nat.le_of_ble_eq_true rfl) pu_V dX17_others_205 (fun _ σ3 => ?_)
  refine g_goto 282 dX17_others_208 (by decide) ?_
  exact g_return rfl dX17_others_282
def V.Mdl_others_p188  (σ : HS) (x0 : Nat) (x1 : Int32) : Option (Unit × HS) :=
  if x1 = (67 : Int32) then (
    Mdl_others_p202 σ (4 : Int32) x0 x0)
  else (
    Mdl_others_p202 σ (8 : Int32) x0 x0)
theorem V.gX17_others_p188 {X : CX}  (σ : HS) (x0 : Nat) (x1 : Int32) : G X RX17 "others" cX17_others 9 none 2 45 enV 188 [(0, av x0), (1, iv x1)] [] σ (Mdl_others_p188 σ x0 x1) := by
  unfold Mdl_others_p188
  refine g_aload_n 0 0 dX17_others_188 rfl rfl ?_
  refine g_aload_n 0 0 dX17_others_189 rfl rfl ?_
  refine g_iload_n 1 1 dX17_others_190 rfl rfl ?_
  refine g_bipush (v := 67) dX17_others_191 (by decide) ?_
  refine g_icmp_ne 200 dX17_others_193 (by decide) ?_ ?_
  · refine g_bipush (v := 8) dX17_others_200 (by decide) ?_
    refine G.sub [] rfl ?_
    exact gX17_others_p202 _ _ _ _
  · refine g_iconst (v := 4) dX17_others_196 (by decide) ?_
    refine g_goto 202 dX17_others_197 (by decide) ?_
    refine G.sub [] rfl ?_
    exact gX17_others_p202 _ _ _ _
def V.Mdl_others_p252  (σ : HS) (s0 : Int64) (s1 : Nat) : Option (Unit × HS) :=
  ck (tg σ s1 = 18) <| cl (Mdl_push σ s1 s0) fun _ σ1 =>
  some ((), σ1)
theorem V.gX17_others_p252 {X : CX}  (σ : HS) (s0 : Int64) (s1 : Nat) : G X RX17 "others" cX17_others 9 none 2 45 enV 252 [] [jv s0, av s1] σ (Mdl_others_p252 σ s0 s1) := by
  unfold Mdl_others_p252
  refine g_callV (fc := fun sς => Mdl_push sς s1 s0) (ci := 17) (as := [jv s0]) rfl rfl rfl q4318 qs345 mdX17_1136 (ctX17_push s1 s0) rfl (Nat.le_of_ble_eq_true rfl) (Nat.le_of_ble_eq_true rfl) (Nat.le_of_ble_eq_true rfl) pu_V dX17_others_252 (fun _ σ1 => ?_)
  refine g_goto 282 dX17_others_255 (by decide) ?_
  exact g_return rfl dX17_others_282
def V.Mdl_others (σ : HS) (x0 : Nat) (x1 : Int32) : Option (Unit × HS) :=
  if x1 = (63 : Int32) then (
    Mdl_others_p12 σ x0 x1)
  else (
    if x1 = (64 : Int32) then (
      Mdl_others_p12 σ x0 x1)
    else (
      if x1 = (65 : Int32) then (
        Mdl_others_p148 σ x0 x1)
      else (
        if x1 = (66 : Int32) then (
          Mdl_others_p148 σ x0 x1)
        else (
          if x1 = (67 : Int32) then (
            Mdl_others_p188 σ x0 x1)
          else (
            if x1 = (68 : Int32) then (
              Mdl_others_p188 σ x0 x1)
            else (
              if x1 = (208 : Int32) then (
                ck (tg σ x0 = 18) <| cl (Mdl_push σ x0 (-1 : Int64)) fun _ σ6 =>
                some ((), σ6))
              else (
                if x1 = (209 : Int32) then (
                  ck (tg σ x0 = 18) <| cl (Mdl_pop σ x0 ) fun r5 σ4 =>
                  if r5 = (-1 : Int64) then (
                    Mdl_others_p252 σ4 (1 : Int64) x0)
                  else (
                    Mdl_others_p252 σ4 (0 : Int64) x0))
                else (
                  ck (tg σ x0 = 18) <|
                  ck (tg σ x0 = 18) <|
                  ck (tg σ x0 = 18) <| cl (Mdl_word σ x0 ) fun r2 σ1 =>
                  ck (tg σ1 (gR σ x0 64) = 100 ∧ inb (((128 : Int32) * (gI σ x0 95)) + r2.toInt32) (ln σ1 (gR σ x0 64))) <|
                  ck (tg σ1 x0 = 18) <| cl (Mdl_push σ1 x0 ((gI σ1 (gR σ x0 64) (ix (((128 : Int32) * (gI σ x0 95)) + r2.toInt32))).toInt64)) fun _ σ3 =>
                  some ((), σ3)))))))))
theorem V.ctX17_others (x0 : Nat) (x1 : Int32) : Ct yX17_others  cX17_others 9 none 2 45 eV [av x0, iv x1] (fun σ => Mdl_others σ x0 x1) := by
  refine Ct.of (own := RX17) (nm := "others") (desc := "(I)V") rfl (by decide) (Nat.le_of_ble_eq_true rfl) (by decide) (fun X σ => ?_)
  show G X RX17 "others" cX17_others 9 none 2 45 enV 0 [(0, av x0), (1, iv x1)] [] σ (Mdl_others σ x0 x1)
  unfold Mdl_others
  refine g_iload_n 1 1 dX17_others_0 rfl rfl ?_
  refine g_bipush (v := 63) dX17_others_1 (by decide) ?_
  refine g_icmp_eq 12 dX17_others_3 (by decide) ?_ ?_
  · exact gX17_others_p12 _ _ _
  · refine g_iload_n 1 1 dX17_others_6 rfl rfl ?_
    refine g_bipush (v := 64) dX17_others_7 (by decide) ?_
    refine g_icmp_ne 136 dX17_others_9 (by decide) ?_ ?_
    · refine g_iload_n 1 1 dX17_others_136 rfl rfl ?_
      refine g_bipush (v := 65) dX17_others_137 (by decide) ?_
      refine g_icmp_eq 148 dX17_others_139 (by decide) ?_ ?_
      · exact gX17_others_p148 _ _ _
      · refine g_iload_n 1 1 dX17_others_142 rfl rfl ?_
        refine g_bipush (v := 66) dX17_others_143 (by decide) ?_
        refine g_icmp_ne 176 dX17_others_145 (by decide) ?_ ?_
        · refine g_iload_n 1 1 dX17_others_176 rfl rfl ?_
          refine g_bipush (v := 67) dX17_others_177 (by decide) ?_
          refine g_icmp_eq 188 dX17_others_179 (by decide) ?_ ?_
          · exact gX17_others_p188 _ _ _
          · refine g_iload_n 1 1 dX17_others_182 rfl rfl ?_
            refine g_bipush (v := 68) dX17_others_183 (by decide) ?_
            refine g_icmp_ne 211 dX17_others_185 (by decide) ?_ ?_
            · refine g_iload_n 1 1 dX17_others_211 rfl rfl ?_
              refine g_sipush (v := 208) dX17_others_212 (by decide) ?_
              refine g_icmp_ne 228 dX17_others_215 (by decide) ?_ ?_
              · refine g_iload_n 1 1 dX17_others_228 rfl rfl ?_
                refine g_sipush (v := 209) dX17_others_229 (by decide) ?_
                refine g_icmp_ne 258 dX17_others_232 (by decide) ?_ ?_
                · refine g_aload_n 0 0 dX17_others_258 rfl rfl ?_
                  refine g_aload_n 0 0 dX17_others_259 rfl rfl ?_
                  refine g_getR fdX17_134 dX17_others_260 ?_
                  refine g_sipush (v := 128) dX17_others_263 (by decide) ?_
                  refine g_aload_n 0 0 dX17_others_266 rfl rfl ?_
                  refine g_getI fdX17_1110 dX17_others_267 ?_
                  refine g_imul dX17_others_270 ?_
                  refine g_aload_n 0 0 dX17_others_271 rfl rfl ?_
                  refine g_callV (fc := fun sς => Mdl_word sς x0 ) (ci := 17) (as := []) rfl rfl rfl q3813 qs250 mdX17_603 (ctX17_word x0 ) rfl (Nat.le_of_ble_eq_true rfl) (Nat.le_of_ble_eq_true rfl) (Nat.le_of_ble_eq_true rfl) pu_J dX17_others_272 (fun r2 σ1 => ?_)
                  refine g_l2i dX17_others_275 ?_
                  refine g_iadd dX17_others_276 ?_
                  refine g_iaload dX17_others_277 ?_
                  refine g_i2l dX17_others_278 ?_
                  refine g_callV (fc := fun sς => Mdl_push sς x0 ((gI σ1 (gR σ x0 64) (ix (((128 : Int32) * (gI σ x0 95)) + r2.toInt32))).toInt64)) (ci := 17) (as := [jv ((gI σ1 (gR σ x0 64) (ix (((128 : Int32) * (gI σ x0 95)) + r2.toInt32))).toInt64)]) rfl rfl rfl q4318 qs345 mdX17_1136 (ctX17_push x0 ((gI σ1 (gR σ x0 64) (ix (((128 : Int32) * (gI σ x0 95)) + r2.toInt32))).toInt64)) rfl (Nat.le_of_ble_eq_true rfl) (Nat.le_of_ble_eq_true rfl) (Nat.le_of_ble_eq_true rfl) pu_V dX17_others_279 (fun _ σ3 => ?_)
                  exact g_return rfl dX17_others_282
                · refine g_aload_n 0 0 dX17_others_235 rfl rfl ?_
                  refine g_aload_n 0 0 dX17_others_236 rfl rfl ?_
                  refine g_callV (fc := fun sς => Mdl_pop sς x0 ) (ci := 17) (as := []) rfl rfl rfl q4182 qs327 mdX17_1157 (ctX17_pop x0 ) rfl (Nat.le_of_ble_eq_true rfl) (Nat.le_of_ble_eq_true rfl) (Nat.le_of_ble_eq_true rfl) pu_J dX17_others_237 (fun r5 σ4 => ?_)
                  refine g_ldc2 q3673 dX17_others_240 ?_
                  refine g_lcmp_ne 251 dX17_others_243 dX17_others_244 (by decide) ?_ ?_
                  · refine g_lconst (v := 0) dX17_others_251 (by decide) ?_
                    refine G.sub [] rfl ?_
                    exact gX17_others_p252 _ _ _
                  · refine g_lconst (v := 1) dX17_others_247 (by decide) ?_
                    refine g_goto 252 dX17_others_248 (by decide) ?_
                    refine G.sub [] rfl ?_
                    exact gX17_others_p252 _ _ _
              · refine g_aload_n 0 0 dX17_others_218 rfl rfl ?_
                refine g_ldc2 q3673 dX17_others_219 ?_
                refine g_callV (fc := fun sς => Mdl_push sς x0 (-1 : Int64)) (ci := 17) (as := [jv (-1 : Int64)]) rfl rfl rfl q4318 qs345 mdX17_1136 (ctX17_push x0 (-1 : Int64)) rfl (Nat.le_of_ble_eq_true rfl) (Nat.le_of_ble_eq_true rfl) (Nat.le_of_ble_eq_true rfl) pu_V dX17_others_222 (fun _ σ6 => ?_)
                refine g_goto 282 dX17_others_225 (by decide) ?_
                exact g_return rfl dX17_others_282
            · exact gX17_others_p188 _ _ _
        · exact gX17_others_p148 _ _ _
    · exact gX17_others_p12 _ _ _
theorem V.dX17_step_0 : decode cX17_step 0 = .ok (.aload_n 0, 1) := by decide +kernel
theorem V.dX17_step_1 : decode cX17_step 1 = .ok (.getfield 1107, 3) := by decide +kernel
theorem V.dX17_step_4 : decode cX17_step 4 = .ok (.istore_n 1, 1) := by decide +kernel
theorem V.dX17_step_5 : decode cX17_step 5 = .ok (.aload_n 0, 1) := by decide +kernel
theorem V.dX17_step_6 : decode cX17_step 6 = .ok (.getfield 221, 3) := by decide +kernel
theorem V.dX17_step_9 : decode cX17_step 9 = .ok (.iload_n 1, 1) := by decide +kernel
theorem V.dX17_step_10 : decode cX17_step 10 = .ok (.invokevirtual 261, 3) := by decide +kernel
theorem V.dX17_step_13 : decode cX17_step 13 = .ok (.istore_n 2, 1) := by decide +kernel
theorem V.dX17_step_14 : decode cX17_step 14 = .ok (.aload_n 0, 1) := by decide +kernel
theorem V.dX17_step_15 : decode cX17_step 15 = .ok (.dup, 1) := by decide +kernel
theorem V.dX17_step_16 : decode cX17_step 16 = .ok (.getfield 1049, 3) := by decide +kernel
theorem V.dX17_step_19 : decode cX17_step 19 = .ok (.iconst 1, 1) := by decide +kernel
theorem V.dX17_step_20 : decode cX17_step 20 = .ok (.iadd, 1) := by decide +kernel
theorem V.dX17_step_21 : decode cX17_step 21 = .ok (.putfield 1049, 3) := by decide +kernel
theorem V.dX17_step_24 : decode cX17_step 24 = .ok (.aload_n 0, 1) := by decide +kernel
theorem V.dX17_step_25 : decode cX17_step 25 = .ok (.aload_n 0, 1) := by decide +kernel
theorem V.dX17_step_26 : decode cX17_step 26 = .ok (.iload_n 1, 1) := by decide +kernel
theorem V.dX17_step_27 : decode cX17_step 27 = .ok (.invokevirtual 655, 3) := by decide +kernel
theorem V.dX17_step_30 : decode cX17_step 30 = .ok (.putfield 1107, 3) := by decide +kernel
theorem V.dX17_step_33 : decode cX17_step 33 = .ok (.aload_n 0, 1) := by decide +kernel
theorem V.dX17_step_34 : decode cX17_step 34 = .ok (.iload_n 1, 1) := by decide +kernel
theorem V.dX17_step_35 : decode cX17_step 35 = .ok (.iconst 1, 1) := by decide +kernel
theorem V.dX17_step_36 : decode cX17_step 36 = .ok (.iadd, 1) := by decide +kernel
theorem V.dX17_step_37 : decode cX17_step 37 = .ok (.putfield 594, 3) := by decide +kernel
theorem V.dX17_step_40 : decode cX17_step 40 = .ok (.iload_n 2, 1) := by decide +kernel
theorem V.dX17_step_41 : decode cX17_step 41 = .ok (.bipush 69, 2) := by decide +kernel
theorem V.dX17_step_43 : decode cX17_step 43 = .ok (.if_icmp .lt 18, 3) := by decide +kernel
theorem V.dX17_step_46 : decode cX17_step 46 = .ok (.iload_n 2, 1) := by decide +kernel
theorem V.dX17_step_47 : decode cX17_step 47 = .ok (.sipush 196, 3) := by decide +kernel
theorem V.dX17_step_50 : decode cX17_step 50 = .ok (.if_icmp .gt 11, 3) := by decide +kernel
theorem V.dX17_step_53 : decode cX17_step 53 = .ok (.aload_n 0, 1) := by decide +kernel
theorem V.dX17_step_54 : decode cX17_step 54 = .ok (.iload_n 2, 1) := by decide +kernel
theorem V.dX17_step_55 : decode cX17_step 55 = .ok (.invokevirtual 1139, 3) := by decide +kernel
theorem V.dX17_step_58 : decode cX17_step 58 = .ok (.goto 65, 3) := by decide +kernel
theorem V.dX17_step_61 : decode cX17_step 61 = .ok (.iload_n 2, 1) := by decide +kernel
theorem V.dX17_step_62 : decode cX17_step 62 = .ok (.bipush 32, 2) := by decide +kernel
theorem V.dX17_step_64 : decode cX17_step 64 = .ok (.if_icmp .ge 12, 3) := by decide +kernel
theorem V.dX17_step_67 : decode cX17_step 67 = .ok (.aload_n 0, 1) := by decide +kernel
theorem V.dX17_step_68 : decode cX17_step 68 = .ok (.iload_n 2, 1) := by decide +kernel
theorem V.dX17_step_69 : decode cX17_step 69 = .ok (.iload_n 1, 1) := by decide +kernel
theorem V.dX17_step_70 : decode cX17_step 70 = .ok (.invokevirtual 1142, 3) := by decide +kernel
theorem V.dX17_step_73 : decode cX17_step 73 = .ok (.goto 50, 3) := by decide +kernel
theorem V.dX17_step_76 : decode cX17_step 76 = .ok (.iload_n 2, 1) := by decide +kernel
theorem V.dX17_step_77 : decode cX17_step 77 = .ok (.bipush 40, 2) := by decide +kernel
theorem V.dX17_step_79 : decode cX17_step 79 = .ok (.if_icmp .ge 11, 3) := by decide +kernel
theorem V.dX17_step_82 : decode cX17_step 82 = .ok (.aload_n 0, 1) := by decide +kernel
theorem V.dX17_step_83 : decode cX17_step 83 = .ok (.iload_n 2, 1) := by decide +kernel
theorem V.dX17_step_84 : decode cX17_step 84 = .ok (.invokevirtual 1145, 3) := by decide +kernel
theorem V.dX17_step_87 : decode cX17_step 87 = .ok (.goto 36, 3) := by decide +kernel
theorem V.dX17_step_90 : decode cX17_step 90 = .ok (.iload_n 2, 1) := by decide +kernel
theorem V.dX17_step_91 : decode cX17_step 91 = .ok (.bipush 63, 2) := by decide +kernel
theorem V.dX17_step_93 : decode cX17_step 93 = .ok (.if_icmp .ge 11, 3) := by decide +kernel
theorem V.dX17_step_96 : decode cX17_step 96 = .ok (.aload_n 0, 1) := by decide +kernel
theorem V.dX17_step_97 : decode cX17_step 97 = .ok (.iload_n 2, 1) := by decide +kernel
theorem V.dX17_step_98 : decode cX17_step 98 = .ok (.invokevirtual 1148, 3) := by decide +kernel
theorem V.dX17_step_101 : decode cX17_step 101 = .ok (.goto 22, 3) := by decide +kernel
theorem V.dX17_step_104 : decode cX17_step 104 = .ok (.iload_n 2, 1) := by decide +kernel
theorem V.dX17_step_105 : decode cX17_step 105 = .ok (.sipush 252, 3) := by decide +kernel
theorem V.dX17_step_108 : decode cX17_step 108 = .ok (.if_icmp .ne 10, 3) := by decide +kernel
theorem V.dX17_step_111 : decode cX17_step 111 = .ok (.aload_n 0, 1) := by decide +kernel
theorem V.dX17_step_112 : decode cX17_step 112 = .ok (.invokevirtual 1151, 3) := by decide +kernel
theorem V.dX17_step_115 : decode cX17_step 115 = .ok (.goto 8, 3) := by decide +kernel
theorem V.dX17_step_118 : decode cX17_step 118 = .ok (.aload_n 0, 1) := by decide +kernel
theorem V.dX17_step_119 : decode cX17_step 119 = .ok (.iload_n 2, 1) := by decide +kernel
theorem V.dX17_step_120 : decode cX17_step 120 = .ok (.invokevirtual 1154, 3) := by decide +kernel
theorem V.dX17_step_123 : decode cX17_step 123 = .ok (.aload_n 0, 1) := by decide +kernel
theorem V.dX17_step_124 : decode cX17_step 124 = .ok (.invokevirtual 1092, 3) := by decide +kernel
theorem V.dX17_step_127 : decode cX17_step 127 = .ok (.return_, 1) := by decide +kernel
theorem V.fdX17_1049 : FD RX17 1049 17 78 0 := ⟨(RX17, TX17, 101), tyX17, rfl, rfl, in_X17, by decide, Or.inl q3114, rfl⟩
theorem V.mdX17_1154 : MD RX17 1154 yX17_others cX17_others 9 none 1 := ⟨Or.inl q4368, q377, q4371, by decide, by decide, by decide +kernel⟩
theorem V.mdX17_1151 : MD RX17 1151 yX17_furtherStep cX17_furtherStep 4 none 0 := ⟨Or.inl q4356, q377, q4359, by decide, by decide, by decide +kernel⟩
theorem V.mdX17_1148 : MD RX17 1148 yX17_accesses1 cX17_accesses1 13 none 1 := ⟨Or.inl q4348, q377, q4351, by decide, by decide, by decide +kernel⟩
theorem V.mdX17_1145 : MD RX17 1145 yX17_moves cX17_moves 4 none 1 := ⟨Or.inl q4340, q377, q4343, by decide, by decide, by decide +kernel⟩
theorem V.mdX17_1142 : MD RX17 1142 yX17_turns cX17_turns 20 none 2 := ⟨Or.inl q4320, q377, q4323, by decide, by decide, by decide +kernel⟩
/-! ModuleEngineModel.step()V -/
def V.Mdl_step_p123  (σ : HS) (x0 : Nat) : Option (Unit × HS) :=
  ck (tg σ x0 = 18) <| cl (Mdl_goesOn σ x0 ) fun _ σ1 =>
  some ((), σ1)
theorem V.gX17_step_p123 {X : CX}  (σ : HS) (x0 : Nat) : G X RX17 "step" cX17_step 3 none 9 241 enV 123 [(0, av x0)] [] σ (Mdl_step_p123 σ x0) := by
  unfold Mdl_step_p123
  refine g_aload_n 0 0 dX17_step_123 rfl rfl ?_
  refine g_callV (fc := fun sς => Mdl_goesOn sς x0 ) (ci := 17) (as := []) rfl rfl rfl q4133 qs319 mdX17_1092 (ctX17_goesOn x0 ) rfl (Nat.le_of_ble_eq_true rfl) (Nat.le_of_ble_eq_true rfl) (Nat.le_of_ble_eq_true rfl) pu_V dX17_step_124 (fun _ σ1 => ?_)
  exact g_return rfl dX17_step_127
def V.Mdl_step_p61  (σ : HS) (x0 : Nat) (x1 : Int32) (x2 : Int32) : Option (Unit × HS) :=
  if (32 : Int32) ≤ x2 then (
    if (40 : Int32) ≤ x2 then (
      if (63 : Int32) ≤ x2 then (
        if x2 = (252 : Int32) then (
          ck (tg σ x0 = 18) <| cl (Mdl_furtherStep σ x0 ) fun _ σ2 =>
          Mdl_step_p123 σ2 x0)
        else (
          ck (tg σ x0 = 18) <| cl (Mdl_others σ x0 x2) fun _ σ1 =>
          Mdl_step_p123 σ1 x0))
      else (
        ck (tg σ x0 = 18) <| cl (Mdl_accesses1 σ x0 x2) fun _ σ3 =>
        Mdl_step_p123 σ3 x0))
    else (
      ck (tg σ x0 = 18) <| cl (Mdl_moves σ x0 x2) fun _ σ4 =>
      Mdl_step_p123 σ4 x0))
  else (
    ck (tg σ x0 = 18) <| cl (Mdl_turns σ x0 x2 x1) fun _ σ5 =>
    Mdl_step_p123 σ5 x0)
theorem V.gX17_step_p61 {X : CX}  (σ : HS) (x0 : Nat) (x1 : Int32) (x2 : Int32) : G X RX17 "step" cX17_step 3 none 9 241 enV 61 [(0, av x0), (1, iv x1), (2, iv x2)] [] σ (Mdl_step_p61 σ x0 x1 x2) := by
  unfold Mdl_step_p61
  refine g_iload_n 2 2 dX17_step_61 rfl rfl ?_
  refine g_bipush (v := 32) dX17_step_62 (by decide) ?_
  refine g_icmp_ge 76 dX17_step_64 (by decide) ?_ ?_
  · refine g_iload_n 2 2 dX17_step_76 rfl rfl ?_
    refine g_bipush (v := 40) dX17_step_77 (by decide) ?_
    refine g_icmp_ge 90 dX17_step_79 (by decide) ?_ ?_
    · refine g_iload_n 2 2 dX17_step_90 rfl rfl ?_
      refine g_bipush (v := 63) dX17_step_91 (by decide) ?_
      refine g_icmp_ge 104 dX17_step_93 (by decide) ?_ ?_
      · refine g_iload_n 2 2 dX17_step_104 rfl rfl ?_
        refine g_sipush (v := 252) dX17_step_105 (by decide) ?_
        refine g_icmp_ne 118 dX17_step_108 (by decide) ?_ ?_
        · refine g_aload_n 0 0 dX17_step_118 rfl rfl ?_
          refine g_iload_n 2 2 dX17_step_119 rfl rfl ?_
          refine g_callV (fc := fun sς => Mdl_others sς x0 x2) (ci := 17) (as := [iv x2]) rfl rfl rfl q4370 qs358 mdX17_1154 (ctX17_others x0 x2) rfl (Nat.le_of_ble_eq_true rfl) (Nat.le_of_ble_eq_true rfl) (Nat.le_of_ble_eq_true rfl) pu_V dX17_step_120 (fun _ σ1 => ?_)
          refine G.sub [0] rfl ?_
          exact gX17_step_p123 _ _
        · refine g_aload_n 0 0 dX17_step_111 rfl rfl ?_
          refine g_callV (fc := fun sς => Mdl_furtherStep sς x0 ) (ci := 17) (as := []) rfl rfl rfl q4358 qs355 mdX17_1151 (ctX17_furtherStep x0 ) rfl (Nat.le_of_ble_eq_true rfl) (Nat.le_of_ble_eq_true rfl) (Nat.le_of_ble_eq_true rfl) pu_V dX17_step_112 (fun _ σ2 => ?_)
          refine g_goto 123 dX17_step_115 (by decide) ?_
          refine G.sub [0] rfl ?_
          exact gX17_step_p123 _ _
      · refine g_aload_n 0 0 dX17_step_96 rfl rfl ?_
        refine g_iload_n 2 2 dX17_step_97 rfl rfl ?_
        refine g_callV (fc := fun sς => Mdl_accesses1 sς x0 x2) (ci := 17) (as := [iv x2]) rfl rfl rfl q4350 qs353 mdX17_1148 (ctX17_accesses1 x0 x2) rfl (Nat.le_of_ble_eq_true rfl) (Nat.le_of_ble_eq_true rfl) (Nat.le_of_ble_eq_true rfl) pu_V dX17_step_98 (fun _ σ3 => ?_)
        refine g_goto 123 dX17_step_101 (by decide) ?_
        refine G.sub [0] rfl ?_
        exact gX17_step_p123 _ _
    · refine g_aload_n 0 0 dX17_step_82 rfl rfl ?_
      refine g_iload_n 2 2 dX17_step_83 rfl rfl ?_
      refine g_callV (fc := fun sς => Mdl_moves sς x0 x2) (ci := 17) (as := [iv x2]) rfl rfl rfl q4342 qs351 mdX17_1145 (ctX17_moves x0 x2) rfl (Nat.le_of_ble_eq_true rfl) (Nat.le_of_ble_eq_true rfl) (Nat.le_of_ble_eq_true rfl) pu_V dX17_step_84 (fun _ σ4 => ?_)
      refine g_goto 123 dX17_step_87 (by decide) ?_
      refine G.sub [0] rfl ?_
      exact gX17_step_p123 _ _
  · refine g_aload_n 0 0 dX17_step_67 rfl rfl ?_
    refine g_iload_n 2 2 dX17_step_68 rfl rfl ?_
    refine g_iload_n 1 1 dX17_step_69 rfl rfl ?_
    refine g_callV (fc := fun sς => Mdl_turns sς x0 x2 x1) (ci := 17) (as := [iv x2, iv x1]) rfl rfl rfl q4322 qs346 mdX17_1142 (ctX17_turns x0 x2 x1) rfl (Nat.le_of_ble_eq_true rfl) (Nat.le_of_ble_eq_true rfl) (Nat.le_of_ble_eq_true rfl) pu_V dX17_step_70 (fun _ σ5 => ?_)
    refine g_goto 123 dX17_step_73 (by decide) ?_
    refine G.sub [0] rfl ?_
    exact gX17_step_p123 _ _
def V.Mdl_step (σ : HS) (x0 : Nat) : Option (Unit × HS) :=
  ck (tg σ x0 = 18) <|
  bn (gI σ x0 94) fun y1 =>
  ck (tg σ x0 = 18) <|
  ck (tg σ (gR σ x0 10) = 21) <| cl (Pln_at σ (gR σ x0 10) y1) fun r3 σ2 =>
  ck (tg σ2 x0 = 18) <|
  ck (tg σ2 x0 = 18) <| bn (sI σ2 x0 78 ((gI σ2 x0 78) + (1 : Int32))) fun σ4 =>
  ck (tg σ4 x0 = 18) <| cl (Mdl_behind σ4 x0 y1) fun r6 σ5 =>
  ck (tg σ5 x0 = 18) <| bn (sI σ5 x0 94 r6) fun σ7 =>
  ck (tg σ7 x0 = 18) <| bn (sI σ7 x0 19 (y1 + (1 : Int32))) fun σ8 =>
  if r3 < (69 : Int32) then (
    Mdl_step_p61 σ8 x0 y1 r3)
  else (
    if (196 : Int32) < r3 then (
      Mdl_step_p61 σ8 x0 y1 r3)
    else (
      ck (tg σ8 x0 = 18) <| cl (Mdl_operator σ8 x0 r3) fun _ σ9 =>
      Mdl_step_p123 σ9 x0))
theorem V.ctX17_step (x0 : Nat) : Ct yX17_step  cX17_step 3 none 9 241 eV [av x0] (fun σ => Mdl_step σ x0) := by
  refine Ct.of (own := RX17) (nm := "step") (desc := "()V") rfl (by decide) (Nat.le_of_ble_eq_true rfl) (by decide) (fun X σ => ?_)
  show G X RX17 "step" cX17_step 3 none 9 241 enV 0 [(0, av x0)] [] σ (Mdl_step σ x0)
  unfold Mdl_step
  refine g_aload_n 0 0 dX17_step_0 rfl rfl ?_
  refine g_getI fdX17_1107 dX17_step_1 ?_
  refine g_nmI (fun y1 => ?_)
  refine g_istore_n 1 dX17_step_4 rfl (by decide) rfl ?_
  refine g_aload_n 0 1 dX17_step_5 rfl rfl ?_
  refine g_getR fdX17_221 dX17_step_6 ?_
  refine g_iload_n 1 0 dX17_step_9 rfl rfl ?_
  refine g_callV (fc := fun sς => Pln_at sς (gR σ x0 10) y1) (ci := 20) (as := [iv y1]) rfl rfl rfl q3609 q3610 mdX17_261 (ctX20_at (gR σ x0 10) y1) rfl (Nat.le_of_ble_eq_true rfl) (Nat.le_of_ble_eq_true rfl) (Nat.le_of_ble_eq_true rfl) pu_I dX17_step_10 (fun r3 σ2 => ?_)
  refine g_istore_n 2 dX17_step_13 rfl (by decide) rfl ?_
  refine g_aload_n 0 2 dX17_step_14 rfl rfl ?_
  refine g_dup dX17_step_15 rfl ?_
  refine g_getI fdX17_1049 dX17_step_16 ?_
  refine g_iconst (v := 1) dX17_step_19 (by decide) ?_
  refine g_iadd dX17_step_20 ?_
  refine g_putI fpX17_1049 dX17_step_21 (fun σ4 => ?_)
  refine g_aload_n 0 2 dX17_step_24 rfl rfl ?_
  refine g_aload_n 0 2 dX17_step_25 rfl rfl ?_
  refine g_iload_n 1 1 dX17_step_26 rfl rfl ?_
  refine g_callV (fc := fun sς => Mdl_behind sς x0 y1) (ci := 17) (as := [iv y1]) rfl rfl rfl q3822 qs252 mdX17_655 (ctX17_behind x0 y1) rfl (Nat.le_of_ble_eq_true rfl) (Nat.le_of_ble_eq_true rfl) (Nat.le_of_ble_eq_true rfl) pu_I dX17_step_27 (fun r6 σ5 => ?_)
  refine g_putI fpX17_1107 dX17_step_30 (fun σ7 => ?_)
  refine g_aload_n 0 2 dX17_step_33 rfl rfl ?_
  refine g_iload_n 1 1 dX17_step_34 rfl rfl ?_
  refine g_iconst (v := 1) dX17_step_35 (by decide) ?_
  refine g_iadd dX17_step_36 ?_
  refine g_putI fpX17_594 dX17_step_37 (fun σ8 => ?_)
  refine g_iload_n 2 0 dX17_step_40 rfl rfl ?_
  refine g_bipush (v := 69) dX17_step_41 (by decide) ?_
  refine g_icmp_lt 61 dX17_step_43 (by decide) ?_ ?_
  · refine G.sub [2, 1, 0] rfl ?_
    exact gX17_step_p61 _ _ _ _
  · refine g_iload_n 2 0 dX17_step_46 rfl rfl ?_
    refine g_sipush (v := 196) dX17_step_47 (by decide) ?_
    refine g_icmp_gt 61 dX17_step_50 (by decide) ?_ ?_
    · refine G.sub [2, 1, 0] rfl ?_
      exact gX17_step_p61 _ _ _ _
    · refine g_aload_n 0 2 dX17_step_53 rfl rfl ?_
      refine g_iload_n 2 0 dX17_step_54 rfl rfl ?_
      refine g_callV (fc := fun sς => Mdl_operator sς x0 r3) (ci := 17) (as := [iv r3]) rfl rfl rfl q4178 qs326 mdX17_1139 (ctX17_operator x0 r3) rfl (Nat.le_of_ble_eq_true rfl) (Nat.le_of_ble_eq_true rfl) (Nat.le_of_ble_eq_true rfl) pu_V dX17_step_55 (fun _ σ9 => ?_)
      refine g_goto 123 dX17_step_58 (by decide) ?_
      refine G.sub [2] rfl ?_
      exact gX17_step_p123 _ _
theorem V.dX17_run_0 : decode cX17_run 0 = .ok (.iload_n 1, 1) := by decide +kernel
theorem V.dX17_run_1 : decode cX17_run 1 = .ok (.ifCond .lt 10, 3) := by decide +kernel
theorem V.dX17_run_4 : decode cX17_run 4 = .ok (.iload_n 1, 1) := by decide +kernel
theorem V.dX17_run_5 : decode cX17_run 5 = .ok (.ldc_w 1132, 3) := by decide +kernel
theorem V.dX17_run_8 : decode cX17_run 8 = .ok (.if_icmp .le 5, 3) := by decide +kernel
theorem V.dX17_run_11 : decode cX17_run 11 = .ok (.iconst (-1), 1) := by decide +kernel
theorem V.dX17_run_12 : decode cX17_run 12 = .ok (.ireturn, 1) := by decide +kernel
theorem V.dX17_run_13 : decode cX17_run 13 = .ok (.iconst 0, 1) := by decide +kernel
theorem V.dX17_run_14 : decode cX17_run 14 = .ok (.istore_n 2, 1) := by decide +kernel
theorem V.dX17_run_15 : decode cX17_run 15 = .ok (.aload_n 0, 1) := by decide +kernel
theorem V.dX17_run_16 : decode cX17_run 16 = .ok (.getfield 970, 3) := by decide +kernel
theorem V.dX17_run_19 : decode cX17_run 19 = .ok (.iconst 1, 1) := by decide +kernel
theorem V.dX17_run_20 : decode cX17_run 20 = .ok (.if_icmp .ne 18, 3) := by decide +kernel
theorem V.dX17_run_23 : decode cX17_run 23 = .ok (.iload_n 2, 1) := by decide +kernel
theorem V.dX17_run_24 : decode cX17_run 24 = .ok (.iload_n 1, 1) := by decide +kernel
theorem V.dX17_run_25 : decode cX17_run 25 = .ok (.if_icmp .ge 13, 3) := by decide +kernel
theorem V.dX17_run_28 : decode cX17_run 28 = .ok (.aload_n 0, 1) := by decide +kernel
theorem V.dX17_run_29 : decode cX17_run 29 = .ok (.invokevirtual 1133, 3) := by decide +kernel
theorem V.dX17_run_32 : decode cX17_run 32 = .ok (.iinc 2 1, 3) := by decide +kernel
theorem V.dX17_run_35 : decode cX17_run 35 = .ok (.goto (-20), 3) := by decide +kernel
theorem V.dX17_run_38 : decode cX17_run 38 = .ok (.iload_n 2, 1) := by decide +kernel
theorem V.dX17_run_39 : decode cX17_run 39 = .ok (.ireturn, 1) := by decide +kernel
theorem V.mdX17_1133 : MD RX17 1133 yX17_step cX17_step 3 none 0 := ⟨Or.inl q4172, q377, q4175, by decide, by decide, by decide +kernel⟩
/-! ModuleEngineModel.run(I)I -/
def V.Mdl_run_p15  : Nat → HS → Nat → Int32 → Int32 → Option (Int32 × HS)
  | 0, _, _, _, _ => none
  | n + 1, σ, x0, x1, x2 =>
    ck (tg σ x0 = 18) <|
    if (gI σ x0 76) = (1 : Int32) then (
      if x1 ≤ x2 then (
        some (x2, σ))
      else (
        ck (tg σ x0 = 18) <| cl (Mdl_step σ x0 ) fun _ σ1 =>
        bn (x2 + (1 : Int32)) fun y2 =>
        Mdl_run_p15 n σ1 x0 x1 y2))
    else (
      some (x2, σ))
theorem V.gX17_run_p15 {X : CX}  : ∀ (n : Nat) (σ : HS) (x0 : Nat) (x1 : Int32) (x2 : Int32), G X RX17 "run" cX17_run 3 (some .int) 10 263 enI 15 [(0, av x0), (1, iv x1), (2, iv x2)] [] σ (Mdl_run_p15 n σ x0 x1 x2)
  | 0, σ, x0, x1, x2 => by rw [Mdl_run_p15]; exact G.nul
  | n + 1, σ, x0, x1, x2 => by
    rw [Mdl_run_p15]
    refine g_aload_n 0 0 dX17_run_15 rfl rfl ?_
    refine g_getI fdX17_970 dX17_run_16 ?_
    refine g_iconst (v := 1) dX17_run_19 (by decide) ?_
    refine g_icmp_ne 38 dX17_run_20 (by decide) ?_ ?_
    · refine g_iload_n 2 2 dX17_run_38 rfl rfl ?_
      exact g_ireturn rfl dX17_run_39
    · refine g_iload_n 2 2 dX17_run_23 rfl rfl ?_
      refine g_iload_n 1 1 dX17_run_24 rfl rfl ?_
      refine g_icmp_ge 38 dX17_run_25 (by decide) ?_ ?_
      · refine g_iload_n 2 2 dX17_run_38 rfl rfl ?_
        exact g_ireturn rfl dX17_run_39
      · refine g_aload_n 0 0 dX17_run_28 rfl rfl ?_
        refine g_callV (fc := fun sς => Mdl_step sς x0 ) (ci := 17) (as := []) rfl rfl rfl q4174 qs325 mdX17_1133 (ctX17_step x0 ) rfl (Nat.le_of_ble_eq_true rfl) (Nat.le_of_ble_eq_true rfl) (Nat.le_of_ble_eq_true rfl) pu_V dX17_run_29 (fun _ σ1 => ?_)
        refine g_iincB (w := 1) 2 dX17_run_32 rfl (by decide) (by decide) (fun _ => rfl) (fun y2 => ?_)
        refine g_goto 15 dX17_run_35 (by decide) ?_
        refine G.sub [1, 2, 0] rfl ?_
        exact gX17_run_p15 n _ _ _ _
def V.Mdl_run (σ : HS) (x0 : Nat) (x1 : Int32) : Option (Int32 × HS) :=
  if x1 < 0 then (
    some ((-1 : Int32), σ))
  else (
    if x1 ≤ (100000 : Int32) then (
      Mdl_run_p15 FU σ x0 x1 (0 : Int32))
    else (
      some ((-1 : Int32), σ)))
theorem V.ctX17_run (x0 : Nat) (x1 : Int32) : Ct yX17_run  cX17_run 3 (some .int) 10 263 eI [av x0, iv x1] (fun σ => Mdl_run σ x0 x1) := by
  refine Ct.of (own := RX17) (nm := "run") (desc := "(I)I") rfl (by decide) (Nat.le_of_ble_eq_true rfl) (by decide) (fun X σ => ?_)
  show G X RX17 "run" cX17_run 3 (some .int) 10 263 enI 0 [(0, av x0), (1, iv x1)] [] σ (Mdl_run σ x0 x1)
  unfold Mdl_run
  refine g_iload_n 1 1 dX17_run_0 rfl rfl ?_
  refine g_if_lt 11 dX17_run_1 (by decide) ?_ ?_
  · refine g_iconst (v := (-1)) dX17_run_11 (by decide) ?_
    exact g_ireturn rfl dX17_run_12
  · refine g_iload_n 1 1 dX17_run_4 rfl rfl ?_
    refine g_ldcw q4171 dX17_run_5 ?_
    refine g_icmp_le 13 dX17_run_8 (by decide) ?_ ?_
    · refine g_iconst (v := 0) dX17_run_13 (by decide) ?_
      refine g_istore_n 2 dX17_run_14 rfl (by decide) rfl ?_
      refine G.sub [1, 2, 0] rfl ?_
      exact gX17_run_p15 FU _ _ _ _
    · refine g_iconst (v := (-1)) dX17_run_11 (by decide) ?_
      exact g_ireturn rfl dX17_run_12
theorem V.dX17_give_0 : decode cX17_give 0 = .ok (.aload_n 0, 1) := by decide +kernel
theorem V.dX17_give_1 : decode cX17_give 1 = .ok (.invokevirtual 986, 3) := by decide +kernel
theorem V.dX17_give_4 : decode cX17_give 4 = .ok (.ifCond .ne 5, 3) := by decide +kernel
theorem V.dX17_give_7 : decode cX17_give 7 = .ok (.iconst 0, 1) := by decide +kernel
theorem V.dX17_give_8 : decode cX17_give 8 = .ok (.ireturn, 1) := by decide +kernel
theorem V.dX17_give_9 : decode cX17_give 9 = .ok (.aload_n 0, 1) := by decide +kernel
theorem V.dX17_give_10 : decode cX17_give 10 = .ok (.bipush 6, 2) := by decide +kernel
theorem V.dX17_give_12 : decode cX17_give 12 = .ok (.putfield 970, 3) := by decide +kernel
theorem V.dX17_give_15 : decode cX17_give 15 = .ok (.iconst 1, 1) := by decide +kernel
theorem V.dX17_give_16 : decode cX17_give 16 = .ok (.ireturn, 1) := by decide +kernel
/-! ModuleEngineModel.give()Z -/
def V.Mdl_give (σ : HS) (x0 : Nat) : Option (Int32 × HS) :=
  ck (tg σ x0 = 18) <| cl (Mdl_runs σ x0 ) fun r2 σ1 =>
  if r2 = 0 then (
    some ((0 : Int32), σ1))
  else (
    ck (tg σ1 x0 = 18) <| bn (sI σ1 x0 76 (6 : Int32)) fun σ3 =>
    some ((1 : Int32), σ3))
theorem V.ctX17_give (x0 : Nat) : Ct yX17_give  cX17_give 1 (some .boolean) 1 20 eI [av x0] (fun σ => Mdl_give σ x0) := by
  refine Ct.of (own := RX17) (nm := "give") (desc := "()Z") rfl (by decide) (Nat.le_of_ble_eq_true rfl) (by decide) (fun X σ => ?_)
  show G X RX17 "give" cX17_give 1 (some .boolean) 1 20 enI 0 [(0, av x0)] [] σ (Mdl_give σ x0)
  unfold Mdl_give
  refine g_aload_n 0 0 dX17_give_0 rfl rfl ?_
  refine g_callV (fc := fun sς => Mdl_runs sς x0 ) (ci := 17) (as := []) rfl rfl rfl q4027 qs293 mdX17_986 (ctX17_runs x0 ) rfl (Nat.le_of_ble_eq_true rfl) (Nat.le_of_ble_eq_true rfl) (Nat.le_of_ble_eq_true rfl) pu_I dX17_give_1 (fun r2 σ1 => ?_)
  refine g_if_ne 9 dX17_give_4 (by decide) ?_ ?_
  · refine g_aload_n 0 0 dX17_give_9 rfl rfl ?_
    refine g_bipush (v := 6) dX17_give_10 (by decide) ?_
    refine g_putI fpX17_970 dX17_give_12 (fun σ3 => ?_)
    refine g_iconst (v := 1) dX17_give_15 (by decide) ?_
    exact g_zreturn rfl (by decide +kernel) dX17_give_16
  · refine g_iconst (v := 0) dX17_give_7 (by decide) ?_
    exact g_zreturn rfl (by decide +kernel) dX17_give_8
theorem V.dX17_answer_0 : decode cX17_answer 0 = .ok (.aload_n 0, 1) := by decide +kernel
theorem V.dX17_answer_1 : decode cX17_answer 1 = .ok (.getfield 970, 3) := by decide +kernel
theorem V.dX17_answer_4 : decode cX17_answer 4 = .ok (.iconst 5, 1) := by decide +kernel
theorem V.dX17_answer_5 : decode cX17_answer 5 = .ok (.if_icmp .eq 5, 3) := by decide +kernel
theorem V.dX17_answer_8 : decode cX17_answer 8 = .ok (.iconst 0, 1) := by decide +kernel
theorem V.dX17_answer_9 : decode cX17_answer 9 = .ok (.ireturn, 1) := by decide +kernel
theorem V.dX17_answer_10 : decode cX17_answer 10 = .ok (.aload_n 0, 1) := by decide +kernel
theorem V.dX17_answer_11 : decode cX17_answer 11 = .ok (.getfield 1095, 3) := by decide +kernel
theorem V.dX17_answer_14 : decode cX17_answer 14 = .ok (.istore_n 1, 1) := by decide +kernel
theorem V.dX17_answer_15 : decode cX17_answer 15 = .ok (.aload_n 0, 1) := by decide +kernel
theorem V.dX17_answer_16 : decode cX17_answer 16 = .ok (.iload_n 1, 1) := by decide +kernel
theorem V.dX17_answer_17 : decode cX17_answer 17 = .ok (.invokevirtual 1129, 3) := by decide +kernel
theorem V.dX17_answer_20 : decode cX17_answer 20 = .ok (.istore_n 2, 1) := by decide +kernel
theorem V.dX17_answer_21 : decode cX17_answer 21 = .ok (.aload_n 0, 1) := by decide +kernel
theorem V.dX17_answer_22 : decode cX17_answer 22 = .ok (.getfield 1069, 3) := by decide +kernel
theorem V.dX17_answer_25 : decode cX17_answer 25 = .ok (.iload_n 2, 1) := by decide +kernel
theorem V.dX17_answer_26 : decode cX17_answer 26 = .ok (.if_icmp .ne 13, 3) := by decide +kernel
theorem V.dX17_answer_29 : decode cX17_answer 29 = .ok (.aload_n 0, 1) := by decide +kernel
theorem V.dX17_answer_30 : decode cX17_answer 30 = .ok (.iload_n 1, 1) := by decide +kernel
theorem V.dX17_answer_31 : decode cX17_answer 31 = .ok (.bipush 16, 2) := by decide +kernel
theorem V.dX17_answer_33 : decode cX17_answer 33 = .ok (.invokevirtual 1080, 3) := by decide +kernel
theorem V.dX17_answer_36 : decode cX17_answer 36 = .ok (.ifCond .ne 5, 3) := by decide +kernel
theorem V.dX17_answer_39 : decode cX17_answer 39 = .ok (.iconst 0, 1) := by decide +kernel
theorem V.dX17_answer_40 : decode cX17_answer 40 = .ok (.ireturn, 1) := by decide +kernel
theorem V.dX17_answer_41 : decode cX17_answer 41 = .ok (.aload_n 0, 1) := by decide +kernel
theorem V.dX17_answer_42 : decode cX17_answer 42 = .ok (.iconst 0, 1) := by decide +kernel
theorem V.dX17_answer_43 : decode cX17_answer 43 = .ok (.putfield 1069, 3) := by decide +kernel
theorem V.dX17_answer_46 : decode cX17_answer 46 = .ok (.aload_n 0, 1) := by decide +kernel
theorem V.dX17_answer_47 : decode cX17_answer 47 = .ok (.aload_n 0, 1) := by decide +kernel
theorem V.dX17_answer_48 : decode cX17_answer 48 = .ok (.getfield 1052, 3) := by decide +kernel
theorem V.dX17_answer_51 : decode cX17_answer 51 = .ok (.ifCond .ne 7, 3) := by decide +kernel
theorem V.dX17_answer_54 : decode cX17_answer 54 = .ok (.iconst 2, 1) := by decide +kernel
theorem V.dX17_answer_55 : decode cX17_answer 55 = .ok (.goto 4, 3) := by decide +kernel
theorem V.dX17_answer_58 : decode cX17_answer 58 = .ok (.iconst 1, 1) := by decide +kernel
theorem V.dX17_answer_59 : decode cX17_answer 59 = .ok (.putfield 970, 3) := by decide +kernel
theorem V.dX17_answer_62 : decode cX17_answer 62 = .ok (.iconst 0, 1) := by decide +kernel
theorem V.dX17_answer_63 : decode cX17_answer 63 = .ok (.istore_n 3, 1) := by decide +kernel
theorem V.dX17_answer_64 : decode cX17_answer 64 = .ok (.iload_n 3, 1) := by decide +kernel
theorem V.dX17_answer_65 : decode cX17_answer 65 = .ok (.iload_n 2, 1) := by decide +kernel
theorem V.dX17_answer_66 : decode cX17_answer 66 = .ok (.if_icmp .ge 64, 3) := by decide +kernel
theorem V.dX17_answer_69 : decode cX17_answer 69 = .ok (.aload_n 0, 1) := by decide +kernel
theorem V.dX17_answer_70 : decode cX17_answer 70 = .ok (.iload_n 1, 1) := by decide +kernel
theorem V.dX17_answer_71 : decode cX17_answer 71 = .ok (.invokevirtual 1065, 3) := by decide +kernel
theorem V.dX17_answer_74 : decode cX17_answer 74 = .ok (.getfield 374, 3) := by decide +kernel
theorem V.dX17_answer_77 : decode cX17_answer 77 = .ok (.bipush 32, 2) := by decide +kernel
theorem V.dX17_answer_79 : decode cX17_answer 79 = .ok (.aload_n 0, 1) := by decide +kernel
theorem V.dX17_answer_80 : decode cX17_answer 80 = .ok (.getfield 71, 3) := by decide +kernel
theorem V.dX17_answer_83 : decode cX17_answer 83 = .ok (.iload_n 1, 1) := by decide +kernel
theorem V.dX17_answer_84 : decode cX17_answer 84 = .ok (.iaload, 1) := by decide +kernel
theorem V.dX17_answer_85 : decode cX17_answer 85 = .ok (.imul, 1) := by decide +kernel
theorem V.dX17_answer_86 : decode cX17_answer 86 = .ok (.bipush 16, 2) := by decide +kernel
theorem V.dX17_answer_88 : decode cX17_answer 88 = .ok (.iadd, 1) := by decide +kernel
theorem V.dX17_answer_89 : decode cX17_answer 89 = .ok (.iload_n 3, 1) := by decide +kernel
theorem V.dX17_answer_90 : decode cX17_answer 90 = .ok (.iadd, 1) := by decide +kernel
theorem V.dX17_answer_91 : decode cX17_answer 91 = .ok (.iaload, 1) := by decide +kernel
theorem V.dX17_answer_92 : decode cX17_answer 92 = .ok (.aload_n 0, 1) := by decide +kernel
theorem V.dX17_answer_93 : decode cX17_answer 93 = .ok (.getfield 167, 3) := by decide +kernel
theorem V.dX17_answer_96 : decode cX17_answer 96 = .ok (.iload_n 3, 1) := by decide +kernel
theorem V.dX17_answer_97 : decode cX17_answer 97 = .ok (.laload, 1) := by decide +kernel
theorem V.dX17_answer_98 : decode cX17_answer 98 = .ok (.invokestatic 1083, 3) := by decide +kernel
theorem V.dX17_answer_101 : decode cX17_answer 101 = .ok (.lstore 4, 2) := by decide +kernel
theorem V.dX17_answer_103 : decode cX17_answer 103 = .ok (.aload_n 0, 1) := by decide +kernel
theorem V.dX17_answer_104 : decode cX17_answer 104 = .ok (.getfield 170, 3) := by decide +kernel
theorem V.dX17_answer_107 : decode cX17_answer 107 = .ok (.iload_n 3, 1) := by decide +kernel
theorem V.dX17_answer_108 : decode cX17_answer 108 = .ok (.lload 4, 2) := by decide +kernel
theorem V.dX17_answer_110 : decode cX17_answer 110 = .ok (.lastore, 1) := by decide +kernel
theorem V.dX17_answer_111 : decode cX17_answer 111 = .ok (.aload_n 0, 1) := by decide +kernel
theorem V.dX17_answer_112 : decode cX17_answer 112 = .ok (.getfield 1052, 3) := by decide +kernel
theorem V.dX17_answer_115 : decode cX17_answer 115 = .ok (.ifCond .le 9, 3) := by decide +kernel
theorem V.dX17_answer_118 : decode cX17_answer 118 = .ok (.aload_n 0, 1) := by decide +kernel
theorem V.dX17_answer_119 : decode cX17_answer 119 = .ok (.lload 4, 2) := by decide +kernel
theorem V.dX17_answer_121 : decode cX17_answer 121 = .ok (.invokevirtual 1136, 3) := by decide +kernel
theorem V.dX17_answer_124 : decode cX17_answer 124 = .ok (.iinc 3 1, 3) := by decide +kernel
theorem V.dX17_answer_127 : decode cX17_answer 127 = .ok (.goto (-63), 3) := by decide +kernel
theorem V.dX17_answer_130 : decode cX17_answer 130 = .ok (.aload_n 0, 1) := by decide +kernel
theorem V.dX17_answer_131 : decode cX17_answer 131 = .ok (.iload_n 2, 1) := by decide +kernel
theorem V.dX17_answer_132 : decode cX17_answer 132 = .ok (.putfield 1098, 3) := by decide +kernel
theorem V.dX17_answer_135 : decode cX17_answer 135 = .ok (.aload_n 0, 1) := by decide +kernel
theorem V.dX17_answer_136 : decode cX17_answer 136 = .ok (.invokevirtual 1092, 3) := by decide +kernel
theorem V.dX17_answer_139 : decode cX17_answer 139 = .ok (.iconst 1, 1) := by decide +kernel
theorem V.dX17_answer_140 : decode cX17_answer 140 = .ok (.ireturn, 1) := by decide +kernel
theorem V.fdX17_1095 : FD RX17 1095 17 80 0 := ⟨(RX17, TX17, 101), tyX17, rfl, rfl, in_X17, by decide, Or.inl q3116, rfl⟩
/-! ModuleEngineModel.answer()Z -/
def V.Mdl_answer_p124 (rec64 : HS → Nat → Int32 → Int32 → Int32 → Option (Int32 × HS)) (σ : HS) (x0 : Nat) (x1 : Int32) (x2 : Int32) (x3 : Int32) : Option (Int32 × HS) :=
  bn (x3 + (1 : Int32)) fun y1 =>
  rec64 σ x0 x1 x2 y1
theorem V.gX17_answer_p124 {X : CX} (rec64 : HS → Nat → Int32 → Int32 → Int32 → Option (Int32 × HS)) (hrec64 : ∀ (σ : HS) (x0 : Nat) (x1 : Int32) (x2 : Int32) (x3 : Int32), G X RX17 "answer" cX17_answer 6 (some .boolean) 5 111 enI 64 [(0, av x0), (1, iv x1), (2, iv x2), (3, iv x3)] [] σ (rec64 σ x0 x1 x2 x3)) (σ : HS) (x0 : Nat) (x1 : Int32) (x2 : Int32) (x3 : Int32) : G X RX17 "answer" cX17_answer 6 (some .boolean) 5 111 enI 124 [(0, av x0), (1, iv x1), (2, iv x2), (3, iv x3)] [] σ (Mdl_answer_p124 rec64 σ x0 x1 x2 x3) := by
  unfold Mdl_answer_p124
  refine g_iincB (w := 1) 3 dX17_answer_124 rfl (by decide) (by decide) (fun _ => rfl) (fun y1 => ?_)
  refine g_goto 64 dX17_answer_127 (by decide) ?_
  refine G.sub [1, 2, 3, 0] rfl ?_
  exact hrec64 _ _ _ _ _
def V.Mdl_answer_p64  : Nat → HS → Nat → Int32 → Int32 → Int32 → Option (Int32 × HS)
  | 0, _, _, _, _, _ => none
  | n + 1, σ, x0, x1, x2, x3 =>
    if x2 ≤ x3 then (
      ck (tg σ x0 = 18) <| bn (sI σ x0 83 x2) fun σ1 =>
      ck (tg σ1 x0 = 18) <| cl (Mdl_goesOn σ1 x0 ) fun _ σ2 =>
      some ((1 : Int32), σ2))
    else (
      ck (tg σ x0 = 18) <| cl (Mdl_planOf σ x0 x1) fun r4 σ3 =>
      ck (tg σ3 r4 = 21) <|
      ck (tg σ3 x0 = 18) <|
      ck (tg σ3 (gR σ3 x0 38) = 100 ∧ inb x1 (ln σ3 (gR σ3 x0 38))) <|
      ck (tg σ3 (gR σ3 r4 7) = 100 ∧ inb ((((32 : Int32) * (gI σ3 (gR σ3 x0 38) (ix x1))) + (16 : Int32)) + x3) (ln σ3 (gR σ3 r4 7))) <|
      ck (tg σ3 x0 = 18) <|
      ck (tg σ3 (gR σ3 x0 82) = 101 ∧ inb x3 (ln σ3 (gR σ3 x0 82))) <|
      cl (Mdl_held σ3 (gI σ3 (gR σ3 r4 7) (ix ((((32 : Int32) * (gI σ3 (gR σ3 x0 38) (ix x1))) + (16 : Int32)) + x3))) (gJ σ3 (gR σ3 x0 82) (ix x3))) fun r6 σ5 =>
      ck (tg σ5 x0 = 18) <|
      ck (tg σ5 (gR σ5 x0 84) = 101 ∧ inb x3 (ln σ5 (gR σ5 x0 84))) <| bn (sJ σ5 (gR σ5 x0 84) (ix x3) r6) fun σ7 =>
      ck (tg σ7 x0 = 18) <|
      if (gI σ7 x0 85) ≤ 0 then (
        Mdl_answer_p124 (Mdl_answer_p64 n) σ7 x0 x1 x2 x3)
      else (
        ck (tg σ7 x0 = 18) <| cl (Mdl_push σ7 x0 r6) fun _ σ8 =>
        Mdl_answer_p124 (Mdl_answer_p64 n) σ8 x0 x1 x2 x3))
theorem V.gX17_answer_p64 {X : CX}  : ∀ (n : Nat) (σ : HS) (x0 : Nat) (x1 : Int32) (x2 : Int32) (x3 : Int32), G X RX17 "answer" cX17_answer 6 (some .boolean) 5 111 enI 64 [(0, av x0), (1, iv x1), (2, iv x2), (3, iv x3)] [] σ (Mdl_answer_p64 n σ x0 x1 x2 x3)
  | 0, σ, x0, x1, x2, x3 => by rw [Mdl_answer_p64]; exact G.nul
  | n + 1, σ, x0, x1, x2, x3 => by
    rw [Mdl_answer_p64]
    refine g_iload_n 3 3 dX17_answer_64 rfl rfl ?_
    refine g_iload_n 2 2 dX17_answer_65 rfl rfl ?_
    refine g_icmp_ge 130 dX17_answer_66 (by decide) ?_ ?_
    · refine g_aload_n 0 0 dX17_answer_130 rfl rfl ?_
      refine g_iload_n 2 2 dX17_answer_131 rfl rfl ?_
      refine g_putI fpX17_1098 dX17_answer_132 (fun σ1 => ?_)
      refine g_aload_n 0 0 dX17_answer_135 rfl rfl ?_
      refine g_callV (fc := fun sς => Mdl_goesOn sς x0 ) (ci := 17) (as := []) rfl rfl rfl q4133 qs319 mdX17_1092 (ctX17_goesOn x0 ) rfl (Nat.le_of_ble_eq_true rfl) (Nat.le_of_ble_eq_true rfl) (Nat.le_of_ble_eq_true rfl) pu_V dX17_answer_136 (fun _ σ2 => ?_)
      refine g_iconst (v := 1) dX17_answer_139 (by decide) ?_
      exact g_zreturn rfl (by decide +kernel) dX17_answer_140
    · refine g_aload_n 0 0 dX17_answer_69 rfl rfl ?_
      refine g_iload_n 1 1 dX17_answer_70 rfl rfl ?_
      refine g_callV (fc := fun sς => Mdl_planOf sς x0 x1) (ci := 17) (as := [iv x1]) rfl rfl rfl q4121 qs316 mdX17_1065 (ctX17_planOf x0 x1) rfl (Nat.le_of_ble_eq_true rfl) (Nat.le_of_ble_eq_true rfl) (Nat.le_of_ble_eq_true rfl) pu_R dX17_answer_71 (fun r4 σ3 => ?_)
      refine g_getR fdX17_374 dX17_answer_74 ?_
      refine g_bipush (v := 32) dX17_answer_77 (by decide) ?_
      refine g_aload_n 0 0 dX17_answer_79 rfl rfl ?_
      refine g_getR fdX17_71 dX17_answer_80 ?_
      refine g_iload_n 1 1 dX17_answer_83 rfl rfl ?_
      refine g_iaload dX17_answer_84 ?_
      refine g_imul dX17_answer_85 ?_
      refine g_bipush (v := 16) dX17_answer_86 (by decide) ?_
      refine g_iadd dX17_answer_88 ?_
      refine g_iload_n 3 3 dX17_answer_89 rfl rfl ?_
      refine g_iadd dX17_answer_90 ?_
      refine g_iaload dX17_answer_91 ?_
      refine g_aload_n 0 0 dX17_answer_92 rfl rfl ?_
      refine g_getR fdX17_167 dX17_answer_93 ?_
      refine g_iload_n 3 3 dX17_answer_96 rfl rfl ?_
      refine g_laload dX17_answer_97 ?_
      refine g_callS (fc := fun sς => Mdl_held sς (gI σ3 (gR σ3 r4 7) (ix ((((32 : Int32) * (gI σ3 (gR σ3 x0 38) (ix x1))) + (16 : Int32)) + x3))) (gJ σ3 (gR σ3 x0 82) (ix x3))) (as := [iv (gI σ3 (gR σ3 r4 7) (ix ((((32 : Int32) * (gI σ3 (gR σ3 x0 38) (ix x1))) + (16 : Int32)) + x3))), jv (gJ σ3 (gR σ3 x0 82) (ix x3))]) q4165 mdX17_1083 (ctX17_held (gI σ3 (gR σ3 r4 7) (ix ((((32 : Int32) * (gI σ3 (gR σ3 x0 38) (ix x1))) + (16 : Int32)) + x3))) (gJ σ3 (gR σ3 x0 82) (ix x3))) rfl (Nat.le_of_ble_eq_true rfl) (Nat.le_of_ble_eq_true rfl) (Nat.le_of_ble_eq_true rfl) pu_J dX17_answer_98 (fun r6 σ5 => ?_)
      refine g_lstore dX17_answer_101 (by decide) rfl ?_
      refine g_aload_n 0 1 dX17_answer_103 rfl rfl ?_
      refine g_getR fdX17_170 dX17_answer_104 ?_
      refine g_iload_n 3 4 dX17_answer_107 rfl rfl ?_
      refine g_lload 0 dX17_answer_108 rfl ?_
      refine g_lastore dX17_answer_110 (fun σ7 => ?_)
      refine g_aload_n 0 1 dX17_answer_111 rfl rfl ?_
      refine g_getI fdX17_1052 dX17_answer_112 ?_
      refine g_if_le 124 dX17_answer_115 (by decide) ?_ ?_
      · refine G.sub [1, 2, 3, 4] rfl ?_
        exact gX17_answer_p124 (Mdl_answer_p64 n) (gX17_answer_p64 n) _ _ _ _ _
      · refine g_aload_n 0 1 dX17_answer_118 rfl rfl ?_
        refine g_lload 0 dX17_answer_119 rfl ?_
        refine g_callV (fc := fun sς => Mdl_push sς x0 r6) (ci := 17) (as := [jv r6]) rfl rfl rfl q4318 qs345 mdX17_1136 (ctX17_push x0 r6) rfl (Nat.le_of_ble_eq_true rfl) (Nat.le_of_ble_eq_true rfl) (Nat.le_of_ble_eq_true rfl) pu_V dX17_answer_121 (fun _ σ8 => ?_)
        refine G.sub [1, 2, 3, 4] rfl ?_
        exact gX17_answer_p124 (Mdl_answer_p64 n) (gX17_answer_p64 n) _ _ _ _ _
def V.Mdl_answer_p59  (σ : HS) (x0 : Nat) (x1 : Int32) (x2 : Int32) (s0 : Int32) (s1 : Nat) : Option (Int32 × HS) :=
  ck (tg σ s1 = 18) <| bn (sI σ s1 76 s0) fun σ1 =>
  Mdl_answer_p64 FU σ1 x0 x1 x2 (0 : Int32)
theorem V.gX17_answer_p59 {X : CX}  (σ : HS) (x0 : Nat) (x1 : Int32) (x2 : Int32) (s0 : Int32) (s1 : Nat) : G X RX17 "answer" cX17_answer 6 (some .boolean) 5 111 enI 59 [(0, av x0), (1, iv x1), (2, iv x2)] [iv s0, av s1] σ (Mdl_answer_p59 σ x0 x1 x2 s0 s1) := by
  unfold Mdl_answer_p59
  refine g_putI fpX17_970 dX17_answer_59 (fun σ1 => ?_)
  refine g_iconst (v := 0) dX17_answer_62 (by decide) ?_
  refine g_istore_n 3 dX17_answer_63 rfl (by decide) rfl ?_
  refine G.sub [1, 2, 3, 0] rfl ?_
  exact gX17_answer_p64 FU _ _ _ _ _
def V.Mdl_answer (σ : HS) (x0 : Nat) : Option (Int32 × HS) :=
  ck (tg σ x0 = 18) <|
  if (gI σ x0 76) = (5 : Int32) then (
    ck (tg σ x0 = 18) <|
    bn (gI σ x0 80) fun y1 =>
    ck (tg σ x0 = 18) <| cl (Mdl_resultsIn σ x0 y1) fun r3 σ2 =>
    ck (tg σ2 x0 = 18) <|
    if (gI σ2 x0 81) = r3 then (
      ck (tg σ2 x0 = 18) <| cl (Mdl_areSuch σ2 x0 y1 (16 : Int32)) fun r5 σ4 =>
      if r5 = 0 then (
        some ((0 : Int32), σ4))
      else (
        ck (tg σ4 x0 = 18) <| bn (sI σ4 x0 81 (0 : Int32)) fun σ6 =>
        ck (tg σ6 x0 = 18) <|
        if (gI σ6 x0 85) = 0 then (
          Mdl_answer_p59 σ6 x0 y1 r3 (2 : Int32) x0)
        else (
          Mdl_answer_p59 σ6 x0 y1 r3 (1 : Int32) x0)))
    else (
      some ((0 : Int32), σ2)))
  else (
    some ((0 : Int32), σ))
theorem V.ctX17_answer (x0 : Nat) : Ct yX17_answer  cX17_answer 6 (some .boolean) 5 111 eI [av x0] (fun σ => Mdl_answer σ x0) := by
  refine Ct.of (own := RX17) (nm := "answer") (desc := "()Z") rfl (by decide) (Nat.le_of_ble_eq_true rfl) (by decide) (fun X σ => ?_)
  show G X RX17 "answer" cX17_answer 6 (some .boolean) 5 111 enI 0 [(0, av x0)] [] σ (Mdl_answer σ x0)
  unfold Mdl_answer
  refine g_aload_n 0 0 dX17_answer_0 rfl rfl ?_
  refine g_getI fdX17_970 dX17_answer_1 ?_
  refine g_iconst (v := 5) dX17_answer_4 (by decide) ?_
  refine g_icmp_eq 10 dX17_answer_5 (by decide) ?_ ?_
  · refine g_aload_n 0 0 dX17_answer_10 rfl rfl ?_
    refine g_getI fdX17_1095 dX17_answer_11 ?_
    refine g_nmI (fun y1 => ?_)
    refine g_istore_n 1 dX17_answer_14 rfl (by decide) rfl ?_
    refine g_aload_n 0 1 dX17_answer_15 rfl rfl ?_
    refine g_iload_n 1 0 dX17_answer_16 rfl rfl ?_
    refine g_callV (fc := fun sς => Mdl_resultsIn sς x0 y1) (ci := 17) (as := [iv y1]) rfl rfl rfl q4145 qs322 mdX17_1129 (ctX17_resultsIn x0 y1) rfl (Nat.le_of_ble_eq_true rfl) (Nat.le_of_ble_eq_true rfl) (Nat.le_of_ble_eq_true rfl) pu_I dX17_answer_17 (fun r3 σ2 => ?_)
    refine g_istore_n 2 dX17_answer_20 rfl (by decide) rfl ?_
    refine g_aload_n 0 2 dX17_answer_21 rfl rfl ?_
    refine g_getI fdX17_1069 dX17_answer_22 ?_
    refine g_iload_n 2 0 dX17_answer_25 rfl rfl ?_
    refine g_icmp_ne 39 dX17_answer_26 (by decide) ?_ ?_
    · refine g_iconst (v := 0) dX17_answer_39 (by decide) ?_
      exact g_zreturn rfl (by decide +kernel) dX17_answer_40
    · refine g_aload_n 0 2 dX17_answer_29 rfl rfl ?_
      refine g_iload_n 1 1 dX17_answer_30 rfl rfl ?_
      refine g_bipush (v := 16) dX17_answer_31 (by decide) ?_
      refine g_callV (fc := fun sς => Mdl_areSuch sς x0 y1 (16 : Int32)) (ci := 17) (as := [iv y1, iv (16 : Int32)]) rfl rfl rfl q4161 qs324 mdX17_1080 (ctX17_areSuch x0 y1 (16 : Int32)) rfl (Nat.le_of_ble_eq_true rfl) (Nat.le_of_ble_eq_true rfl) (Nat.le_of_ble_eq_true rfl) pu_I dX17_answer_33 (fun r5 σ4 => ?_)
      refine g_if_ne 41 dX17_answer_36 (by decide) ?_ ?_
      · refine g_aload_n 0 2 dX17_answer_41 rfl rfl ?_
        refine g_iconst (v := 0) dX17_answer_42 (by decide) ?_
        refine g_putI fpX17_1069 dX17_answer_43 (fun σ6 => ?_)
        refine g_aload_n 0 2 dX17_answer_46 rfl rfl ?_
        refine g_aload_n 0 2 dX17_answer_47 rfl rfl ?_
        refine g_getI fdX17_1052 dX17_answer_48 ?_
        refine g_if_ne 58 dX17_answer_51 (by decide) ?_ ?_
        · refine g_iconst (v := 1) dX17_answer_58 (by decide) ?_
          refine G.sub [2, 1, 0] rfl ?_
          exact gX17_answer_p59 _ _ _ _ _ _
        · refine g_iconst (v := 2) dX17_answer_54 (by decide) ?_
          refine g_goto 59 dX17_answer_55 (by decide) ?_
          refine G.sub [2, 1, 0] rfl ?_
          exact gX17_answer_p59 _ _ _ _ _ _
      · refine g_iconst (v := 0) dX17_answer_39 (by decide) ?_
        exact g_zreturn rfl (by decide +kernel) dX17_answer_40
  · refine g_iconst (v := 0) dX17_answer_8 (by decide) ?_
    exact g_zreturn rfl (by decide +kernel) dX17_answer_9
theorem V.dX17_state_0 : decode cX17_state 0 = .ok (.iload_n 1, 1) := by decide +kernel
theorem V.dX17_state_1 : decode cX17_state 1 = .ok (.tableswitch 152 0 12 #[67, 72, 77, 82, 98, 115, 120, 125, 130, 135, 140, 145, 150], 67) := by decide +kernel
theorem V.dX17_state_68 : decode cX17_state 68 = .ok (.aload_n 0, 1) := by decide +kernel
theorem V.dX17_state_69 : decode cX17_state 69 = .ok (.getfield 970, 3) := by decide +kernel
theorem V.dX17_state_72 : decode cX17_state 72 = .ok (.ireturn, 1) := by decide +kernel
theorem V.dX17_state_73 : decode cX17_state 73 = .ok (.aload_n 0, 1) := by decide +kernel
theorem V.dX17_state_74 : decode cX17_state 74 = .ok (.getfield 1046, 3) := by decide +kernel
theorem V.dX17_state_77 : decode cX17_state 77 = .ok (.ireturn, 1) := by decide +kernel
theorem V.dX17_state_78 : decode cX17_state 78 = .ok (.aload_n 0, 1) := by decide +kernel
theorem V.dX17_state_79 : decode cX17_state 79 = .ok (.getfield 1049, 3) := by decide +kernel
theorem V.dX17_state_82 : decode cX17_state 82 = .ok (.ireturn, 1) := by decide +kernel
theorem V.dX17_state_83 : decode cX17_state 83 = .ok (.aload_n 0, 1) := by decide +kernel
theorem V.dX17_state_84 : decode cX17_state 84 = .ok (.invokevirtual 986, 3) := by decide +kernel
theorem V.dX17_state_87 : decode cX17_state 87 = .ok (.ifCond .eq 10, 3) := by decide +kernel
theorem V.dX17_state_90 : decode cX17_state 90 = .ok (.aload_n 0, 1) := by decide +kernel
theorem V.dX17_state_91 : decode cX17_state 91 = .ok (.getfield 1052, 3) := by decide +kernel
theorem V.dX17_state_94 : decode cX17_state 94 = .ok (.goto 4, 3) := by decide +kernel
theorem V.dX17_state_97 : decode cX17_state 97 = .ok (.iconst 0, 1) := by decide +kernel
theorem V.dX17_state_98 : decode cX17_state 98 = .ok (.ireturn, 1) := by decide +kernel
theorem V.dX17_state_99 : decode cX17_state 99 = .ok (.aload_n 0, 1) := by decide +kernel
theorem V.dX17_state_100 : decode cX17_state 100 = .ok (.getfield 970, 3) := by decide +kernel
theorem V.dX17_state_103 : decode cX17_state 103 = .ok (.iconst 5, 1) := by decide +kernel
theorem V.dX17_state_104 : decode cX17_state 104 = .ok (.if_icmp .ne 10, 3) := by decide +kernel
theorem V.dX17_state_107 : decode cX17_state 107 = .ok (.aload_n 0, 1) := by decide +kernel
theorem V.dX17_state_108 : decode cX17_state 108 = .ok (.getfield 164, 3) := by decide +kernel
theorem V.dX17_state_111 : decode cX17_state 111 = .ok (.goto 4, 3) := by decide +kernel
theorem V.dX17_state_114 : decode cX17_state 114 = .ok (.iconst (-1), 1) := by decide +kernel
theorem V.dX17_state_115 : decode cX17_state 115 = .ok (.ireturn, 1) := by decide +kernel
theorem V.dX17_state_116 : decode cX17_state 116 = .ok (.aload_n 0, 1) := by decide +kernel
theorem V.dX17_state_117 : decode cX17_state 117 = .ok (.getfield 218, 3) := by decide +kernel
theorem V.dX17_state_120 : decode cX17_state 120 = .ok (.ireturn, 1) := by decide +kernel
theorem V.dX17_state_121 : decode cX17_state 121 = .ok (.aload_n 0, 1) := by decide +kernel
theorem V.dX17_state_122 : decode cX17_state 122 = .ok (.getfield 949, 3) := by decide +kernel
theorem V.dX17_state_125 : decode cX17_state 125 = .ok (.ireturn, 1) := by decide +kernel
theorem V.dX17_state_126 : decode cX17_state 126 = .ok (.aload_n 0, 1) := by decide +kernel
theorem V.dX17_state_127 : decode cX17_state 127 = .ok (.getfield 977, 3) := by decide +kernel
theorem V.dX17_state_130 : decode cX17_state 130 = .ok (.ireturn, 1) := by decide +kernel
theorem V.dX17_state_131 : decode cX17_state 131 = .ok (.aload_n 0, 1) := by decide +kernel
theorem V.dX17_state_132 : decode cX17_state 132 = .ok (.getfield 106, 3) := by decide +kernel
theorem V.dX17_state_135 : decode cX17_state 135 = .ok (.ireturn, 1) := by decide +kernel
theorem V.dX17_state_136 : decode cX17_state 136 = .ok (.aload_n 0, 1) := by decide +kernel
theorem V.dX17_state_137 : decode cX17_state 137 = .ok (.getfield 89, 3) := by decide +kernel
theorem V.dX17_state_140 : decode cX17_state 140 = .ok (.ireturn, 1) := by decide +kernel
theorem V.dX17_state_141 : decode cX17_state 141 = .ok (.aload_n 0, 1) := by decide +kernel
theorem V.dX17_state_142 : decode cX17_state 142 = .ok (.getfield 215, 3) := by decide +kernel
theorem V.dX17_state_145 : decode cX17_state 145 = .ok (.ireturn, 1) := by decide +kernel
theorem V.dX17_state_146 : decode cX17_state 146 = .ok (.aload_n 0, 1) := by decide +kernel
theorem V.dX17_state_147 : decode cX17_state 147 = .ok (.getfield 1120, 3) := by decide +kernel
theorem V.dX17_state_150 : decode cX17_state 150 = .ok (.ireturn, 1) := by decide +kernel
theorem V.dX17_state_151 : decode cX17_state 151 = .ok (.iconst 0, 1) := by decide +kernel
theorem V.dX17_state_152 : decode cX17_state 152 = .ok (.ireturn, 1) := by decide +kernel
theorem V.dX17_state_153 : decode cX17_state 153 = .ok (.iconst (-1), 1) := by decide +kernel
theorem V.dX17_state_154 : decode cX17_state 154 = .ok (.ireturn, 1) := by decide +kernel
theorem V.fdX17_1046 : FD RX17 1046 17 77 0 := ⟨(RX17, TX17, 101), tyX17, rfl, rfl, in_X17, by decide, Or.inl q3113, rfl⟩
theorem V.fdX17_164 : FD RX17 164 17 79 0 := ⟨(RX17, TX17, 101), tyX17, rfl, rfl, in_X17, by decide, Or.inl q3115, rfl⟩
/-! ModuleEngineModel.state(I)I -/
def V.Mdl_state (σ : HS) (x0 : Nat) (x1 : Int32) : Option (Int32 × HS) :=
  swx x1 [
    (0, (
      ck (tg σ x0 = 18) <|
      some (gI σ x0 76, σ))),
    (1, (
      ck (tg σ x0 = 18) <|
      some (gI σ x0 77, σ))),
    (2, (
      ck (tg σ x0 = 18) <|
      some (gI σ x0 78, σ))),
    (3, (
      ck (tg σ x0 = 18) <| cl (Mdl_runs σ x0 ) fun r2 σ1 =>
      if r2 = 0 then (
        some ((0 : Int32), σ1))
      else (
        ck (tg σ1 x0 = 18) <|
        some (gI σ1 x0 85, σ1)))),
    (4, (
      ck (tg σ x0 = 18) <|
      if (gI σ x0 76) = (5 : Int32) then (
        ck (tg σ x0 = 18) <|
        some (gI σ x0 79, σ))
      else (
        some ((-1 : Int32), σ)))),
    (5, (
      ck (tg σ x0 = 18) <|
      some (gI σ x0 3, σ))),
    (6, (
      ck (tg σ x0 = 18) <|
      some (gI σ x0 62, σ))),
    (7, (
      ck (tg σ x0 = 18) <|
      some (gI σ x0 36, σ))),
    (8, (
      ck (tg σ x0 = 18) <|
      some (gI σ x0 53, σ))),
    (9, (
      ck (tg σ x0 = 18) <|
      some (gI σ x0 47, σ))),
    (10, (
      ck (tg σ x0 = 18) <|
      some (gI σ x0 1, σ))),
    (11, (
      ck (tg σ x0 = 18) <|
      some (gI σ x0 45, σ))),
    (12, (
      some ((0 : Int32), σ)))
    ] (
    some ((-1 : Int32), σ))
theorem V.ctX17_state (x0 : Nat) (x1 : Int32) : Ct yX17_state  cX17_state 2 (some .int) 1 20 eI [av x0, iv x1] (fun σ => Mdl_state σ x0 x1) := by
  refine Ct.of (own := RX17) (nm := "state") (desc := "(I)I") rfl (by decide) (Nat.le_of_ble_eq_true rfl) (by decide) (fun X σ => ?_)
  show G X RX17 "state" cX17_state 2 (some .int) 1 20 enI 0 [(0, av x0), (1, iv x1)] [] σ (Mdl_state σ x0 x1)
  unfold Mdl_state
  refine g_iload_n 1 1 dX17_state_0 rfl rfl ?_
  refine g_tsw dX17_state_1 (by decide +kernel) ?_
  refine g_case ex0 (t := 68) (by decide +kernel) ?_ (fun hx => ?_)
  · refine g_aload_n 0 0 dX17_state_68 rfl rfl ?_
    refine g_getI fdX17_970 dX17_state_69 ?_
    exact g_ireturn rfl dX17_state_72
  refine g_case hx (t := 73) (by decide +kernel) ?_ (fun hx => ?_)
  · refine g_aload_n 0 0 dX17_state_73 rfl rfl ?_
    refine g_getI fdX17_1046 dX17_state_74 ?_
    exact g_ireturn rfl dX17_state_77
  refine g_case hx (t := 78) (by decide +kernel) ?_ (fun hx => ?_)
  · refine g_aload_n 0 0 dX17_state_78 rfl rfl ?_
    refine g_getI fdX17_1049 dX17_state_79 ?_
    exact g_ireturn rfl dX17_state_82
  refine g_case hx (t := 83) (by decide +kernel) ?_ (fun hx => ?_)
  · refine g_aload_n 0 0 dX17_state_83 rfl rfl ?_
    refine g_callV (fc := fun sς => Mdl_runs sς x0 ) (ci := 17) (as := []) rfl rfl rfl q4027 qs293 mdX17_986 (ctX17_runs x0 ) rfl (Nat.le_of_ble_eq_true rfl) (Nat.le_of_ble_eq_true rfl) (Nat.le_of_ble_eq_true rfl) pu_I dX17_state_84 (fun r2 σ1 => ?_)
    refine g_if_eq 97 dX17_state_87 (by decide) ?_ ?_
    · refine g_iconst (v := 0) dX17_state_97 (by decide) ?_
      exact g_ireturn rfl dX17_state_98
    · refine g_aload_n 0 0 dX17_state_90 rfl rfl ?_
      refine g_getI fdX17_1052 dX17_state_91 ?_
      refine g_goto 98 dX17_state_94 (by decide) ?_
      exact g_ireturn rfl dX17_state_98
  refine g_case hx (t := 99) (by decide +kernel) ?_ (fun hx => ?_)
  · refine g_aload_n 0 0 dX17_state_99 rfl rfl ?_
    refine g_getI fdX17_970 dX17_state_100 ?_
    refine g_iconst (v := 5) dX17_state_103 (by decide) ?_
    refine g_icmp_ne 114 dX17_state_104 (by decide) ?_ ?_
    · refine g_iconst (v := (-1)) dX17_state_114 (by decide) ?_
      exact g_ireturn rfl dX17_state_115
    · refine g_aload_n 0 0 dX17_state_107 rfl rfl ?_
      refine g_getI fdX17_164 dX17_state_108 ?_
      refine g_goto 115 dX17_state_111 (by decide) ?_
      exact g_ireturn rfl dX17_state_115
  refine g_case hx (t := 116) (by decide +kernel) ?_ (fun hx => ?_)
  · refine g_aload_n 0 0 dX17_state_116 rfl rfl ?_
    refine g_getI fdX17_218 dX17_state_117 ?_
    exact g_ireturn rfl dX17_state_120
  refine g_case hx (t := 121) (by decide +kernel) ?_ (fun hx => ?_)
  · refine g_aload_n 0 0 dX17_state_121 rfl rfl ?_
    refine g_getI fdX17_949 dX17_state_122 ?_
    exact g_ireturn rfl dX17_state_125
  refine g_case hx (t := 126) (by decide +kernel) ?_ (fun hx => ?_)
  · refine g_aload_n 0 0 dX17_state_126 rfl rfl ?_
    refine g_getI fdX17_977 dX17_state_127 ?_
    exact g_ireturn rfl dX17_state_130
  refine g_case hx (t := 131) (by decide +kernel) ?_ (fun hx => ?_)
  · refine g_aload_n 0 0 dX17_state_131 rfl rfl ?_
    refine g_getI fdX17_106 dX17_state_132 ?_
    exact g_ireturn rfl dX17_state_135
  refine g_case hx (t := 136) (by decide +kernel) ?_ (fun hx => ?_)
  · refine g_aload_n 0 0 dX17_state_136 rfl rfl ?_
    refine g_getI fdX17_89 dX17_state_137 ?_
    exact g_ireturn rfl dX17_state_140
  refine g_case hx (t := 141) (by decide +kernel) ?_ (fun hx => ?_)
  · refine g_aload_n 0 0 dX17_state_141 rfl rfl ?_
    refine g_getI fdX17_215 dX17_state_142 ?_
    exact g_ireturn rfl dX17_state_145
  refine g_case hx (t := 146) (by decide +kernel) ?_ (fun hx => ?_)
  · refine g_aload_n 0 0 dX17_state_146 rfl rfl ?_
    refine g_getI fdX17_1120 dX17_state_147 ?_
    exact g_ireturn rfl dX17_state_150
  refine g_case hx (t := 151) (by decide +kernel) ?_ (fun hx => ?_)
  · refine g_iconst (v := 0) dX17_state_151 (by decide) ?_
    exact g_ireturn rfl dX17_state_152
  refine g_dflt (t := 153) (tswT_d (by decide +kernel) (by decide +kernel) hx) ?_
  refine g_iconst (v := (-1)) dX17_state_153 (by decide) ?_
  exact g_ireturn rfl dX17_state_154
theorem V.dX17_value_0 : decode cX17_value 0 = .ok (.aload_n 0, 1) := by decide +kernel
theorem V.dX17_value_1 : decode cX17_value 1 = .ok (.getfield 970, 3) := by decide +kernel
theorem V.dX17_value_4 : decode cX17_value 4 = .ok (.iconst 2, 1) := by decide +kernel
theorem V.dX17_value_5 : decode cX17_value 5 = .ok (.if_icmp .eq 11, 3) := by decide +kernel
theorem V.dX17_value_8 : decode cX17_value 8 = .ok (.aload_n 0, 1) := by decide +kernel
theorem V.dX17_value_9 : decode cX17_value 9 = .ok (.getfield 970, 3) := by decide +kernel
theorem V.dX17_value_12 : decode cX17_value 12 = .ok (.iconst 5, 1) := by decide +kernel
theorem V.dX17_value_13 : decode cX17_value 13 = .ok (.if_icmp .ne 24, 3) := by decide +kernel
theorem V.dX17_value_16 : decode cX17_value 16 = .ok (.iload_n 1, 1) := by decide +kernel
theorem V.dX17_value_17 : decode cX17_value 17 = .ok (.ifCond .lt 20, 3) := by decide +kernel
theorem V.dX17_value_20 : decode cX17_value 20 = .ok (.iload_n 1, 1) := by decide +kernel
theorem V.dX17_value_21 : decode cX17_value 21 = .ok (.aload_n 0, 1) := by decide +kernel
theorem V.dX17_value_22 : decode cX17_value 22 = .ok (.getfield 1098, 3) := by decide +kernel
theorem V.dX17_value_25 : decode cX17_value 25 = .ok (.if_icmp .ge 12, 3) := by decide +kernel
theorem V.dX17_value_28 : decode cX17_value 28 = .ok (.aload_n 0, 1) := by decide +kernel
theorem V.dX17_value_29 : decode cX17_value 29 = .ok (.getfield 170, 3) := by decide +kernel
theorem V.dX17_value_32 : decode cX17_value 32 = .ok (.iload_n 1, 1) := by decide +kernel
theorem V.dX17_value_33 : decode cX17_value 33 = .ok (.laload, 1) := by decide +kernel
theorem V.dX17_value_34 : decode cX17_value 34 = .ok (.goto 4, 3) := by decide +kernel
theorem V.dX17_value_37 : decode cX17_value 37 = .ok (.lconst 0, 1) := by decide +kernel
theorem V.dX17_value_38 : decode cX17_value 38 = .ok (.lreturn, 1) := by decide +kernel
theorem V.fdX17_1098 : FD RX17 1098 17 83 0 := ⟨(RX17, TX17, 101), tyX17, rfl, rfl, in_X17, by decide, Or.inl q3119, rfl⟩
/-! ModuleEngineModel.value(I)J -/
def V.Mdl_value_p16  (σ : HS) (x0 : Nat) (x1 : Int32) : Option (Int64 × HS) :=
  if x1 < 0 then (
    some ((0 : Int64), σ))
  else (
    ck (tg σ x0 = 18) <|
    if (gI σ x0 83) ≤ x1 then (
      some ((0 : Int64), σ))
    else (
      ck (tg σ x0 = 18) <|
      ck (tg σ (gR σ x0 84) = 101 ∧ inb x1 (ln σ (gR σ x0 84))) <|
      some (gJ σ (gR σ x0 84) (ix x1), σ)))
theorem V.gX17_value_p16 {X : CX}  (σ : HS) (x0 : Nat) (x1 : Int32) : G X RX17 "value" cX17_value 2 (some .long) 0 0 enJ 16 [(0, av x0), (1, iv x1)] [] σ (Mdl_value_p16 σ x0 x1) := by
  unfold Mdl_value_p16
  refine g_iload_n 1 1 dX17_value_16 rfl rfl ?_
  refine g_if_lt 37 dX17_value_17 (by decide) ?_ ?_
  · refine g_lconst (v := 0) dX17_value_37 (by decide) ?_
    exact g_lreturn rfl dX17_value_38
  · refine g_iload_n 1 1 dX17_value_20 rfl rfl ?_
    refine g_aload_n 0 0 dX17_value_21 rfl rfl ?_
    refine g_getI fdX17_1098 dX17_value_22 ?_
    refine g_icmp_ge 37 dX17_value_25 (by decide) ?_ ?_
    · refine g_lconst (v := 0) dX17_value_37 (by decide) ?_
      exact g_lreturn rfl dX17_value_38
    · refine g_aload_n 0 0 dX17_value_28 rfl rfl ?_
      refine g_getR fdX17_170 dX17_value_29 ?_
      refine g_iload_n 1 1 dX17_value_32 rfl rfl ?_
      refine g_laload dX17_value_33 ?_
      refine g_goto 38 dX17_value_34 (by decide) ?_
      exact g_lreturn rfl dX17_value_38
def V.Mdl_value (σ : HS) (x0 : Nat) (x1 : Int32) : Option (Int64 × HS) :=
  ck (tg σ x0 = 18) <|
  if (gI σ x0 76) = (2 : Int32) then (
    Mdl_value_p16 σ x0 x1)
  else (
    ck (tg σ x0 = 18) <|
    if (gI σ x0 76) = (5 : Int32) then (
      Mdl_value_p16 σ x0 x1)
    else (
      some ((0 : Int64), σ)))
theorem V.ctX17_value (x0 : Nat) (x1 : Int32) : Ct yX17_value  cX17_value 2 (some .long) 0 0 eJ [av x0, iv x1] (fun σ => Mdl_value σ x0 x1) := by
  refine Ct.of (own := RX17) (nm := "value") (desc := "(I)J") rfl (by decide) (Nat.le_of_ble_eq_true rfl) (by decide) (fun X σ => ?_)
  show G X RX17 "value" cX17_value 2 (some .long) 0 0 enJ 0 [(0, av x0), (1, iv x1)] [] σ (Mdl_value σ x0 x1)
  unfold Mdl_value
  refine g_aload_n 0 0 dX17_value_0 rfl rfl ?_
  refine g_getI fdX17_970 dX17_value_1 ?_
  refine g_iconst (v := 2) dX17_value_4 (by decide) ?_
  refine g_icmp_eq 16 dX17_value_5 (by decide) ?_ ?_
  · exact gX17_value_p16 _ _ _
  · refine g_aload_n 0 0 dX17_value_8 rfl rfl ?_
    refine g_getI fdX17_970 dX17_value_9 ?_
    refine g_iconst (v := 5) dX17_value_12 (by decide) ?_
    refine g_icmp_ne 37 dX17_value_13 (by decide) ?_ ?_
    · refine g_lconst (v := 0) dX17_value_37 (by decide) ?_
      exact g_lreturn rfl dX17_value_38
    · exact gX17_value_p16 _ _ _
theorem V.dX17_tier_0 : decode cX17_tier 0 = .ok (.iload_n 1, 1) := by decide +kernel
theorem V.dX17_tier_1 : decode cX17_tier 1 = .ok (.ifCond .ge 5, 3) := by decide +kernel
theorem V.dX17_tier_4 : decode cX17_tier 4 = .ok (.iconst (-1), 1) := by decide +kernel
theorem V.dX17_tier_5 : decode cX17_tier 5 = .ok (.ireturn, 1) := by decide +kernel
theorem V.dX17_tier_6 : decode cX17_tier 6 = .ok (.aload_n 0, 1) := by decide +kernel
theorem V.dX17_tier_7 : decode cX17_tier 7 = .ok (.getfield 1117, 3) := by decide +kernel
theorem V.dX17_tier_10 : decode cX17_tier 10 = .ok (.istore_n 2, 1) := by decide +kernel
theorem V.dX17_tier_11 : decode cX17_tier 11 = .ok (.aload_n 0, 1) := by decide +kernel
theorem V.dX17_tier_12 : decode cX17_tier 12 = .ok (.iload_n 1, 1) := by decide +kernel
theorem V.dX17_tier_13 : decode cX17_tier 13 = .ok (.putfield 1117, 3) := by decide +kernel
theorem V.dX17_tier_16 : decode cX17_tier 16 = .ok (.iload_n 2, 1) := by decide +kernel
theorem V.dX17_tier_17 : decode cX17_tier 17 = .ok (.ireturn, 1) := by decide +kernel
theorem V.fpX17_1117 {nm : String} : FP RX17 nm 1117 17 44 (.int) := ⟨(RX17, TX17, 101), tyX17, rfl, rfl, in_X17, by decide, tyX17_ok, nmX17, rfl, Or.inl ⟨rfl, Or.inl q3080⟩⟩
/-! ModuleEngineModel.tier(I)I -/
def V.Mdl_tier (σ : HS) (x0 : Nat) (x1 : Int32) : Option (Int32 × HS) :=
  if 0 ≤ x1 then (
    ck (tg σ x0 = 18) <|
    bn (gI σ x0 44) fun y1 =>
    ck (tg σ x0 = 18) <| bn (sI σ x0 44 x1) fun σ2 =>
    some (y1, σ2))
  else (
    some ((-1 : Int32), σ))
theorem V.ctX17_tier (x0 : Nat) (x1 : Int32) : Ct yX17_tier  cX17_tier 3 (some .int) 0 0 eI [av x0, iv x1] (fun σ => Mdl_tier σ x0 x1) := by
  refine Ct.of (own := RX17) (nm := "tier") (desc := "(I)I") rfl (by decide) (Nat.le_of_ble_eq_true rfl) (by decide) (fun X σ => ?_)
  show G X RX17 "tier" cX17_tier 3 (some .int) 0 0 enI 0 [(0, av x0), (1, iv x1)] [] σ (Mdl_tier σ x0 x1)
  unfold Mdl_tier
  refine g_iload_n 1 1 dX17_tier_0 rfl rfl ?_
  refine g_if_ge 6 dX17_tier_1 (by decide) ?_ ?_
  · refine g_aload_n 0 0 dX17_tier_6 rfl rfl ?_
    refine g_getI fdX17_1117 dX17_tier_7 ?_
    refine g_nmI (fun y1 => ?_)
    refine g_istore_n 2 dX17_tier_10 rfl (by decide) rfl ?_
    refine g_aload_n 0 1 dX17_tier_11 rfl rfl ?_
    refine g_iload_n 1 2 dX17_tier_12 rfl rfl ?_
    refine g_putI fpX17_1117 dX17_tier_13 (fun σ2 => ?_)
    refine g_iload_n 2 0 dX17_tier_16 rfl rfl ?_
    exact g_ireturn rfl dX17_tier_17
  · refine g_iconst (v := (-1)) dX17_tier_4 (by decide) ?_
    exact g_ireturn rfl dX17_tier_5
theorem V.dX17_export_0 : decode cX17_export 0 = .ok (.aload_n 0, 1) := by decide +kernel
theorem V.dX17_export_1 : decode cX17_export 1 = .ok (.iload_n 1, 1) := by decide +kernel
theorem V.dX17_export_2 : decode cX17_export 2 = .ok (.iload_n 2, 1) := by decide +kernel
theorem V.dX17_export_3 : decode cX17_export 3 = .ok (.invokevirtual 961, 3) := by decide +kernel
theorem V.dX17_export_6 : decode cX17_export 6 = .ok (.ifCond .ne 5, 3) := by decide +kernel
theorem V.dX17_export_9 : decode cX17_export 9 = .ok (.iconst (-1), 1) := by decide +kernel
theorem V.dX17_export_10 : decode cX17_export 10 = .ok (.ireturn, 1) := by decide +kernel
theorem V.dX17_export_11 : decode cX17_export 11 = .ok (.aload_n 0, 1) := by decide +kernel
theorem V.dX17_export_12 : decode cX17_export 12 = .ok (.iload_n 1, 1) := by decide +kernel
theorem V.dX17_export_13 : decode cX17_export 13 = .ok (.iload_n 2, 1) := by decide +kernel
theorem V.dX17_export_14 : decode cX17_export 14 = .ok (.invokevirtual 955, 3) := by decide +kernel
theorem V.dX17_export_17 : decode cX17_export 17 = .ok (.istore 4, 2) := by decide +kernel
theorem V.dX17_export_19 : decode cX17_export 19 = .ok (.aload_n 0, 1) := by decide +kernel
theorem V.dX17_export_20 : decode cX17_export 20 = .ok (.iload_n 1, 1) := by decide +kernel
theorem V.dX17_export_21 : decode cX17_export 21 = .ok (.iload_n 2, 1) := by decide +kernel
theorem V.dX17_export_22 : decode cX17_export 22 = .ok (.invokevirtual 964, 3) := by decide +kernel
theorem V.dX17_export_25 : decode cX17_export 25 = .ok (.istore 5, 2) := by decide +kernel
theorem V.dX17_export_27 : decode cX17_export 27 = .ok (.iload_n 3, 1) := by decide +kernel
theorem V.dX17_export_28 : decode cX17_export 28 = .ok (.tableswitch 130 0 5 #[40, 43, 46, 62, 78, 112], 40) := by decide +kernel
theorem V.dX17_export_68 : decode cX17_export 68 = .ok (.iload 4, 2) := by decide +kernel
theorem V.dX17_export_70 : decode cX17_export 70 = .ok (.ireturn, 1) := by decide +kernel
theorem V.dX17_export_71 : decode cX17_export 71 = .ok (.iload 5, 2) := by decide +kernel
theorem V.dX17_export_73 : decode cX17_export 73 = .ok (.ireturn, 1) := by decide +kernel
theorem V.dX17_export_74 : decode cX17_export 74 = .ok (.iload 4, 2) := by decide +kernel
theorem V.dX17_export_76 : decode cX17_export 76 = .ok (.ifCond .ne 12, 3) := by decide +kernel
theorem V.dX17_export_79 : decode cX17_export 79 = .ok (.aload_n 0, 1) := by decide +kernel
theorem V.dX17_export_80 : decode cX17_export 80 = .ok (.iload 5, 2) := by decide +kernel
theorem V.dX17_export_82 : decode cX17_export 82 = .ok (.invokevirtual 1077, 3) := by decide +kernel
theorem V.dX17_export_85 : decode cX17_export 85 = .ok (.goto 4, 3) := by decide +kernel
theorem V.dX17_export_88 : decode cX17_export 88 = .ok (.iconst (-1), 1) := by decide +kernel
theorem V.dX17_export_89 : decode cX17_export 89 = .ok (.ireturn, 1) := by decide +kernel
theorem V.dX17_export_90 : decode cX17_export 90 = .ok (.iload 4, 2) := by decide +kernel
theorem V.dX17_export_92 : decode cX17_export 92 = .ok (.ifCond .ne 12, 3) := by decide +kernel
theorem V.dX17_export_95 : decode cX17_export 95 = .ok (.aload_n 0, 1) := by decide +kernel
theorem V.dX17_export_96 : decode cX17_export 96 = .ok (.iload 5, 2) := by decide +kernel
theorem V.dX17_export_98 : decode cX17_export 98 = .ok (.invokevirtual 1129, 3) := by decide +kernel
theorem V.dX17_export_101 : decode cX17_export 101 = .ok (.goto 4, 3) := by decide +kernel
theorem V.dX17_export_104 : decode cX17_export 104 = .ok (.iconst (-1), 1) := by decide +kernel
theorem V.dX17_export_105 : decode cX17_export 105 = .ok (.ireturn, 1) := by decide +kernel
theorem V.dX17_export_106 : decode cX17_export 106 = .ok (.iload 4, 2) := by decide +kernel
theorem V.dX17_export_108 : decode cX17_export 108 = .ok (.iconst 1, 1) := by decide +kernel
theorem V.dX17_export_109 : decode cX17_export 109 = .ok (.if_icmp .ne 13, 3) := by decide +kernel
theorem V.dX17_export_112 : decode cX17_export 112 = .ok (.aload_n 0, 1) := by decide +kernel
theorem V.dX17_export_113 : decode cX17_export 113 = .ok (.getfield 96, 3) := by decide +kernel
theorem V.dX17_export_116 : decode cX17_export 116 = .ok (.iload 5, 2) := by decide +kernel
theorem V.dX17_export_118 : decode cX17_export 118 = .ok (.iaload, 1) := by decide +kernel
theorem V.dX17_export_119 : decode cX17_export 119 = .ok (.goto 20, 3) := by decide +kernel
theorem V.dX17_export_122 : decode cX17_export 122 = .ok (.iload 4, 2) := by decide +kernel
theorem V.dX17_export_124 : decode cX17_export 124 = .ok (.iconst 2, 1) := by decide +kernel
theorem V.dX17_export_125 : decode cX17_export 125 = .ok (.if_icmp .ne 13, 3) := by decide +kernel
theorem V.dX17_export_128 : decode cX17_export 128 = .ok (.aload_n 0, 1) := by decide +kernel
theorem V.dX17_export_129 : decode cX17_export 129 = .ok (.getfield 109, 3) := by decide +kernel
theorem V.dX17_export_132 : decode cX17_export 132 = .ok (.iload 5, 2) := by decide +kernel
theorem V.dX17_export_134 : decode cX17_export 134 = .ok (.iaload, 1) := by decide +kernel
theorem V.dX17_export_135 : decode cX17_export 135 = .ok (.goto 4, 3) := by decide +kernel
theorem V.dX17_export_138 : decode cX17_export 138 = .ok (.iconst (-1), 1) := by decide +kernel
theorem V.dX17_export_139 : decode cX17_export 139 = .ok (.ireturn, 1) := by decide +kernel
theorem V.dX17_export_140 : decode cX17_export 140 = .ok (.iload 4, 2) := by decide +kernel
theorem V.dX17_export_142 : decode cX17_export 142 = .ok (.iconst 3, 1) := by decide +kernel
theorem V.dX17_export_143 : decode cX17_export 143 = .ok (.if_icmp .ne 13, 3) := by decide +kernel
theorem V.dX17_export_146 : decode cX17_export 146 = .ok (.aload_n 0, 1) := by decide +kernel
theorem V.dX17_export_147 : decode cX17_export 147 = .ok (.getfield 122, 3) := by decide +kernel
theorem V.dX17_export_150 : decode cX17_export 150 = .ok (.iload 5, 2) := by decide +kernel
theorem V.dX17_export_152 : decode cX17_export 152 = .ok (.iaload, 1) := by decide +kernel
theorem V.dX17_export_153 : decode cX17_export 153 = .ok (.goto 4, 3) := by decide +kernel
theorem V.dX17_export_156 : decode cX17_export 156 = .ok (.iconst (-1), 1) := by decide +kernel
theorem V.dX17_export_157 : decode cX17_export 157 = .ok (.ireturn, 1) := by decide +kernel
theorem V.dX17_export_158 : decode cX17_export 158 = .ok (.iconst (-1), 1) := by decide +kernel
theorem V.dX17_export_159 : decode cX17_export 159 = .ok (.ireturn, 1) := by decide +kernel
/-! ModuleEngineModel.export(III)I -/
def V.Mdl_export (σ : HS) (x0 : Nat) (x1 : Int32) (x2 : Int32) (x3 : Int32) : Option (Int32 × HS) :=
  ck (tg σ x0 = 18) <| cl (Mdl_isExport σ x0 x1 x2) fun r2 σ1 =>
  if r2 = 0 then (
    some ((-1 : Int32), σ1))
  else (
    ck (tg σ1 x0 = 18) <| cl (Mdl_exportKind σ1 x0 x1 x2) fun r4 σ3 =>
    ck (tg σ3 x0 = 18) <| cl (Mdl_exported σ3 x0 x1 x2) fun r6 σ5 =>
    swx x3 [
      (0, (
        some (r4, σ5))),
      (1, (
        some (r6, σ5))),
      (2, (
        if r4 = 0 then (
          ck (tg σ5 x0 = 18) <| cl (Mdl_parametersIn σ5 x0 r6) fun r8 σ7 =>
          some (r8, σ7))
        else (
          some ((-1 : Int32), σ5)))),
      (3, (
        if r4 = 0 then (
          ck (tg σ5 x0 = 18) <| cl (Mdl_resultsIn σ5 x0 r6) fun r10 σ9 =>
          some (r10, σ9))
        else (
          some ((-1 : Int32), σ5)))),
      (4, (
        if r4 = (1 : Int32) then (
          ck (tg σ5 x0 = 18) <|
          ck (tg σ5 (gR σ5 x0 49) = 100 ∧ inb r6 (ln σ5 (gR σ5 x0 49))) <|
          some (gI σ5 (gR σ5 x0 49) (ix r6), σ5))
        else (
          if r4 = (2 : Int32) then (
            ck (tg σ5 x0 = 18) <|
            ck (tg σ5 (gR σ5 x0 54) = 100 ∧ inb r6 (ln σ5 (gR σ5 x0 54))) <|
            some (gI σ5 (gR σ5 x0 54) (ix r6), σ5))
          else (
            some ((-1 : Int32), σ5))))),
      (5, (
        if r4 = (3 : Int32) then (
          ck (tg σ5 x0 = 18) <|
          ck (tg σ5 (gR σ5 x0 59) = 100 ∧ inb r6 (ln σ5 (gR σ5 x0 59))) <|
          some (gI σ5 (gR σ5 x0 59) (ix r6), σ5))
        else (
          some ((-1 : Int32), σ5))))
      ] (
      some ((-1 : Int32), σ5)))
theorem V.ctX17_export (x0 : Nat) (x1 : Int32) (x2 : Int32) (x3 : Int32) : Ct yX17_export  cX17_export 6 (some .int) 2 46 eI [av x0, iv x1, iv x2, iv x3] (fun σ => Mdl_export σ x0 x1 x2 x3) := by
  refine Ct.of (own := RX17) (nm := "export") (desc := "(III)I") rfl (by decide) (Nat.le_of_ble_eq_true rfl) (by decide) (fun X σ => ?_)
  show G X RX17 "export" cX17_export 6 (some .int) 2 46 enI 0 [(0, av x0), (1, iv x1), (2, iv x2), (3, iv x3)] [] σ (Mdl_export σ x0 x1 x2 x3)
  unfold Mdl_export
  refine g_aload_n 0 0 dX17_export_0 rfl rfl ?_
  refine g_iload_n 1 1 dX17_export_1 rfl rfl ?_
  refine g_iload_n 2 2 dX17_export_2 rfl rfl ?_
  refine g_callV (fc := fun sς => Mdl_isExport sς x0 x1 x2) (ci := 17) (as := [iv x1, iv x2]) rfl rfl rfl q4003 qs288 mdX17_961 (ctX17_isExport x0 x1 x2) rfl (Nat.le_of_ble_eq_true rfl) (Nat.le_of_ble_eq_true rfl) (Nat.le_of_ble_eq_true rfl) pu_I dX17_export_3 (fun r2 σ1 => ?_)
  refine g_if_ne 11 dX17_export_6 (by decide) ?_ ?_
  · refine g_aload_n 0 0 dX17_export_11 rfl rfl ?_
    refine g_iload_n 1 1 dX17_export_12 rfl rfl ?_
    refine g_iload_n 2 2 dX17_export_13 rfl rfl ?_
    refine g_callV (fc := fun sς => Mdl_exportKind sς x0 x1 x2) (ci := 17) (as := [iv x1, iv x2]) rfl rfl rfl q4011 qs290 mdX17_955 (ctX17_exportKind x0 x1 x2) rfl (Nat.le_of_ble_eq_true rfl) (Nat.le_of_ble_eq_true rfl) (Nat.le_of_ble_eq_true rfl) pu_I dX17_export_14 (fun r4 σ3 => ?_)
    refine g_istore dX17_export_17 (by decide) rfl ?_
    refine g_aload_n 0 1 dX17_export_19 rfl rfl ?_
    refine g_iload_n 1 2 dX17_export_20 rfl rfl ?_
    refine g_iload_n 2 3 dX17_export_21 rfl rfl ?_
    refine g_callV (fc := fun sς => Mdl_exported sς x0 x1 x2) (ci := 17) (as := [iv x1, iv x2]) rfl rfl rfl q4015 qs291 mdX17_964 (ctX17_exported x0 x1 x2) rfl (Nat.le_of_ble_eq_true rfl) (Nat.le_of_ble_eq_true rfl) (Nat.le_of_ble_eq_true rfl) pu_I dX17_export_22 (fun r6 σ5 => ?_)
    refine g_istore dX17_export_25 (by decide) rfl ?_
    refine g_iload_n 3 5 dX17_export_27 rfl rfl ?_
    refine g_tsw dX17_export_28 (by decide +kernel) ?_
    refine g_case ex0 (t := 68) (by decide +kernel) ?_ (fun hx => ?_)
    · refine g_iload 1 dX17_export_68 rfl ?_
      exact g_ireturn rfl dX17_export_70
    refine g_case hx (t := 71) (by decide +kernel) ?_ (fun hx => ?_)
    · refine g_iload 0 dX17_export_71 rfl ?_
      exact g_ireturn rfl dX17_export_73
    refine g_case hx (t := 74) (by decide +kernel) ?_ (fun hx => ?_)
    · refine g_iload 1 dX17_export_74 rfl ?_
      refine g_if_ne 88 dX17_export_76 (by decide) ?_ ?_
      · refine g_iconst (v := (-1)) dX17_export_88 (by decide) ?_
        exact g_ireturn rfl dX17_export_89
      · refine g_aload_n 0 2 dX17_export_79 rfl rfl ?_
        refine g_iload 0 dX17_export_80 rfl ?_
        refine g_callV (fc := fun sς => Mdl_parametersIn sς x0 r6) (ci := 17) (as := [iv r6]) rfl rfl rfl q4117 qs315 mdX17_1077 (ctX17_parametersIn x0 r6) rfl (Nat.le_of_ble_eq_true rfl) (Nat.le_of_ble_eq_true rfl) (Nat.le_of_ble_eq_true rfl) pu_I dX17_export_82 (fun r8 σ7 => ?_)
        refine g_goto 89 dX17_export_85 (by decide) ?_
        exact g_ireturn rfl dX17_export_89
    refine g_case hx (t := 90) (by decide +kernel) ?_ (fun hx => ?_)
    · refine g_iload 1 dX17_export_90 rfl ?_
      refine g_if_ne 104 dX17_export_92 (by decide) ?_ ?_
      · refine g_iconst (v := (-1)) dX17_export_104 (by decide) ?_
        exact g_ireturn rfl dX17_export_105
      · refine g_aload_n 0 2 dX17_export_95 rfl rfl ?_
        refine g_iload 0 dX17_export_96 rfl ?_
        refine g_callV (fc := fun sς => Mdl_resultsIn sς x0 r6) (ci := 17) (as := [iv r6]) rfl rfl rfl q4145 qs322 mdX17_1129 (ctX17_resultsIn x0 r6) rfl (Nat.le_of_ble_eq_true rfl) (Nat.le_of_ble_eq_true rfl) (Nat.le_of_ble_eq_true rfl) pu_I dX17_export_98 (fun r10 σ9 => ?_)
        refine g_goto 105 dX17_export_101 (by decide) ?_
        exact g_ireturn rfl dX17_export_105
    refine g_case hx (t := 106) (by decide +kernel) ?_ (fun hx => ?_)
    · refine g_iload 1 dX17_export_106 rfl ?_
      refine g_iconst (v := 1) dX17_export_108 (by decide) ?_
      refine g_icmp_ne 122 dX17_export_109 (by decide) ?_ ?_
      · refine g_iload 1 dX17_export_122 rfl ?_
        refine g_iconst (v := 2) dX17_export_124 (by decide) ?_
        refine g_icmp_ne 138 dX17_export_125 (by decide) ?_ ?_
        · refine g_iconst (v := (-1)) dX17_export_138 (by decide) ?_
          exact g_ireturn rfl dX17_export_139
        · refine g_aload_n 0 2 dX17_export_128 rfl rfl ?_
          refine g_getR fdX17_109 dX17_export_129 ?_
          refine g_iload 0 dX17_export_132 rfl ?_
          refine g_iaload dX17_export_134 ?_
          refine g_goto 139 dX17_export_135 (by decide) ?_
          exact g_ireturn rfl dX17_export_139
      · refine g_aload_n 0 2 dX17_export_112 rfl rfl ?_
        refine g_getR fdX17_96 dX17_export_113 ?_
        refine g_iload 0 dX17_export_116 rfl ?_
        refine g_iaload dX17_export_118 ?_
        refine g_goto 139 dX17_export_119 (by decide) ?_
        exact g_ireturn rfl dX17_export_139
    refine g_case hx (t := 140) (by decide +kernel) ?_ (fun hx => ?_)
    · refine g_iload 1 dX17_export_140 rfl ?_
      refine g_iconst (v := 3) dX17_export_142 (by decide) ?_
      refine g_icmp_ne 156 dX17_export_143 (by decide) ?_ ?_
      · refine g_iconst (v := (-1)) dX17_export_156 (by decide) ?_
        exact g_ireturn rfl dX17_export_157
      · refine g_aload_n 0 2 dX17_export_146 rfl rfl ?_
        refine g_getR fdX17_122 dX17_export_147 ?_
        refine g_iload 0 dX17_export_150 rfl ?_
        refine g_iaload dX17_export_152 ?_
        refine g_goto 157 dX17_export_153 (by decide) ?_
        exact g_ireturn rfl dX17_export_157
    refine g_dflt (t := 158) (tswT_d (by decide +kernel) (by decide +kernel) hx) ?_
    refine g_iconst (v := (-1)) dX17_export_158 (by decide) ?_
    exact g_ireturn rfl dX17_export_159
  · refine g_iconst (v := (-1)) dX17_export_9 (by decide) ?_
    exact g_ireturn rfl dX17_export_10
theorem V.dX17_memory_0 : decode cX17_memory 0 = .ok (.aload_n 0, 1) := by decide +kernel
theorem V.dX17_memory_1 : decode cX17_memory 1 = .ok (.iconst 2, 1) := by decide +kernel
theorem V.dX17_memory_2 : decode cX17_memory 2 = .ok (.iload_n 1, 1) := by decide +kernel
theorem V.dX17_memory_3 : decode cX17_memory 3 = .ok (.iload_n 2, 1) := by decide +kernel
theorem V.dX17_memory_4 : decode cX17_memory 4 = .ok (.invokevirtual 1074, 3) := by decide +kernel
theorem V.dX17_memory_7 : decode cX17_memory 7 = .ok (.istore 4, 2) := by decide +kernel
theorem V.dX17_memory_9 : decode cX17_memory 9 = .ok (.iload_n 3, 1) := by decide +kernel
theorem V.dX17_memory_10 : decode cX17_memory 10 = .ok (.i2l, 1) := by decide +kernel
theorem V.dX17_memory_11 : decode cX17_memory 11 = .ok (.ldc2_w 513, 3) := by decide +kernel
theorem V.dX17_memory_14 : decode cX17_memory 14 = .ok (.land, 1) := by decide +kernel
theorem V.dX17_memory_15 : decode cX17_memory 15 = .ok (.lstore 5, 2) := by decide +kernel
theorem V.dX17_memory_17 : decode cX17_memory 17 = .ok (.iload 4, 2) := by decide +kernel
theorem V.dX17_memory_19 : decode cX17_memory 19 = .ok (.ifCond .lt 21, 3) := by decide +kernel
theorem V.dX17_memory_22 : decode cX17_memory 22 = .ok (.lload 5, 2) := by decide +kernel
theorem V.dX17_memory_24 : decode cX17_memory 24 = .ok (.ldc2_w 636, 3) := by decide +kernel
theorem V.dX17_memory_27 : decode cX17_memory 27 = .ok (.aload_n 0, 1) := by decide +kernel
theorem V.dX17_memory_28 : decode cX17_memory 28 = .ok (.getfield 109, 3) := by decide +kernel
theorem V.dX17_memory_31 : decode cX17_memory 31 = .ok (.iload 4, 2) := by decide +kernel
theorem V.dX17_memory_33 : decode cX17_memory 33 = .ok (.iaload, 1) := by decide +kernel
theorem V.dX17_memory_34 : decode cX17_memory 34 = .ok (.i2l, 1) := by decide +kernel
theorem V.dX17_memory_35 : decode cX17_memory 35 = .ok (.lmul, 1) := by decide +kernel
theorem V.dX17_memory_36 : decode cX17_memory 36 = .ok (.lcmp, 1) := by decide +kernel
theorem V.dX17_memory_37 : decode cX17_memory 37 = .ok (.ifCond .lt 7, 3) := by decide +kernel
theorem V.dX17_memory_40 : decode cX17_memory 40 = .ok (.iconst (-1), 1) := by decide +kernel
theorem V.dX17_memory_41 : decode cX17_memory 41 = .ok (.goto 12, 3) := by decide +kernel
theorem V.dX17_memory_44 : decode cX17_memory 44 = .ok (.aload_n 0, 1) := by decide +kernel
theorem V.dX17_memory_45 : decode cX17_memory 45 = .ok (.iload 4, 2) := by decide +kernel
theorem V.dX17_memory_47 : decode cX17_memory 47 = .ok (.lload 5, 2) := by decide +kernel
theorem V.dX17_memory_49 : decode cX17_memory 49 = .ok (.invokevirtual 1182, 3) := by decide +kernel
theorem V.dX17_memory_52 : decode cX17_memory 52 = .ok (.l2i, 1) := by decide +kernel
theorem V.dX17_memory_53 : decode cX17_memory 53 = .ok (.ireturn, 1) := by decide +kernel
/-! ModuleEngineModel.memory(III)I -/
def V.Mdl_memory_p40  (σ : HS)  : Option (Int32 × HS) :=
  some ((-1 : Int32), σ)
theorem V.gX17_memory_p40 {X : CX}  (σ : HS)  : G X RX17 "memory" cX17_memory 7 (some .int) 3 69 enI 40 [] [] σ (Mdl_memory_p40 σ ) := by
  unfold Mdl_memory_p40
  refine g_iconst (v := (-1)) dX17_memory_40 (by decide) ?_
  refine g_goto 53 dX17_memory_41 (by decide) ?_
  exact g_ireturn rfl dX17_memory_53
def V.Mdl_memory (σ : HS) (x0 : Nat) (x1 : Int32) (x2 : Int32) (x3 : Int32) : Option (Int32 × HS) :=
  ck (tg σ x0 = 18) <| cl (Mdl_exportedAs σ x0 (2 : Int32) x1 x2) fun r2 σ1 =>
  bn (x3.toInt64 &&& (4294967295 : Int64)) fun y3 =>
  if r2 < 0 then (
    Mdl_memory_p40 σ1)
  else (
    ck (tg σ1 x0 = 18) <|
    ck (tg σ1 (gR σ1 x0 54) = 100 ∧ inb r2 (ln σ1 (gR σ1 x0 54))) <|
    if y3 < ((65536 : Int64) * ((gI σ1 (gR σ1 x0 54) (ix r2)).toInt64)) then (
      ck (tg σ1 x0 = 18) <| cl (Mdl_gets σ1 x0 r2 y3) fun r5 σ4 =>
      some (r5.toInt32, σ4))
    else (
      Mdl_memory_p40 σ1))
theorem V.ctX17_memory (x0 : Nat) (x1 : Int32) (x2 : Int32) (x3 : Int32) : Ct yX17_memory  cX17_memory 7 (some .int) 3 69 eI [av x0, iv x1, iv x2, iv x3] (fun σ => Mdl_memory σ x0 x1 x2 x3) := by
  refine Ct.of (own := RX17) (nm := "memory") (desc := "(III)I") rfl (by decide) (Nat.le_of_ble_eq_true rfl) (by decide) (fun X σ => ?_)
  show G X RX17 "memory" cX17_memory 7 (some .int) 3 69 enI 0 [(0, av x0), (1, iv x1), (2, iv x2), (3, iv x3)] [] σ (Mdl_memory σ x0 x1 x2 x3)
  unfold Mdl_memory
  refine g_aload_n 0 0 dX17_memory_0 rfl rfl ?_
  refine g_iconst (v := 2) dX17_memory_1 (by decide) ?_
  refine g_iload_n 1 1 dX17_memory_2 rfl rfl ?_
  refine g_iload_n 2 2 dX17_memory_3 rfl rfl ?_
  refine g_callV (fc := fun sς => Mdl_exportedAs sς x0 (2 : Int32) x1 x2) (ci := 17) (as := [iv (2 : Int32), iv x1, iv x2]) rfl rfl rfl q4157 qs323 mdX17_1074 (ctX17_exportedAs x0 (2 : Int32) x1 x2) rfl (Nat.le_of_ble_eq_true rfl) (Nat.le_of_ble_eq_true rfl) (Nat.le_of_ble_eq_true rfl) pu_I dX17_memory_4 (fun r2 σ1 => ?_)
  refine g_istore dX17_memory_7 (by decide) rfl ?_
  refine g_iload_n 3 4 dX17_memory_9 rfl rfl ?_
  refine g_i2l dX17_memory_10 ?_
  refine g_ldc2 q3756 dX17_memory_11 ?_
  refine g_land dX17_memory_14 ?_
  refine g_nmJ (fun y3 => ?_)
  refine g_lstore dX17_memory_15 (by decide) rfl ?_
  refine g_iload 1 dX17_memory_17 rfl ?_
  refine g_if_lt 40 dX17_memory_19 (by decide) ?_ ?_
  · refine G.sub [] rfl ?_
    exact gX17_memory_p40 _
  · refine g_lload 0 dX17_memory_22 rfl ?_
    refine g_ldc2 q3778 dX17_memory_24 ?_
    refine g_aload_n 0 2 dX17_memory_27 rfl rfl ?_
    refine g_getR fdX17_109 dX17_memory_28 ?_
    refine g_iload 1 dX17_memory_31 rfl ?_
    refine g_iaload dX17_memory_33 ?_
    refine g_i2l dX17_memory_34 ?_
    refine g_lmul dX17_memory_35 ?_
    refine g_lcmp_lt 44 dX17_memory_36 dX17_memory_37 (by decide) ?_ ?_
    · refine g_aload_n 0 2 dX17_memory_44 rfl rfl ?_
      refine g_iload 1 dX17_memory_45 rfl ?_
      refine g_lload 0 dX17_memory_47 rfl ?_
      refine g_callV (fc := fun sς => Mdl_gets sς x0 r2 y3) (ci := 17) (as := [iv r2, jv y3]) rfl rfl rfl q4354 qs354 mdX17_1182 (ctX17_gets x0 r2 y3) rfl (Nat.le_of_ble_eq_true rfl) (Nat.le_of_ble_eq_true rfl) (Nat.le_of_ble_eq_true rfl) pu_J dX17_memory_49 (fun r5 σ4 => ?_)
      refine g_l2i dX17_memory_52 ?_
      exact g_ireturn rfl dX17_memory_53
    · refine G.sub [] rfl ?_
      exact gX17_memory_p40 _
theorem V.dX17_poke_0 : decode cX17_poke 0 = .ok (.aload_n 0, 1) := by decide +kernel
theorem V.dX17_poke_1 : decode cX17_poke 1 = .ok (.invokevirtual 986, 3) := by decide +kernel
theorem V.dX17_poke_4 : decode cX17_poke 4 = .ok (.ifCond .eq 7, 3) := by decide +kernel
theorem V.dX17_poke_7 : decode cX17_poke 7 = .ok (.iconst (-1), 1) := by decide +kernel
theorem V.dX17_poke_8 : decode cX17_poke 8 = .ok (.goto 10, 3) := by decide +kernel
theorem V.dX17_poke_11 : decode cX17_poke 11 = .ok (.aload_n 0, 1) := by decide +kernel
theorem V.dX17_poke_12 : decode cX17_poke 12 = .ok (.iconst 2, 1) := by decide +kernel
theorem V.dX17_poke_13 : decode cX17_poke 13 = .ok (.iload_n 1, 1) := by decide +kernel
theorem V.dX17_poke_14 : decode cX17_poke 14 = .ok (.iload_n 2, 1) := by decide +kernel
theorem V.dX17_poke_15 : decode cX17_poke 15 = .ok (.invokevirtual 1074, 3) := by decide +kernel
theorem V.dX17_poke_18 : decode cX17_poke 18 = .ok (.istore 5, 2) := by decide +kernel
theorem V.dX17_poke_20 : decode cX17_poke 20 = .ok (.iload_n 3, 1) := by decide +kernel
theorem V.dX17_poke_21 : decode cX17_poke 21 = .ok (.i2l, 1) := by decide +kernel
theorem V.dX17_poke_22 : decode cX17_poke 22 = .ok (.ldc2_w 513, 3) := by decide +kernel
theorem V.dX17_poke_25 : decode cX17_poke 25 = .ok (.land, 1) := by decide +kernel
theorem V.dX17_poke_26 : decode cX17_poke 26 = .ok (.lstore 6, 2) := by decide +kernel
theorem V.dX17_poke_28 : decode cX17_poke 28 = .ok (.iload 5, 2) := by decide +kernel
theorem V.dX17_poke_30 : decode cX17_poke 30 = .ok (.ifCond .lt 21, 3) := by decide +kernel
theorem V.dX17_poke_33 : decode cX17_poke 33 = .ok (.lload 6, 2) := by decide +kernel
theorem V.dX17_poke_35 : decode cX17_poke 35 = .ok (.ldc2_w 636, 3) := by decide +kernel
theorem V.dX17_poke_38 : decode cX17_poke 38 = .ok (.aload_n 0, 1) := by decide +kernel
theorem V.dX17_poke_39 : decode cX17_poke 39 = .ok (.getfield 109, 3) := by decide +kernel
theorem V.dX17_poke_42 : decode cX17_poke 42 = .ok (.iload 5, 2) := by decide +kernel
theorem V.dX17_poke_44 : decode cX17_poke 44 = .ok (.iaload, 1) := by decide +kernel
theorem V.dX17_poke_45 : decode cX17_poke 45 = .ok (.i2l, 1) := by decide +kernel
theorem V.dX17_poke_46 : decode cX17_poke 46 = .ok (.lmul, 1) := by decide +kernel
theorem V.dX17_poke_47 : decode cX17_poke 47 = .ok (.lcmp, 1) := by decide +kernel
theorem V.dX17_poke_48 : decode cX17_poke 48 = .ok (.ifCond .lt 5, 3) := by decide +kernel
theorem V.dX17_poke_51 : decode cX17_poke 51 = .ok (.iconst 0, 1) := by decide +kernel
theorem V.dX17_poke_52 : decode cX17_poke 52 = .ok (.ireturn, 1) := by decide +kernel
theorem V.dX17_poke_53 : decode cX17_poke 53 = .ok (.aload_n 0, 1) := by decide +kernel
theorem V.dX17_poke_54 : decode cX17_poke 54 = .ok (.iload 5, 2) := by decide +kernel
theorem V.dX17_poke_56 : decode cX17_poke 56 = .ok (.lload 6, 2) := by decide +kernel
theorem V.dX17_poke_58 : decode cX17_poke 58 = .ok (.iload 4, 2) := by decide +kernel
theorem V.dX17_poke_60 : decode cX17_poke 60 = .ok (.i2b, 1) := by decide +kernel
theorem V.dX17_poke_61 : decode cX17_poke 61 = .ok (.invokevirtual 1055, 3) := by decide +kernel
theorem V.dX17_poke_64 : decode cX17_poke 64 = .ok (.iconst 1, 1) := by decide +kernel
theorem V.dX17_poke_65 : decode cX17_poke 65 = .ok (.ireturn, 1) := by decide +kernel
/-! ModuleEngineModel.poke(IIII)Z -/
def V.Mdl_poke_p18  (σ : HS) (x0 : Nat) (x3 : Int32) (x4 : Int32) (s0 : Int32) : Option (Int32 × HS) :=
  bn (x3.toInt64 &&& (4294967295 : Int64)) fun y1 =>
  if s0 < 0 then (
    some ((0 : Int32), σ))
  else (
    ck (tg σ x0 = 18) <|
    ck (tg σ (gR σ x0 54) = 100 ∧ inb s0 (ln σ (gR σ x0 54))) <|
    if y1 < ((65536 : Int64) * ((gI σ (gR σ x0 54) (ix s0)).toInt64)) then (
      ck (tg σ x0 = 18) <| cl (Mdl_sets σ x0 s0 y1 (i2b x4)) fun _ σ2 =>
      some ((1 : Int32), σ2))
    else (
      some ((0 : Int32), σ)))
theorem V.gX17_poke_p18 {X : CX}  (σ : HS) (x0 : Nat) (x3 : Int32) (x4 : Int32) (s0 : Int32) : G X RX17 "poke" cX17_poke 8 (some .boolean) 3 69 enI 18 [(0, av x0), (3, iv x3), (4, iv x4)] [iv s0] σ (Mdl_poke_p18 σ x0 x3 x4 s0) := by
  unfold Mdl_poke_p18
  refine g_istore dX17_poke_18 (by decide) rfl ?_
  refine g_iload_n 3 2 dX17_poke_20 rfl rfl ?_
  refine g_i2l dX17_poke_21 ?_
  refine g_ldc2 q3756 dX17_poke_22 ?_
  refine g_land dX17_poke_25 ?_
  refine g_nmJ (fun y1 => ?_)
  refine g_lstore dX17_poke_26 (by decide) rfl ?_
  refine g_iload 1 dX17_poke_28 rfl ?_
  refine g_if_lt 51 dX17_poke_30 (by decide) ?_ ?_
  · refine g_iconst (v := 0) dX17_poke_51 (by decide) ?_
    exact g_zreturn rfl (by decide +kernel) dX17_poke_52
  · refine g_lload 0 dX17_poke_33 rfl ?_
    refine g_ldc2 q3778 dX17_poke_35 ?_
    refine g_aload_n 0 2 dX17_poke_38 rfl rfl ?_
    refine g_getR fdX17_109 dX17_poke_39 ?_
    refine g_iload 1 dX17_poke_42 rfl ?_
    refine g_iaload dX17_poke_44 ?_
    refine g_i2l dX17_poke_45 ?_
    refine g_lmul dX17_poke_46 ?_
    refine g_lcmp_lt 53 dX17_poke_47 dX17_poke_48 (by decide) ?_ ?_
    · refine g_aload_n 0 2 dX17_poke_53 rfl rfl ?_
      refine g_iload 1 dX17_poke_54 rfl ?_
      refine g_lload 0 dX17_poke_56 rfl ?_
      refine g_iload 4 dX17_poke_58 rfl ?_
      refine g_i2b dX17_poke_60 ?_
      refine g_callV (fc := fun sς => Mdl_sets sς x0 s0 y1 (i2b x4)) (ci := 17) (as := [iv s0, jv y1, iv (i2b x4)]) rfl rfl rfl q4100 qs311 mdX17_1055 (ctX17_sets x0 s0 y1 (i2b x4)) rfl (Nat.le_of_ble_eq_true rfl) (Nat.le_of_ble_eq_true rfl) (Nat.le_of_ble_eq_true rfl) pu_V dX17_poke_61 (fun _ σ2 => ?_)
      refine g_iconst (v := 1) dX17_poke_64 (by decide) ?_
      exact g_zreturn rfl (by decide +kernel) dX17_poke_65
    · refine g_iconst (v := 0) dX17_poke_51 (by decide) ?_
      exact g_zreturn rfl (by decide +kernel) dX17_poke_52
def V.Mdl_poke (σ : HS) (x0 : Nat) (x1 : Int32) (x2 : Int32) (x3 : Int32) (x4 : Int32) : Option (Int32 × HS) :=
  ck (tg σ x0 = 18) <| cl (Mdl_runs σ x0 ) fun r2 σ1 =>
  if r2 = 0 then (
    ck (tg σ1 x0 = 18) <| cl (Mdl_exportedAs σ1 x0 (2 : Int32) x1 x2) fun r4 σ3 =>
    Mdl_poke_p18 σ3 x0 x3 x4 r4)
  else (
    Mdl_poke_p18 σ1 x0 x3 x4 (-1 : Int32))
theorem V.ctX17_poke (x0 : Nat) (x1 : Int32) (x2 : Int32) (x3 : Int32) (x4 : Int32) : Ct yX17_poke  cX17_poke 8 (some .boolean) 3 69 eI [av x0, iv x1, iv x2, iv x3, iv x4] (fun σ => Mdl_poke σ x0 x1 x2 x3 x4) := by
  refine Ct.of (own := RX17) (nm := "poke") (desc := "(IIII)Z") rfl (by decide) (Nat.le_of_ble_eq_true rfl) (by decide) (fun X σ => ?_)
  show G X RX17 "poke" cX17_poke 8 (some .boolean) 3 69 enI 0 [(0, av x0), (1, iv x1), (2, iv x2), (3, iv x3), (4, iv x4)] [] σ (Mdl_poke σ x0 x1 x2 x3 x4)
  unfold Mdl_poke
  refine g_aload_n 0 0 dX17_poke_0 rfl rfl ?_
  refine g_callV (fc := fun sς => Mdl_runs sς x0 ) (ci := 17) (as := []) rfl rfl rfl q4027 qs293 mdX17_986 (ctX17_runs x0 ) rfl (Nat.le_of_ble_eq_true rfl) (Nat.le_of_ble_eq_true rfl) (Nat.le_of_ble_eq_true rfl) pu_I dX17_poke_1 (fun r2 σ1 => ?_)
  refine g_if_eq 11 dX17_poke_4 (by decide) ?_ ?_
  · refine g_aload_n 0 0 dX17_poke_11 rfl rfl ?_
    refine g_iconst (v := 2) dX17_poke_12 (by decide) ?_
    refine g_iload_n 1 1 dX17_poke_13 rfl rfl ?_
    refine g_iload_n 2 2 dX17_poke_14 rfl rfl ?_
    refine g_callV (fc := fun sς => Mdl_exportedAs sς x0 (2 : Int32) x1 x2) (ci := 17) (as := [iv (2 : Int32), iv x1, iv x2]) rfl rfl rfl q4157 qs323 mdX17_1074 (ctX17_exportedAs x0 (2 : Int32) x1 x2) rfl (Nat.le_of_ble_eq_true rfl) (Nat.le_of_ble_eq_true rfl) (Nat.le_of_ble_eq_true rfl) pu_I dX17_poke_15 (fun r4 σ3 => ?_)
    refine G.sub [0, 3, 4] rfl ?_
    exact gX17_poke_p18 _ _ _ _ _
  · refine g_iconst (v := (-1)) dX17_poke_7 (by decide) ?_
    refine g_goto 18 dX17_poke_8 (by decide) ?_
    refine G.sub [0, 3, 4] rfl ?_
    exact gX17_poke_p18 _ _ _ _ _
theorem V.dX17_table_0 : decode cX17_table 0 = .ok (.aload_n 0, 1) := by decide +kernel
theorem V.dX17_table_1 : decode cX17_table 1 = .ok (.iconst 1, 1) := by decide +kernel
theorem V.dX17_table_2 : decode cX17_table 2 = .ok (.iload_n 1, 1) := by decide +kernel
theorem V.dX17_table_3 : decode cX17_table 3 = .ok (.iload_n 2, 1) := by decide +kernel
theorem V.dX17_table_4 : decode cX17_table 4 = .ok (.invokevirtual 1074, 3) := by decide +kernel
theorem V.dX17_table_7 : decode cX17_table 7 = .ok (.istore 4, 2) := by decide +kernel
theorem V.dX17_table_9 : decode cX17_table 9 = .ok (.iload 4, 2) := by decide +kernel
theorem V.dX17_table_11 : decode cX17_table 11 = .ok (.ifCond .lt 18, 3) := by decide +kernel
theorem V.dX17_table_14 : decode cX17_table 14 = .ok (.iload_n 3, 1) := by decide +kernel
theorem V.dX17_table_15 : decode cX17_table 15 = .ok (.ifCond .lt 14, 3) := by decide +kernel
theorem V.dX17_table_18 : decode cX17_table 18 = .ok (.iload_n 3, 1) := by decide +kernel
theorem V.dX17_table_19 : decode cX17_table 19 = .ok (.aload_n 0, 1) := by decide +kernel
theorem V.dX17_table_20 : decode cX17_table 20 = .ok (.getfield 96, 3) := by decide +kernel
theorem V.dX17_table_23 : decode cX17_table 23 = .ok (.iload 4, 2) := by decide +kernel
theorem V.dX17_table_25 : decode cX17_table 25 = .ok (.iaload, 1) := by decide +kernel
theorem V.dX17_table_26 : decode cX17_table 26 = .ok (.if_icmp .lt 8, 3) := by decide +kernel
theorem V.dX17_table_29 : decode cX17_table 29 = .ok (.bipush (-2), 2) := by decide +kernel
theorem V.dX17_table_31 : decode cX17_table 31 = .ok (.goto 16, 3) := by decide +kernel
theorem V.dX17_table_34 : decode cX17_table 34 = .ok (.aload_n 0, 1) := by decide +kernel
theorem V.dX17_table_35 : decode cX17_table 35 = .ok (.getfield 103, 3) := by decide +kernel
theorem V.dX17_table_38 : decode cX17_table 38 = .ok (.sipush 1024, 3) := by decide +kernel
theorem V.dX17_table_41 : decode cX17_table 41 = .ok (.iload 4, 2) := by decide +kernel
theorem V.dX17_table_43 : decode cX17_table 43 = .ok (.imul, 1) := by decide +kernel
theorem V.dX17_table_44 : decode cX17_table 44 = .ok (.iload_n 3, 1) := by decide +kernel
theorem V.dX17_table_45 : decode cX17_table 45 = .ok (.iadd, 1) := by decide +kernel
theorem V.dX17_table_46 : decode cX17_table 46 = .ok (.iaload, 1) := by decide +kernel
theorem V.dX17_table_47 : decode cX17_table 47 = .ok (.ireturn, 1) := by decide +kernel
/-! ModuleEngineModel.table(III)I -/
def V.Mdl_table_p29  (σ : HS)  : Option (Int32 × HS) :=
  some ((-2 : Int32), σ)
theorem V.gX17_table_p29 {X : CX}  (σ : HS)  : G X RX17 "table" cX17_table 5 (some .int) 3 69 enI 29 [] [] σ (Mdl_table_p29 σ ) := by
  unfold Mdl_table_p29
  refine g_bipush (v := (-2)) dX17_table_29 (by decide) ?_
  refine g_goto 47 dX17_table_31 (by decide) ?_
  exact g_ireturn rfl dX17_table_47
def V.Mdl_table (σ : HS) (x0 : Nat) (x1 : Int32) (x2 : Int32) (x3 : Int32) : Option (Int32 × HS) :=
  ck (tg σ x0 = 18) <| cl (Mdl_exportedAs σ x0 (1 : Int32) x1 x2) fun r2 σ1 =>
  if r2 < 0 then (
    Mdl_table_p29 σ1)
  else (
    if x3 < 0 then (
      Mdl_table_p29 σ1)
    else (
      ck (tg σ1 x0 = 18) <|
      ck (tg σ1 (gR σ1 x0 49) = 100 ∧ inb r2 (ln σ1 (gR σ1 x0 49))) <|
      if x3 < (gI σ1 (gR σ1 x0 49) (ix r2)) then (
        ck (tg σ1 x0 = 18) <|
        ck (tg σ1 (gR σ1 x0 51) = 100 ∧ inb (((1024 : Int32) * r2) + x3) (ln σ1 (gR σ1 x0 51))) <|
        some (gI σ1 (gR σ1 x0 51) (ix (((1024 : Int32) * r2) + x3)), σ1))
      else (
        Mdl_table_p29 σ1)))
theorem V.ctX17_table (x0 : Nat) (x1 : Int32) (x2 : Int32) (x3 : Int32) : Ct yX17_table  cX17_table 5 (some .int) 3 69 eI [av x0, iv x1, iv x2, iv x3] (fun σ => Mdl_table σ x0 x1 x2 x3) := by
  refine Ct.of (own := RX17) (nm := "table") (desc := "(III)I") rfl (by decide) (Nat.le_of_ble_eq_true rfl) (by decide) (fun X σ => ?_)
  show G X RX17 "table" cX17_table 5 (some .int) 3 69 enI 0 [(0, av x0), (1, iv x1), (2, iv x2), (3, iv x3)] [] σ (Mdl_table σ x0 x1 x2 x3)
  unfold Mdl_table
  refine g_aload_n 0 0 dX17_table_0 rfl rfl ?_
  refine g_iconst (v := 1) dX17_table_1 (by decide) ?_
  refine g_iload_n 1 1 dX17_table_2 rfl rfl ?_
  refine g_iload_n 2 2 dX17_table_3 rfl rfl ?_
  refine g_callV (fc := fun sς => Mdl_exportedAs sς x0 (1 : Int32) x1 x2) (ci := 17) (as := [iv (1 : Int32), iv x1, iv x2]) rfl rfl rfl q4157 qs323 mdX17_1074 (ctX17_exportedAs x0 (1 : Int32) x1 x2) rfl (Nat.le_of_ble_eq_true rfl) (Nat.le_of_ble_eq_true rfl) (Nat.le_of_ble_eq_true rfl) pu_I dX17_table_4 (fun r2 σ1 => ?_)
  refine g_istore dX17_table_7 (by decide) rfl ?_
  refine g_iload 0 dX17_table_9 rfl ?_
  refine g_if_lt 29 dX17_table_11 (by decide) ?_ ?_
  · refine G.sub [] rfl ?_
    exact gX17_table_p29 _
  · refine g_iload_n 3 4 dX17_table_14 rfl rfl ?_
    refine g_if_lt 29 dX17_table_15 (by decide) ?_ ?_
    · refine G.sub [] rfl ?_
      exact gX17_table_p29 _
    · refine g_iload_n 3 4 dX17_table_18 rfl rfl ?_
      refine g_aload_n 0 1 dX17_table_19 rfl rfl ?_
      refine g_getR fdX17_96 dX17_table_20 ?_
      refine g_iload 0 dX17_table_23 rfl ?_
      refine g_iaload dX17_table_25 ?_
      refine g_icmp_lt 34 dX17_table_26 (by decide) ?_ ?_
      · refine g_aload_n 0 1 dX17_table_34 rfl rfl ?_
        refine g_getR fdX17_103 dX17_table_35 ?_
        refine g_sipush (v := 1024) dX17_table_38 (by decide) ?_
        refine g_iload 0 dX17_table_41 rfl ?_
        refine g_imul dX17_table_43 ?_
        refine g_iload_n 3 4 dX17_table_44 rfl rfl ?_
        refine g_iadd dX17_table_45 ?_
        refine g_iaload dX17_table_46 ?_
        exact g_ireturn rfl dX17_table_47
      · refine G.sub [] rfl ?_
        exact gX17_table_p29 _
theorem V.dX17_global_0 : decode cX17_global 0 = .ok (.aload_n 0, 1) := by decide +kernel
theorem V.dX17_global_1 : decode cX17_global 1 = .ok (.iconst 3, 1) := by decide +kernel
theorem V.dX17_global_2 : decode cX17_global 2 = .ok (.iload_n 1, 1) := by decide +kernel
theorem V.dX17_global_3 : decode cX17_global 3 = .ok (.iload_n 2, 1) := by decide +kernel
theorem V.dX17_global_4 : decode cX17_global 4 = .ok (.invokevirtual 1074, 3) := by decide +kernel
theorem V.dX17_global_7 : decode cX17_global 7 = .ok (.istore_n 3, 1) := by decide +kernel
theorem V.dX17_global_8 : decode cX17_global 8 = .ok (.iload_n 3, 1) := by decide +kernel
theorem V.dX17_global_9 : decode cX17_global 9 = .ok (.ifCond .ge 7, 3) := by decide +kernel
theorem V.dX17_global_12 : decode cX17_global 12 = .ok (.lconst 0, 1) := by decide +kernel
theorem V.dX17_global_13 : decode cX17_global 13 = .ok (.goto 9, 3) := by decide +kernel
theorem V.dX17_global_16 : decode cX17_global 16 = .ok (.aload_n 0, 1) := by decide +kernel
theorem V.dX17_global_17 : decode cX17_global 17 = .ok (.getfield 128, 3) := by decide +kernel
theorem V.dX17_global_20 : decode cX17_global 20 = .ok (.iload_n 3, 1) := by decide +kernel
theorem V.dX17_global_21 : decode cX17_global 21 = .ok (.laload, 1) := by decide +kernel
theorem V.dX17_global_22 : decode cX17_global 22 = .ok (.lreturn, 1) := by decide +kernel
/-! ModuleEngineModel.global(II)J -/
def V.Mdl_global (σ : HS) (x0 : Nat) (x1 : Int32) (x2 : Int32) : Option (Int64 × HS) :=
  ck (tg σ x0 = 18) <| cl (Mdl_exportedAs σ x0 (3 : Int32) x1 x2) fun r2 σ1 =>
  if 0 ≤ r2 then (
    ck (tg σ1 x0 = 18) <|
    ck (tg σ1 (gR σ1 x0 61) = 101 ∧ inb r2 (ln σ1 (gR σ1 x0 61))) <|
    some (gJ σ1 (gR σ1 x0 61) (ix r2), σ1))
  else (
    some ((0 : Int64), σ1))
theorem V.ctX17_global (x0 : Nat) (x1 : Int32) (x2 : Int32) : Ct yX17_global  cX17_global 4 (some .long) 3 69 eJ [av x0, iv x1, iv x2] (fun σ => Mdl_global σ x0 x1 x2) := by
  refine Ct.of (own := RX17) (nm := "global") (desc := "(II)J") rfl (by decide) (Nat.le_of_ble_eq_true rfl) (by decide) (fun X σ => ?_)
  show G X RX17 "global" cX17_global 4 (some .long) 3 69 enJ 0 [(0, av x0), (1, iv x1), (2, iv x2)] [] σ (Mdl_global σ x0 x1 x2)
  unfold Mdl_global
  refine g_aload_n 0 0 dX17_global_0 rfl rfl ?_
  refine g_iconst (v := 3) dX17_global_1 (by decide) ?_
  refine g_iload_n 1 1 dX17_global_2 rfl rfl ?_
  refine g_iload_n 2 2 dX17_global_3 rfl rfl ?_
  refine g_callV (fc := fun sς => Mdl_exportedAs sς x0 (3 : Int32) x1 x2) (ci := 17) (as := [iv (3 : Int32), iv x1, iv x2]) rfl rfl rfl q4157 qs323 mdX17_1074 (ctX17_exportedAs x0 (3 : Int32) x1 x2) rfl (Nat.le_of_ble_eq_true rfl) (Nat.le_of_ble_eq_true rfl) (Nat.le_of_ble_eq_true rfl) pu_I dX17_global_4 (fun r2 σ1 => ?_)
  refine g_istore_n 3 dX17_global_7 rfl (by decide) rfl ?_
  refine g_iload_n 3 0 dX17_global_8 rfl rfl ?_
  refine g_if_ge 16 dX17_global_9 (by decide) ?_ ?_
  · refine g_aload_n 0 1 dX17_global_16 rfl rfl ?_
    refine g_getR fdX17_128 dX17_global_17 ?_
    refine g_iload_n 3 0 dX17_global_20 rfl rfl ?_
    refine g_laload dX17_global_21 ?_
    exact g_lreturn rfl dX17_global_22
  · refine g_lconst (v := 0) dX17_global_12 (by decide) ?_
    refine g_goto 22 dX17_global_13 (by decide) ?_
    exact g_lreturn rfl dX17_global_22
theorem V.dX0_init_0 : decode cX0_init 0 = .ok (.aload_n 0, 1) := by decide +kernel
theorem V.dX0_init_1 : decode cX0_init 1 = .ok (.invokespecial 1, 3) := by decide +kernel
theorem V.dX0_init_4 : decode cX0_init 4 = .ok (.aload_n 0, 1) := by decide +kernel
theorem V.dX0_init_5 : decode cX0_init 5 = .ok (.new 7, 3) := by decide +kernel
theorem V.dX0_init_8 : decode cX0_init 8 = .ok (.dup, 1) := by decide +kernel
theorem V.dX0_init_9 : decode cX0_init 9 = .ok (.ldc 11, 2) := by decide +kernel
theorem V.dX0_init_11 : decode cX0_init 11 = .ok (.invokespecial 12, 3) := by decide +kernel
theorem V.dX0_init_14 : decode cX0_init 14 = .ok (.putfield 15, 3) := by decide +kernel
theorem V.dX0_init_17 : decode cX0_init 17 = .ok (.aload_n 0, 1) := by decide +kernel
theorem V.dX0_init_18 : decode cX0_init 18 = .ok (.new 19, 3) := by decide +kernel
theorem V.dX0_init_21 : decode cX0_init 21 = .ok (.dup, 1) := by decide +kernel
theorem V.dX0_init_22 : decode cX0_init 22 = .ok (.invokespecial 21, 3) := by decide +kernel
theorem V.dX0_init_25 : decode cX0_init 25 = .ok (.putfield 22, 3) := by decide +kernel
theorem V.dX0_init_28 : decode cX0_init 28 = .ok (.aload_n 0, 1) := by decide +kernel
theorem V.dX0_init_29 : decode cX0_init 29 = .ok (.new 26, 3) := by decide +kernel
theorem V.dX0_init_32 : decode cX0_init 32 = .ok (.dup, 1) := by decide +kernel
theorem V.dX0_init_33 : decode cX0_init 33 = .ok (.aload_n 0, 1) := by decide +kernel
theorem V.dX0_init_34 : decode cX0_init 34 = .ok (.getfield 22, 3) := by decide +kernel
theorem V.dX0_init_37 : decode cX0_init 37 = .ok (.invokespecial 28, 3) := by decide +kernel
theorem V.dX0_init_40 : decode cX0_init 40 = .ok (.putfield 31, 3) := by decide +kernel
theorem V.dX0_init_43 : decode cX0_init 43 = .ok (.aload_n 0, 1) := by decide +kernel
theorem V.dX0_init_44 : decode cX0_init 44 = .ok (.new 35, 3) := by decide +kernel
theorem V.dX0_init_47 : decode cX0_init 47 = .ok (.dup, 1) := by decide +kernel
theorem V.dX0_init_48 : decode cX0_init 48 = .ok (.aload_n 0, 1) := by decide +kernel
theorem V.dX0_init_49 : decode cX0_init 49 = .ok (.getfield 31, 3) := by decide +kernel
theorem V.dX0_init_52 : decode cX0_init 52 = .ok (.aload_n 0, 1) := by decide +kernel
theorem V.dX0_init_53 : decode cX0_init 53 = .ok (.getfield 22, 3) := by decide +kernel
theorem V.dX0_init_56 : decode cX0_init 56 = .ok (.invokespecial 37, 3) := by decide +kernel
theorem V.dX0_init_59 : decode cX0_init 59 = .ok (.putfield 40, 3) := by decide +kernel
theorem V.dX0_init_62 : decode cX0_init 62 = .ok (.aload_n 0, 1) := by decide +kernel
theorem V.dX0_init_63 : decode cX0_init 63 = .ok (.new 44, 3) := by decide +kernel
theorem V.dX0_init_66 : decode cX0_init 66 = .ok (.dup, 1) := by decide +kernel
theorem V.dX0_init_67 : decode cX0_init 67 = .ok (.aload_n 0, 1) := by decide +kernel
theorem V.dX0_init_68 : decode cX0_init 68 = .ok (.getfield 31, 3) := by decide +kernel
theorem V.dX0_init_71 : decode cX0_init 71 = .ok (.invokespecial 46, 3) := by decide +kernel
theorem V.dX0_init_74 : decode cX0_init 74 = .ok (.putfield 49, 3) := by decide +kernel
theorem V.dX0_init_77 : decode cX0_init 77 = .ok (.aload_n 0, 1) := by decide +kernel
theorem V.dX0_init_78 : decode cX0_init 78 = .ok (.new 53, 3) := by decide +kernel
theorem V.dX0_init_81 : decode cX0_init 81 = .ok (.dup, 1) := by decide +kernel
theorem V.dX0_init_82 : decode cX0_init 82 = .ok (.invokespecial 55, 3) := by decide +kernel
theorem V.dX0_init_85 : decode cX0_init 85 = .ok (.putfield 56, 3) := by decide +kernel
theorem V.dX0_init_88 : decode cX0_init 88 = .ok (.aload_n 0, 1) := by decide +kernel
theorem V.dX0_init_89 : decode cX0_init 89 = .ok (.new 60, 3) := by decide +kernel
theorem V.dX0_init_92 : decode cX0_init 92 = .ok (.dup, 1) := by decide +kernel
theorem V.dX0_init_93 : decode cX0_init 93 = .ok (.aload_n 0, 1) := by decide +kernel
theorem V.dX0_init_94 : decode cX0_init 94 = .ok (.getfield 31, 3) := by decide +kernel
theorem V.dX0_init_97 : decode cX0_init 97 = .ok (.aload_n 0, 1) := by decide +kernel
theorem V.dX0_init_98 : decode cX0_init 98 = .ok (.getfield 40, 3) := by decide +kernel
theorem V.dX0_init_101 : decode cX0_init 101 = .ok (.aload_n 0, 1) := by decide +kernel
theorem V.dX0_init_102 : decode cX0_init 102 = .ok (.getfield 22, 3) := by decide +kernel
theorem V.dX0_init_105 : decode cX0_init 105 = .ok (.aload_n 0, 1) := by decide +kernel
theorem V.dX0_init_106 : decode cX0_init 106 = .ok (.getfield 56, 3) := by decide +kernel
theorem V.dX0_init_109 : decode cX0_init 109 = .ok (.invokespecial 62, 3) := by decide +kernel
theorem V.dX0_init_112 : decode cX0_init 112 = .ok (.putfield 65, 3) := by decide +kernel
theorem V.dX0_init_115 : decode cX0_init 115 = .ok (.aload_n 0, 1) := by decide +kernel
theorem V.dX0_init_116 : decode cX0_init 116 = .ok (.bipush 16, 2) := by decide +kernel
theorem V.dX0_init_118 : decode cX0_init 118 = .ok (.newarray .long, 2) := by decide +kernel
theorem V.dX0_init_120 : decode cX0_init 120 = .ok (.putfield 69, 3) := by decide +kernel
theorem V.dX0_init_123 : decode cX0_init 123 = .ok (.aload_n 0, 1) := by decide +kernel
theorem V.dX0_init_124 : decode cX0_init 124 = .ok (.iconst (-1), 1) := by decide +kernel
theorem V.dX0_init_125 : decode cX0_init 125 = .ok (.putfield 73, 3) := by decide +kernel
theorem V.dX0_init_128 : decode cX0_init 128 = .ok (.aload_n 0, 1) := by decide +kernel
theorem V.dX0_init_129 : decode cX0_init 129 = .ok (.iconst (-1), 1) := by decide +kernel
theorem V.dX0_init_130 : decode cX0_init 130 = .ok (.putfield 77, 3) := by decide +kernel
theorem V.dX0_init_133 : decode cX0_init 133 = .ok (.return_, 1) := by decide +kernel
theorem V.ndX0_7 : ND RX0 7 1 10 := ⟨(RX1, TX1, 10), tyX1, rfl, rfl, in_X1, tyX1_ok, by decide, q395, q396, q361⟩
theorem V.mdX0_12 : MD RX0 12 yX1_init cX1_init 2 none 1 := ⟨Or.inl q398, q361, q400, by decide, by decide, by decide +kernel⟩
theorem V.fpX0_15 : FP RX0 "<init>" 15 0 0 (.object "ModuleEngine$Bytes") := ⟨(RX0, TX0, 13), tyX0, rfl, rfl, in_X0, by decide, tyX0_ok, nmX0, rfl, Or.inr ⟨rfl, rfl, rfl, q1212⟩⟩
theorem V.ndX0_19 : ND RX0 19 4 4 := ⟨(RX4, TX4, 4), tyX4, rfl, rfl, in_X4, tyX4_ok, by decide, q571, q572, q364⟩
theorem V.mdX0_21 : MD RX0 21 yX4_init cX4_init 1 none 0 := ⟨Or.inr ⟨_, q573⟩, q364, q575, by decide, by decide, by decide +kernel⟩
theorem V.fpX0_22 : FP RX0 "<init>" 22 0 1 (.object "ModuleEngine$Numbers") := ⟨(RX0, TX0, 13), tyX0, rfl, rfl, in_X0, by decide, tyX0_ok, nmX0, rfl, Or.inr ⟨rfl, rfl, rfl, q1213⟩⟩
theorem V.ndX0_26 : ND RX0 26 6 18 := ⟨(RX6, TX6, 18), tyX6, rfl, rfl, in_X6, tyX6_ok, by decide, q618, q619, q366⟩
theorem V.fdX0_22 : FD RX0 22 0 1 2 := ⟨(RX0, TX0, 13), tyX0, rfl, rfl, in_X0, by decide, Or.inl q1213, rfl⟩
theorem V.mdX0_28 : MD RX0 28 yX6_init cX6_init 2 none 1 := ⟨Or.inl q620, q366, q622, by decide, by decide, by decide +kernel⟩
theorem V.fpX0_31 : FP RX0 "<init>" 31 0 2 (.object "ModuleEngine$Flat") := ⟨(RX0, TX0, 13), tyX0, rfl, rfl, in_X0, by decide, tyX0_ok, nmX0, rfl, Or.inr ⟨rfl, rfl, rfl, q1214⟩⟩
theorem V.ndX0_35 : ND RX0 35 7 17 := ⟨(RX7, TX7, 17), tyX7, rfl, rfl, in_X7, tyX7_ok, by decide, q683, q684, q367⟩
theorem V.fdX0_31 : FD RX0 31 0 2 2 := ⟨(RX0, TX0, 13), tyX0, rfl, rfl, in_X0, by decide, Or.inl q1214, rfl⟩
theorem V.mdX0_37 : MD RX0 37 yX7_init cX7_init 3 none 2 := ⟨Or.inl q685, q367, q687, by decide, by decide, by decide +kernel⟩
theorem V.fpX0_40 : FP RX0 "<init>" 40 0 3 (.object "ModuleEngine$Registers") := ⟨(RX0, TX0, 13), tyX0, rfl, rfl, in_X0, by decide, tyX0_ok, nmX0, rfl, Or.inr ⟨rfl, rfl, rfl, q1215⟩⟩
theorem V.ndX0_44 : ND RX0 44 8 9 := ⟨(RX8, TX8, 9), tyX8, rfl, rfl, in_X8, tyX8_ok, by decide, q746, q747, q368⟩
theorem V.mdX0_46 : MD RX0 46 yX8_init cX8_init 2 none 1 := ⟨Or.inl q748, q368, q750, by decide, by decide, by decide +kernel⟩
theorem V.fpX0_49 : FP RX0 "<init>" 49 0 4 (.object "ModuleEngine$Loader") := ⟨(RX0, TX0, 13), tyX0, rfl, rfl, in_X0, by decide, tyX0_ok, nmX0, rfl, Or.inr ⟨rfl, rfl, rfl, q1216⟩⟩
theorem V.ndX0_53 : ND RX0 53 13 27 := ⟨(RX13, TX13, 27), tyX13, rfl, rfl, in_X13, tyX13_ok, by decide, q942, q943, q373⟩
theorem V.mdX0_55 : MD RX0 55 yX13_init cX13_init 1 none 0 := ⟨Or.inr ⟨_, q944⟩, q373, q946, by decide, by decide, by decide +kernel⟩
theorem V.fpX0_56 : FP RX0 "<init>" 56 0 5 (.object "ModuleEngine$Store") := ⟨(RX0, TX0, 13), tyX0, rfl, rfl, in_X0, by decide, tyX0_ok, nmX0, rfl, Or.inr ⟨rfl, rfl, rfl, q1217⟩⟩
theorem V.ndX0_60 : ND RX0 60 16 26 := ⟨(RX16, TX16, 26), tyX16, rfl, rfl, in_X16, tyX16_ok, by decide, q1114, q1115, q376⟩
theorem V.fdX0_40 : FD RX0 40 0 3 2 := ⟨(RX0, TX0, 13), tyX0, rfl, rfl, in_X0, by decide, Or.inl q1215, rfl⟩
theorem V.fdX0_56 : FD RX0 56 0 5 2 := ⟨(RX0, TX0, 13), tyX0, rfl, rfl, in_X0, by decide, Or.inl q1217, rfl⟩
theorem V.mdX0_62 : MD RX0 62 yX16_init cX16_init 5 none 4 := ⟨Or.inl q1116, q376, q1118, by decide, by decide, by decide +kernel⟩
theorem V.fpX0_65 : FP RX0 "<init>" 65 0 6 (.object "ModuleEngine$Runner") := ⟨(RX0, TX0, 13), tyX0, rfl, rfl, in_X0, by decide, tyX0_ok, nmX0, rfl, Or.inr ⟨rfl, rfl, rfl, q1218⟩⟩
theorem V.fpX0_69 : FP RX0 "<init>" 69 0 7 (.array .long) := ⟨(RX0, TX0, 13), tyX0, rfl, rfl, in_X0, by decide, tyX0_ok, nmX0, rfl, Or.inr ⟨rfl, rfl, rfl, q1219⟩⟩
theorem V.fpX0_73 {nm : String} : FP RX0 nm 73 0 11 (.int) := ⟨(RX0, TX0, 13), tyX0, rfl, rfl, in_X0, by decide, tyX0_ok, nmX0, rfl, Or.inl ⟨rfl, Or.inl q1223⟩⟩
theorem V.fpX0_77 {nm : String} : FP RX0 nm 77 0 12 (.int) := ⟨(RX0, TX0, 13), tyX0, rfl, rfl, in_X0, by decide, tyX0_ok, nmX0, rfl, Or.inl ⟨rfl, Or.inl q1224⟩⟩
/-! ModuleEngine.<init>()V -/
def V.Eng_init (σ : HS) (x0 : Nat) : Option (Unit × HS) :=
  ck (¬ x0 = 0) <|
  newo σ 2 10 fun a1 σ2 =>
  ck (¬ a1 = 0) <| cl (Byt_init σ2 a1 (40960 : Int32)) fun _ σ3 =>
  ck (tg σ3 x0 = 1) <| bn (sR σ3 x0 0 a1) fun σ4 =>
  newo σ4 5 4 fun a5 σ6 =>
  ck (¬ a5 = 0) <| cl (Num_init σ6 a5 ) fun _ σ7 =>
  ck (tg σ7 x0 = 1) <| bn (sR σ7 x0 1 a5) fun σ8 =>
  newo σ8 7 18 fun a9 σ10 =>
  ck (tg σ10 x0 = 1) <|
  ck (¬ a9 = 0) <| cl (Flt_init σ10 a9 (gR σ10 x0 1)) fun _ σ11 =>
  ck (tg σ11 x0 = 1) <| bn (sR σ11 x0 2 a9) fun σ12 =>
  newo σ12 8 17 fun a13 σ14 =>
  ck (tg σ14 x0 = 1) <|
  ck (tg σ14 x0 = 1) <|
  ck (¬ a13 = 0) <| cl (Reg_init σ14 a13 (gR σ14 x0 2) (gR σ14 x0 1)) fun _ σ15 =>
  ck (tg σ15 x0 = 1) <| bn (sR σ15 x0 3 a13) fun σ16 =>
  newo σ16 9 9 fun a17 σ18 =>
  ck (tg σ18 x0 = 1) <|
  ck (¬ a17 = 0) <| cl (Ldr_init σ18 a17 (gR σ18 x0 2)) fun _ σ19 =>
  ck (tg σ19 x0 = 1) <| bn (sR σ19 x0 4 a17) fun σ20 =>
  newo σ20 14 27 fun a21 σ22 =>
  ck (¬ a21 = 0) <| cl (Sto_init σ22 a21 ) fun _ σ23 =>
  ck (tg σ23 x0 = 1) <| bn (sR σ23 x0 5 a21) fun σ24 =>
  newo σ24 17 26 fun a25 σ26 =>
  ck (tg σ26 x0 = 1) <|
  ck (tg σ26 x0 = 1) <|
  ck (tg σ26 x0 = 1) <|
  ck (tg σ26 x0 = 1) <|
  ck (¬ a25 = 0) <| cl (Run_init σ26 a25 (gR σ26 x0 2) (gR σ26 x0 3) (gR σ26 x0 1) (gR σ26 x0 5)) fun _ σ27 =>
  ck (tg σ27 x0 = 1) <| bn (sR σ27 x0 6 a25) fun σ28 =>
  ck (lenok (16 : Int32)) <| newa σ28 101 (16 : Int32) fun a29 σ30 =>
  ck (tg σ30 x0 = 1) <| bn (sR σ30 x0 7 a29) fun σ31 =>
  ck (tg σ31 x0 = 1) <| bn (sI σ31 x0 11 (-1 : Int32)) fun σ32 =>
  ck (tg σ32 x0 = 1) <| bn (sI σ32 x0 12 (-1 : Int32)) fun σ33 =>
  some ((), σ33)
theorem V.ctX0_init (x0 : Nat) : Ct yX0_init  cX0_init 1 none 4 89 eV [av x0] (fun σ => Eng_init σ x0) := by
  refine Ct.of (own := RX0) (nm := "<init>") (desc := "()V") rfl (by decide) (Nat.le_of_ble_eq_true rfl) (by decide) (fun X σ => ?_)
  show G X RX0 "<init>" cX0_init 1 none 4 89 enV 0 [(0, av x0)] [] σ (Eng_init σ x0)
  unfold Eng_init
  refine g_aload_n 0 0 dX0_init_0 rfl rfl ?_
  refine g_objInit q392 (Nat.le_of_ble_eq_true rfl) (Nat.le_of_ble_eq_true rfl) dX0_init_1 ?_
  refine g_aload_n 0 0 dX0_init_4 rfl rfl ?_
  refine g_newo ndX0_7 dX0_init_5 (fun a1 σ2 => ?_)
  refine g_dup dX0_init_8 rfl ?_
  refine g_ldc q397 dX0_init_9 ?_
  refine g_callI (fc := fun sς => Byt_init sς a1 (40960 : Int32)) (as := [iv (40960 : Int32)]) rfl q399 mdX0_12 (ctX1_init a1 (40960 : Int32)) rfl (Nat.le_of_ble_eq_true rfl) (Nat.le_of_ble_eq_true rfl) (Nat.le_of_ble_eq_true rfl) pu_V dX0_init_11 (fun _ σ3 => ?_)
  refine g_putR fpX0_15 rfl dX0_init_14 (fun σ4 => ?_)
  refine g_aload_n 0 0 dX0_init_17 rfl rfl ?_
  refine g_newo ndX0_19 dX0_init_18 (fun a5 σ6 => ?_)
  refine g_dup dX0_init_21 rfl ?_
  refine g_callI (fc := fun sς => Num_init sς a5 ) (as := []) rfl q574 mdX0_21 (ctX4_init a5 ) rfl (Nat.le_of_ble_eq_true rfl) (Nat.le_of_ble_eq_true rfl) (Nat.le_of_ble_eq_true rfl) pu_V dX0_init_22 (fun _ σ7 => ?_)
  refine g_putR fpX0_22 rfl dX0_init_25 (fun σ8 => ?_)
  refine g_aload_n 0 0 dX0_init_28 rfl rfl ?_
  refine g_newo ndX0_26 dX0_init_29 (fun a9 σ10 => ?_)
  refine g_dup dX0_init_32 rfl ?_
  refine g_aload_n 0 0 dX0_init_33 rfl rfl ?_
  refine g_getR fdX0_22 dX0_init_34 ?_
  refine g_callI (fc := fun sς => Flt_init sς a9 (gR σ10 x0 1)) (as := [av (gR σ10 x0 1)]) rfl q621 mdX0_28 (ctX6_init a9 (gR σ10 x0 1)) rfl (Nat.le_of_ble_eq_true rfl) (Nat.le_of_ble_eq_true rfl) (Nat.le_of_ble_eq_true rfl) pu_V dX0_init_37 (fun _ σ11 => ?_)
  refine g_putR fpX0_31 rfl dX0_init_40 (fun σ12 => ?_)
  refine g_aload_n 0 0 dX0_init_43 rfl rfl ?_
  refine g_newo ndX0_35 dX0_init_44 (fun a13 σ14 => ?_)
  refine g_dup dX0_init_47 rfl ?_
  refine g_aload_n 0 0 dX0_init_48 rfl rfl ?_
  refine g_getR fdX0_31 dX0_init_49 ?_
  refine g_aload_n 0 0 dX0_init_52 rfl rfl ?_
  refine g_getR fdX0_22 dX0_init_53 ?_
  refine g_callI (fc := fun sς => Reg_init sς a13 (gR σ14 x0 2) (gR σ14 x0 1)) (as := [av (gR σ14 x0 2), av (gR σ14 x0 1)]) rfl q686 mdX0_37 (ctX7_init a13 (gR σ14 x0 2) (gR σ14 x0 1)) rfl (Nat.le_of_ble_eq_true rfl) (Nat.le_of_ble_eq_true rfl) (Nat.le_of_ble_eq_true rfl) pu_V dX0_init_56 (fun _ σ15 => ?_)
  refine g_putR fpX0_40 rfl dX0_init_59 (fun σ16 => ?_)
  refine g_aload_n 0 0 dX0_init_62 rfl rfl ?_
  refine g_newo ndX0_44 dX0_init_63 (fun a17 σ18 => ?_)
  refine g_dup dX0_init_66 rfl ?_
  refine g_aload_n 0 0 dX0_init_67 rfl rfl ?_
  refine g_getR fdX0_31 dX0_init_68 ?_
  refine g_callI (fc := fun sς => Ldr_init sς a17 (gR σ18 x0 2)) (as := [av (gR σ18 x0 2)]) rfl q749 mdX0_46 (ctX8_init a17 (gR σ18 x0 2)) rfl (Nat.le_of_ble_eq_true rfl) (Nat.le_of_ble_eq_true rfl) (Nat.le_of_ble_eq_true rfl) pu_V dX0_init_71 (fun _ σ19 => ?_)
  refine g_putR fpX0_49 rfl dX0_init_74 (fun σ20 => ?_)
  refine g_aload_n 0 0 dX0_init_77 rfl rfl ?_
  refine g_newo ndX0_53 dX0_init_78 (fun a21 σ22 => ?_)
  refine g_dup dX0_init_81 rfl ?_
  refine g_callI (fc := fun sς => Sto_init sς a21 ) (as := []) rfl q945 mdX0_55 (ctX13_init a21 ) rfl (Nat.le_of_ble_eq_true rfl) (Nat.le_of_ble_eq_true rfl) (Nat.le_of_ble_eq_true rfl) pu_V dX0_init_82 (fun _ σ23 => ?_)
  refine g_putR fpX0_56 rfl dX0_init_85 (fun σ24 => ?_)
  refine g_aload_n 0 0 dX0_init_88 rfl rfl ?_
  refine g_newo ndX0_60 dX0_init_89 (fun a25 σ26 => ?_)
  refine g_dup dX0_init_92 rfl ?_
  refine g_aload_n 0 0 dX0_init_93 rfl rfl ?_
  refine g_getR fdX0_31 dX0_init_94 ?_
  refine g_aload_n 0 0 dX0_init_97 rfl rfl ?_
  refine g_getR fdX0_40 dX0_init_98 ?_
  refine g_aload_n 0 0 dX0_init_101 rfl rfl ?_
  refine g_getR fdX0_22 dX0_init_102 ?_
  refine g_aload_n 0 0 dX0_init_105 rfl rfl ?_
  refine g_getR fdX0_56 dX0_init_106 ?_
  refine g_callI (fc := fun sς => Run_init sς a25 (gR σ26 x0 2) (gR σ26 x0 3) (gR σ26 x0 1) (gR σ26 x0 5)) (as := [av (gR σ26 x0 2), av (gR σ26 x0 3), av (gR σ26 x0 1), av (gR σ26 x0 5)]) rfl q1117 mdX0_62 (ctX16_init a25 (gR σ26 x0 2) (gR σ26 x0 3) (gR σ26 x0 1) (gR σ26 x0 5)) rfl (Nat.le_of_ble_eq_true rfl) (Nat.le_of_ble_eq_true rfl) (Nat.le_of_ble_eq_true rfl) pu_V dX0_init_109 (fun _ σ27 => ?_)
  refine g_putR fpX0_65 rfl dX0_init_112 (fun σ28 => ?_)
  refine g_aload_n 0 0 dX0_init_115 rfl rfl ?_
  refine g_bipush (v := 16) dX0_init_116 (by decide) ?_
  refine g_na_long dX0_init_118 (fun a29 σ30 => ?_)
  refine g_putR fpX0_69 rfl dX0_init_120 (fun σ31 => ?_)
  refine g_aload_n 0 0 dX0_init_123 rfl rfl ?_
  refine g_iconst (v := (-1)) dX0_init_124 (by decide) ?_
  refine g_putI fpX0_73 dX0_init_125 (fun σ32 => ?_)
  refine g_aload_n 0 0 dX0_init_128 rfl rfl ?_
  refine g_iconst (v := (-1)) dX0_init_129 (by decide) ?_
  refine g_putI fpX0_77 dX0_init_130 (fun σ33 => ?_)
  exact g_return rfl dX0_init_133
