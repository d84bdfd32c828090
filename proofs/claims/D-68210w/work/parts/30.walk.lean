set_option maxRecDepth 100000
theorem V.dX8_faultOf_0 : decode cX8_faultOf 0 = .ok (.iload_n 0, 1) := by decide +kernel
theorem V.dX8_faultOf_1 : decode cX8_faultOf 1 = .ok (.bipush 15, 2) := by decide +kernel
theorem V.dX8_faultOf_3 : decode cX8_faultOf 3 = .ok (.if_icmp .ne 8, 3) := by decide +kernel
theorem V.dX8_faultOf_6 : decode cX8_faultOf 6 = .ok (.bipush 40, 2) := by decide +kernel
theorem V.dX8_faultOf_8 : decode cX8_faultOf 8 = .ok (.goto 22, 3) := by decide +kernel
theorem V.dX8_faultOf_11 : decode cX8_faultOf 11 = .ok (.iload_n 0, 1) := by decide +kernel
theorem V.dX8_faultOf_12 : decode cX8_faultOf 12 = .ok (.bipush 6, 2) := by decide +kernel
theorem V.dX8_faultOf_14 : decode cX8_faultOf 14 = .ok (.if_icmp .lt 9, 3) := by decide +kernel
theorem V.dX8_faultOf_17 : decode cX8_faultOf 17 = .ok (.iload_n 0, 1) := by decide +kernel
theorem V.dX8_faultOf_18 : decode cX8_faultOf 18 = .ok (.bipush 7, 2) := by decide +kernel
theorem V.dX8_faultOf_20 : decode cX8_faultOf 20 = .ok (.if_icmp .ne 8, 3) := by decide +kernel
theorem V.dX8_faultOf_23 : decode cX8_faultOf 23 = .ok (.bipush 29, 2) := by decide +kernel
theorem V.dX8_faultOf_25 : decode cX8_faultOf 25 = .ok (.goto 5, 3) := by decide +kernel
theorem V.dX8_faultOf_28 : decode cX8_faultOf 28 = .ok (.bipush 30, 2) := by decide +kernel
theorem V.dX8_faultOf_30 : decode cX8_faultOf 30 = .ok (.ireturn, 1) := by decide +kernel
/-! ModuleEngine$Loader.faultOf(I)I -/
def V.Ldr_faultOf_p23  (σ : HS)  : Option (Int32 × HS) :=
  some ((29 : Int32), σ)
theorem V.gX8_faultOf_p23 {X : CX}  (σ : HS)  : G X RX8 "faultOf" cX8_faultOf 1 (some .int) 0 0 enI 23 [] [] σ (Ldr_faultOf_p23 σ ) := by
  unfold Ldr_faultOf_p23
  refine g_bipush (v := 29) dX8_faultOf_23 (by decide) ?_
  refine g_goto 30 dX8_faultOf_25 (by decide) ?_
  exact g_ireturn rfl dX8_faultOf_30
def V.Ldr_faultOf (σ : HS) (x0 : Int32) : Option (Int32 × HS) :=
  if x0 = (15 : Int32) then (
    some ((40 : Int32), σ))
  else (
    if x0 < (6 : Int32) then (
      Ldr_faultOf_p23 σ)
    else (
      if x0 = (7 : Int32) then (
        Ldr_faultOf_p23 σ)
      else (
        some ((30 : Int32), σ))))
theorem V.ctX8_faultOf (x0 : Int32) : Ct yX8_faultOf  cX8_faultOf 1 (some .int) 0 0 eI [iv x0] (fun σ => Ldr_faultOf σ x0) := by
  refine Ct.of (own := RX8) (nm := "faultOf") (desc := "(I)I") rfl (by decide) (Nat.le_of_ble_eq_true rfl) (by decide) (fun X σ => ?_)
  show G X RX8 "faultOf" cX8_faultOf 1 (some .int) 0 0 enI 0 [(0, iv x0)] [] σ (Ldr_faultOf σ x0)
  unfold Ldr_faultOf
  refine g_iload_n 0 0 dX8_faultOf_0 rfl rfl ?_
  refine g_bipush (v := 15) dX8_faultOf_1 (by decide) ?_
  refine g_icmp_ne 11 dX8_faultOf_3 (by decide) ?_ ?_
  · refine g_iload_n 0 0 dX8_faultOf_11 rfl rfl ?_
    refine g_bipush (v := 6) dX8_faultOf_12 (by decide) ?_
    refine g_icmp_lt 23 dX8_faultOf_14 (by decide) ?_ ?_
    · refine G.sub [] rfl ?_
      exact gX8_faultOf_p23 _
    · refine g_iload_n 0 0 dX8_faultOf_17 rfl rfl ?_
      refine g_bipush (v := 7) dX8_faultOf_18 (by decide) ?_
      refine g_icmp_ne 28 dX8_faultOf_20 (by decide) ?_ ?_
      · refine g_bipush (v := 30) dX8_faultOf_28 (by decide) ?_
        exact g_ireturn rfl dX8_faultOf_30
      · refine G.sub [] rfl ?_
        exact gX8_faultOf_p23 _
  · refine g_bipush (v := 40) dX8_faultOf_6 (by decide) ?_
    refine g_goto 30 dX8_faultOf_8 (by decide) ?_
    exact g_ireturn rfl dX8_faultOf_30
theorem V.dX8_checkBody_0 : decode cX8_checkBody 0 = .ok (.aload_n 0, 1) := by decide +kernel
theorem V.dX8_checkBody_1 : decode cX8_checkBody 1 = .ok (.iload_n 1, 1) := by decide +kernel
theorem V.dX8_checkBody_2 : decode cX8_checkBody 2 = .ok (.invokevirtual 299, 3) := by decide +kernel
theorem V.dX8_checkBody_5 : decode cX8_checkBody 5 = .ok (.aload_n 0, 1) := by decide +kernel
theorem V.dX8_checkBody_6 : decode cX8_checkBody 6 = .ok (.getfield 57, 3) := by decide +kernel
theorem V.dX8_checkBody_9 : decode cX8_checkBody 9 = .ok (.getfield 171, 3) := by decide +kernel
theorem V.dX8_checkBody_12 : decode cX8_checkBody 12 = .ok (.iconst 5, 1) := by decide +kernel
theorem V.dX8_checkBody_13 : decode cX8_checkBody 13 = .ok (.iload_n 1, 1) := by decide +kernel
theorem V.dX8_checkBody_14 : decode cX8_checkBody 14 = .ok (.imul, 1) := by decide +kernel
theorem V.dX8_checkBody_15 : decode cX8_checkBody 15 = .ok (.iconst 4, 1) := by decide +kernel
theorem V.dX8_checkBody_16 : decode cX8_checkBody 16 = .ok (.iadd, 1) := by decide +kernel
theorem V.dX8_checkBody_17 : decode cX8_checkBody 17 = .ok (.invokevirtual 174, 3) := by decide +kernel
theorem V.dX8_checkBody_20 : decode cX8_checkBody 20 = .ok (.istore_n 2, 1) := by decide +kernel
theorem V.dX8_checkBody_21 : decode cX8_checkBody 21 = .ok (.aload_n 0, 1) := by decide +kernel
theorem V.dX8_checkBody_22 : decode cX8_checkBody 22 = .ok (.getfield 35, 3) := by decide +kernel
theorem V.dX8_checkBody_25 : decode cX8_checkBody 25 = .ok (.getfield 118, 3) := by decide +kernel
theorem V.dX8_checkBody_28 : decode cX8_checkBody 28 = .ok (.iload_n 2, 1) := by decide +kernel
theorem V.dX8_checkBody_29 : decode cX8_checkBody 29 = .ok (.if_icmp .ge 116, 3) := by decide +kernel
theorem V.dX8_checkBody_32 : decode cX8_checkBody 32 = .ok (.aload_n 0, 1) := by decide +kernel
theorem V.dX8_checkBody_33 : decode cX8_checkBody 33 = .ok (.getfield 35, 3) := by decide +kernel
theorem V.dX8_checkBody_36 : decode cX8_checkBody 36 = .ok (.invokevirtual 182, 3) := by decide +kernel
theorem V.dX8_checkBody_39 : decode cX8_checkBody 39 = .ok (.iconst 0, 1) := by decide +kernel
theorem V.dX8_checkBody_40 : decode cX8_checkBody 40 = .ok (.istore_n 3, 1) := by decide +kernel
theorem V.dX8_checkBody_41 : decode cX8_checkBody 41 = .ok (.iload_n 3, 1) := by decide +kernel
theorem V.dX8_checkBody_42 : decode cX8_checkBody 42 = .ok (.aload_n 0, 1) := by decide +kernel
theorem V.dX8_checkBody_43 : decode cX8_checkBody 43 = .ok (.getfield 35, 3) := by decide +kernel
theorem V.dX8_checkBody_46 : decode cX8_checkBody 46 = .ok (.getfield 188, 3) := by decide +kernel
theorem V.dX8_checkBody_49 : decode cX8_checkBody 49 = .ok (.invokevirtual 100, 3) := by decide +kernel
theorem V.dX8_checkBody_52 : decode cX8_checkBody 52 = .ok (.if_icmp .ge 42, 3) := by decide +kernel
theorem V.dX8_checkBody_55 : decode cX8_checkBody 55 = .ok (.aload_n 0, 1) := by decide +kernel
theorem V.dX8_checkBody_56 : decode cX8_checkBody 56 = .ok (.getfield 35, 3) := by decide +kernel
theorem V.dX8_checkBody_59 : decode cX8_checkBody 59 = .ok (.getfield 185, 3) := by decide +kernel
theorem V.dX8_checkBody_62 : decode cX8_checkBody 62 = .ok (.bipush 14, 2) := by decide +kernel
theorem V.dX8_checkBody_64 : decode cX8_checkBody 64 = .ok (.if_icmp .ne 30, 3) := by decide +kernel
theorem V.dX8_checkBody_67 : decode cX8_checkBody 67 = .ok (.aload_n 0, 1) := by decide +kernel
theorem V.dX8_checkBody_68 : decode cX8_checkBody 68 = .ok (.getfield 28, 3) := by decide +kernel
theorem V.dX8_checkBody_71 : decode cX8_checkBody 71 = .ok (.getfield 300, 3) := by decide +kernel
theorem V.dX8_checkBody_74 : decode cX8_checkBody 74 = .ok (.aload_n 0, 1) := by decide +kernel
theorem V.dX8_checkBody_75 : decode cX8_checkBody 75 = .ok (.getfield 35, 3) := by decide +kernel
theorem V.dX8_checkBody_78 : decode cX8_checkBody 78 = .ok (.getfield 188, 3) := by decide +kernel
theorem V.dX8_checkBody_81 : decode cX8_checkBody 81 = .ok (.iload_n 3, 1) := by decide +kernel
theorem V.dX8_checkBody_82 : decode cX8_checkBody 82 = .ok (.invokevirtual 174, 3) := by decide +kernel
theorem V.dX8_checkBody_85 : decode cX8_checkBody 85 = .ok (.invokevirtual 248, 3) := by decide +kernel
theorem V.dX8_checkBody_88 : decode cX8_checkBody 88 = .ok (.iinc 3 1, 3) := by decide +kernel
theorem V.dX8_checkBody_91 : decode cX8_checkBody 91 = .ok (.goto (-50), 3) := by decide +kernel
theorem V.dX8_checkBody_94 : decode cX8_checkBody 94 = .ok (.aload_n 0, 1) := by decide +kernel
theorem V.dX8_checkBody_95 : decode cX8_checkBody 95 = .ok (.getfield 28, 3) := by decide +kernel
theorem V.dX8_checkBody_98 : decode cX8_checkBody 98 = .ok (.aload_n 0, 1) := by decide +kernel
theorem V.dX8_checkBody_99 : decode cX8_checkBody 99 = .ok (.getfield 35, 3) := by decide +kernel
theorem V.dX8_checkBody_102 : decode cX8_checkBody 102 = .ok (.getfield 185, 3) := by decide +kernel
theorem V.dX8_checkBody_105 : decode cX8_checkBody 105 = .ok (.aload_n 0, 1) := by decide +kernel
theorem V.dX8_checkBody_106 : decode cX8_checkBody 106 = .ok (.getfield 35, 3) := by decide +kernel
theorem V.dX8_checkBody_109 : decode cX8_checkBody 109 = .ok (.getfield 262, 3) := by decide +kernel
theorem V.dX8_checkBody_112 : decode cX8_checkBody 112 = .ok (.aload_n 0, 1) := by decide +kernel
theorem V.dX8_checkBody_113 : decode cX8_checkBody 113 = .ok (.getfield 35, 3) := by decide +kernel
theorem V.dX8_checkBody_116 : decode cX8_checkBody 116 = .ok (.getfield 303, 3) := by decide +kernel
theorem V.dX8_checkBody_119 : decode cX8_checkBody 119 = .ok (.invokevirtual 306, 3) := by decide +kernel
theorem V.dX8_checkBody_122 : decode cX8_checkBody 122 = .ok (.istore_n 3, 1) := by decide +kernel
theorem V.dX8_checkBody_123 : decode cX8_checkBody 123 = .ok (.iload_n 3, 1) := by decide +kernel
theorem V.dX8_checkBody_124 : decode cX8_checkBody 124 = .ok (.ifCond .le 18, 3) := by decide +kernel
theorem V.dX8_checkBody_127 : decode cX8_checkBody 127 = .ok (.aload_n 0, 1) := by decide +kernel
theorem V.dX8_checkBody_128 : decode cX8_checkBody 128 = .ok (.iload_n 3, 1) := by decide +kernel
theorem V.dX8_checkBody_129 : decode cX8_checkBody 129 = .ok (.invokestatic 310, 3) := by decide +kernel
theorem V.dX8_checkBody_132 : decode cX8_checkBody 132 = .ok (.aload_n 0, 1) := by decide +kernel
theorem V.dX8_checkBody_133 : decode cX8_checkBody 133 = .ok (.getfield 35, 3) := by decide +kernel
theorem V.dX8_checkBody_136 : decode cX8_checkBody 136 = .ok (.getfield 279, 3) := by decide +kernel
theorem V.dX8_checkBody_139 : decode cX8_checkBody 139 = .ok (.invokevirtual 53, 3) := by decide +kernel
theorem V.dX8_checkBody_142 : decode cX8_checkBody 142 = .ok (.goto (-121), 3) := by decide +kernel
theorem V.dX8_checkBody_145 : decode cX8_checkBody 145 = .ok (.return_, 1) := by decide +kernel
theorem V.mdX8_299 : MD RX8 299 yX8_beginBody cX8_beginBody 5 none 1 := ⟨Or.inl q1726, q368, q1729, by decide, by decide, by decide +kernel⟩
theorem V.fdX8_300 : FD RX8 300 11 11 2 := ⟨(RX11, TX11, 17), tyX11, rfl, rfl, in_X11, by decide, Or.inr ⟨_, q830⟩, rfl⟩
theorem V.fdX8_303 : FD RX8 303 12 5 0 := ⟨(RX12, TX12, 8), tyX12, rfl, rfl, in_X12, by decide, Or.inr ⟨_, q891⟩, rfl⟩
theorem V.mdX8_306 : MDW RX8 306 yX11_step cX11_step 5 (some .int) [(10, 17, 20, 64)] 3 := ⟨q1784, q371, q1787, by decide, by decide, by decide +kernel⟩
theorem V.mdX8_310 : MD RX8 310 yX8_faultOf cX8_faultOf 1 (some .int) 1 := ⟨Or.inl q2019, q368, q2021, by decide, by decide, by decide +kernel⟩
/-! ModuleEngine$Loader.checkBody(I)V -/
def V.Ldr_checkBody_p94 (rec21 : HS → Nat → Int32 → Option ((Nat ⊕ Unit) × HS)) (σ : HS) (x0 : Nat) (x2 : Int32) : Option ((Nat ⊕ Unit) × HS) :=
  ck (tg σ x0 = 9) <|
  ck (tg σ x0 = 9) <|
  ck (tg σ (gR σ x0 6) = 13) <|
  ck (tg σ x0 = 9) <|
  ck (tg σ (gR σ x0 6) = 13) <|
  ck (tg σ x0 = 9) <|
  ck (tg σ (gR σ x0 6) = 13) <|
  ck (tg σ (gR σ x0 5) = 12) <| cl (Chk_step σ (gR σ x0 5) (gI σ (gR σ x0 6) 3) (gI σ (gR σ x0 6) 4) (gI σ (gR σ x0 6) 5)) fun r2 σ1 =>
  if r2 ≤ 0 then (
    rec21 σ1 x0 x2)
  else (
    cl (Ldr_faultOf σ1 r2) fun r4 σ3 =>
    ck (tg σ3 x0 = 9) <|
    ck (tg σ3 (gR σ3 x0 6) = 13) <|
    ck (tg σ3 x0 = 9) <| clT (Ldr_stop σ3 x0 r4 (gI σ3 (gR σ3 x0 6) 2)) fun _ σ5 =>
    rec21 σ5 x0 x2)
theorem V.gX8_checkBody_p94 {X : CX} (rec21 : HS → Nat → Int32 → Option ((Nat ⊕ Unit) × HS)) (hrec21 : ∀ (σ : HS) (x0 : Nat) (x2 : Int32), G X RX8 "checkBody" cX8_checkBody 4 none 16 307 (enX enV (cxz X)) 21 [(0, av x0), (2, iv x2)] [] σ (rec21 σ x0 x2)) (σ : HS) (x0 : Nat) (x2 : Int32) : G X RX8 "checkBody" cX8_checkBody 4 none 16 307 (enX enV (cxz X)) 94 [(0, av x0), (2, iv x2)] [] σ (Ldr_checkBody_p94 rec21 σ x0 x2) := by
  unfold Ldr_checkBody_p94
  refine g_aload_n 0 0 dX8_checkBody_94 rfl rfl ?_
  refine g_getR fdX8_28 dX8_checkBody_95 ?_
  refine g_aload_n 0 0 dX8_checkBody_98 rfl rfl ?_
  refine g_getR fdX8_35 dX8_checkBody_99 ?_
  refine g_getI fdX8_185 dX8_checkBody_102 ?_
  refine g_aload_n 0 0 dX8_checkBody_105 rfl rfl ?_
  refine g_getR fdX8_35 dX8_checkBody_106 ?_
  refine g_getI fdX8_262 dX8_checkBody_109 ?_
  refine g_aload_n 0 0 dX8_checkBody_112 rfl rfl ?_
  refine g_getR fdX8_35 dX8_checkBody_113 ?_
  refine g_getI fdX8_303 dX8_checkBody_116 ?_
  refine g_callVW (fc := fun sς => Chk_step sς (gR σ x0 5) (gI σ (gR σ x0 6) 3) (gI σ (gR σ x0 6) 4) (gI σ (gR σ x0 6) 5)) (ci := 11) (as := [iv (gI σ (gR σ x0 6) 3), iv (gI σ (gR σ x0 6) 4), iv (gI σ (gR σ x0 6) 5)]) rfl rfl q1785 q1786 mdX8_306 (ctX11_step (gR σ x0 5) (gI σ (gR σ x0 6) 3) (gI σ (gR σ x0 6) 4) (gI σ (gR σ x0 6) 5)) rfl (Nat.le_of_ble_eq_true rfl) (Nat.le_of_ble_eq_true rfl) (Nat.le_of_ble_eq_true rfl) pu_I dX8_checkBody_119 (fun r2 σ1 => ?_)
  refine g_istore_n 3 dX8_checkBody_122 rfl (by decide) rfl ?_
  refine g_iload_n 3 0 dX8_checkBody_123 rfl rfl ?_
  refine g_if_le 142 dX8_checkBody_124 (by decide) ?_ ?_
  · refine g_goto 21 dX8_checkBody_142 (by decide) ?_
    refine G.sub [1, 2] rfl ?_
    exact hrec21 _ _ _
  · refine g_aload_n 0 1 dX8_checkBody_127 rfl rfl ?_
    refine g_iload_n 3 0 dX8_checkBody_128 rfl rfl ?_
    refine g_callS (fc := fun sς => Ldr_faultOf sς r2) (as := [iv r2]) q2020 mdX8_310 (ctX8_faultOf r2) rfl (Nat.le_of_ble_eq_true rfl) (Nat.le_of_ble_eq_true rfl) (Nat.le_of_ble_eq_true rfl) pu_I dX8_checkBody_129 (fun r4 σ3 => ?_)
    refine g_aload_n 0 1 dX8_checkBody_132 rfl rfl ?_
    refine g_getR fdX8_35 dX8_checkBody_133 ?_
    refine g_getI fdX8_279 dX8_checkBody_136 ?_
    refine g_callVT (fc := fun sς => Ldr_stop sς x0 r4 (gI σ3 (gR σ3 x0 6) 2)) (ci := 8) (as := [iv r4, iv (gI σ3 (gR σ3 x0 6) 2)]) rfl rfl rfl q1594 qs43 q1592 mdX8_53 (ctX8_stop x0 r4 (gI σ3 (gR σ3 x0 6) 2)) rfl (Nat.le_of_ble_eq_true rfl) (Nat.le_of_ble_eq_true rfl) (Nat.le_of_ble_eq_true rfl) pu_V (by decide) dX8_checkBody_139 (fun _ σ5 => ?_)
    refine g_goto 21 dX8_checkBody_142 (by decide) ?_
    refine G.sub [1, 2] rfl ?_
    exact hrec21 _ _ _
def V.Ldr_checkBody_p41 (rec21 : HS → Nat → Int32 → Option ((Nat ⊕ Unit) × HS)) : Nat → HS → Nat → Int32 → Int32 → Option ((Nat ⊕ Unit) × HS)
  | 0, _, _, _, _ => none
  | n + 1, σ, x0, x2, x3 =>
    ck (tg σ x0 = 9) <|
    ck (tg σ (gR σ x0 6) = 13) <|
    ck (tg σ (gR σ (gR σ x0 6) 7) = 4) <| cl (Row_size σ (gR σ (gR σ x0 6) 7) ) fun r2 σ1 =>
    if r2 ≤ x3 then (
      Ldr_checkBody_p94 rec21 σ1 x0 x2)
    else (
      ck (tg σ1 x0 = 9) <|
      ck (tg σ1 (gR σ1 x0 6) = 13) <|
      if (gI σ1 (gR σ1 x0 6) 3) = (14 : Int32) then (
        ck (tg σ1 x0 = 9) <|
        ck (tg σ1 (gR σ1 x0 5) = 12) <|
        ck (tg σ1 x0 = 9) <|
        ck (tg σ1 (gR σ1 x0 6) = 13) <|
        ck (tg σ1 (gR σ1 (gR σ1 x0 6) 7) = 4) <| cl (Row_at σ1 (gR σ1 (gR σ1 x0 6) 7) x3) fun r4 σ3 =>
        ck (tg σ3 (gR σ1 (gR σ1 x0 5) 11) = 4) <| cl (Row_add σ3 (gR σ1 (gR σ1 x0 5) 11) r4) fun _ σ5 =>
        bn (x3 + (1 : Int32)) fun y6 =>
        Ldr_checkBody_p41 rec21 n σ5 x0 x2 y6)
      else (
        Ldr_checkBody_p94 rec21 σ1 x0 x2))
theorem V.gX8_checkBody_p41 {X : CX} (rec21 : HS → Nat → Int32 → Option ((Nat ⊕ Unit) × HS)) (hrec21 : ∀ (σ : HS) (x0 : Nat) (x2 : Int32), G X RX8 "checkBody" cX8_checkBody 4 none 16 307 (enX enV (cxz X)) 21 [(0, av x0), (2, iv x2)] [] σ (rec21 σ x0 x2)) : ∀ (n : Nat) (σ : HS) (x0 : Nat) (x2 : Int32) (x3 : Int32), G X RX8 "checkBody" cX8_checkBody 4 none 16 307 (enX enV (cxz X)) 41 [(0, av x0), (2, iv x2), (3, iv x3)] [] σ (Ldr_checkBody_p41 rec21 n σ x0 x2 x3)
  | 0, σ, x0, x2, x3 => by rw [Ldr_checkBody_p41]; exact G.nul
  | n + 1, σ, x0, x2, x3 => by
    rw [Ldr_checkBody_p41]
    refine g_iload_n 3 2 dX8_checkBody_41 rfl rfl ?_
    refine g_aload_n 0 0 dX8_checkBody_42 rfl rfl ?_
    refine g_getR fdX8_35 dX8_checkBody_43 ?_
    refine g_getR fdX8_188 dX8_checkBody_46 ?_
    refine g_callV (fc := fun sς => Row_size sς (gR σ (gR σ x0 6) 7) ) (ci := 3) (as := []) rfl rfl rfl q1421 q1422 mdX8_100 (ctX3_size (gR σ (gR σ x0 6) 7) ) rfl (Nat.le_of_ble_eq_true rfl) (Nat.le_of_ble_eq_true rfl) (Nat.le_of_ble_eq_true rfl) pu_I dX8_checkBody_49 (fun r2 σ1 => ?_)
    refine g_icmp_ge 94 dX8_checkBody_52 (by decide) ?_ ?_
    · refine G.sub [0, 1] rfl ?_
      exact gX8_checkBody_p94 rec21 hrec21 _ _ _
    · refine g_aload_n 0 0 dX8_checkBody_55 rfl rfl ?_
      refine g_getR fdX8_35 dX8_checkBody_56 ?_
      refine g_getI fdX8_185 dX8_checkBody_59 ?_
      refine g_bipush (v := 14) dX8_checkBody_62 (by decide) ?_
      refine g_icmp_ne 94 dX8_checkBody_64 (by decide) ?_ ?_
      · refine G.sub [0, 1] rfl ?_
        exact gX8_checkBody_p94 rec21 hrec21 _ _ _
      · refine g_aload_n 0 0 dX8_checkBody_67 rfl rfl ?_
        refine g_getR fdX8_28 dX8_checkBody_68 ?_
        refine g_getR fdX8_300 dX8_checkBody_71 ?_
        refine g_aload_n 0 0 dX8_checkBody_74 rfl rfl ?_
        refine g_getR fdX8_35 dX8_checkBody_75 ?_
        refine g_getR fdX8_188 dX8_checkBody_78 ?_
        refine g_iload_n 3 2 dX8_checkBody_81 rfl rfl ?_
        refine g_callV (fc := fun sς => Row_at sς (gR σ1 (gR σ1 x0 6) 7) x3) (ci := 3) (as := [iv x3]) rfl rfl rfl q1409 q1410 mdX8_174 (ctX3_at (gR σ1 (gR σ1 x0 6) 7) x3) rfl (Nat.le_of_ble_eq_true rfl) (Nat.le_of_ble_eq_true rfl) (Nat.le_of_ble_eq_true rfl) pu_I dX8_checkBody_82 (fun r4 σ3 => ?_)
        refine g_callV (fc := fun sς => Row_add sς (gR σ1 (gR σ1 x0 5) 11) r4) (ci := 3) (as := [iv r4]) rfl rfl rfl q1405 q1406 mdX8_248 (ctX3_add (gR σ1 (gR σ1 x0 5) 11) r4) rfl (Nat.le_of_ble_eq_true rfl) (Nat.le_of_ble_eq_true rfl) (Nat.le_of_ble_eq_true rfl) pu_V dX8_checkBody_85 (fun _ σ5 => ?_)
        refine g_iincB (w := 1) 2 dX8_checkBody_88 rfl (by decide) (by decide) (fun _ => rfl) (fun y6 => ?_)
        refine g_goto 41 dX8_checkBody_91 (by decide) ?_
        refine G.sub [1, 2, 0] rfl ?_
        exact gX8_checkBody_p41 rec21 hrec21 n _ _ _ _
def V.Ldr_checkBody_p21  : Nat → HS → Nat → Int32 → Option ((Nat ⊕ Unit) × HS)
  | 0, _, _, _ => none
  | n + 1, σ, x0, x2 =>
    ck (tg σ x0 = 9) <|
    ck (tg σ (gR σ x0 6) = 13) <|
    if x2 ≤ (gI σ (gR σ x0 6) 1) then (
      some (.inr (), σ))
    else (
      ck (tg σ x0 = 9) <|
      ck (tg σ (gR σ x0 6) = 13) <| cl (Wlk_next σ (gR σ x0 6) ) fun _ σ1 =>
      Ldr_checkBody_p41 (Ldr_checkBody_p21 n) FU σ1 x0 x2 (0 : Int32))
theorem V.gX8_checkBody_p21 {X : CX}  : ∀ (n : Nat) (σ : HS) (x0 : Nat) (x2 : Int32), G X RX8 "checkBody" cX8_checkBody 4 none 16 307 (enX enV (cxz X)) 21 [(0, av x0), (2, iv x2)] [] σ (Ldr_checkBody_p21 n σ x0 x2)
  | 0, σ, x0, x2 => by rw [Ldr_checkBody_p21]; exact G.nul
  | n + 1, σ, x0, x2 => by
    rw [Ldr_checkBody_p21]
    refine g_aload_n 0 0 dX8_checkBody_21 rfl rfl ?_
    refine g_getR fdX8_35 dX8_checkBody_22 ?_
    refine g_getI fdX8_118 dX8_checkBody_25 ?_
    refine g_iload_n 2 1 dX8_checkBody_28 rfl rfl ?_
    refine g_icmp_ge 145 dX8_checkBody_29 (by decide) ?_ ?_
    · exact g_return rfl dX8_checkBody_145
    · refine g_aload_n 0 0 dX8_checkBody_32 rfl rfl ?_
      refine g_getR fdX8_35 dX8_checkBody_33 ?_
      refine g_callV (fc := fun sς => Wlk_next sς (gR σ x0 6) ) (ci := 12) (as := []) rfl rfl rfl q1609 q1610 mdX8_182 (ctX12_next (gR σ x0 6) ) rfl (Nat.le_of_ble_eq_true rfl) (Nat.le_of_ble_eq_true rfl) (Nat.le_of_ble_eq_true rfl) pu_V dX8_checkBody_36 (fun _ σ1 => ?_)
      refine g_iconst (v := 0) dX8_checkBody_39 (by decide) ?_
      refine g_istore_n 3 dX8_checkBody_40 rfl (by decide) rfl ?_
      refine G.sub [1, 2, 0] rfl ?_
      exact gX8_checkBody_p41 (Ldr_checkBody_p21 n) (gX8_checkBody_p21 n) FU _ _ _ _
def V.Ldr_checkBody (σ : HS) (x0 : Nat) (x1 : Int32) : Option ((Nat ⊕ Unit) × HS) :=
  ck (tg σ x0 = 9) <| clT (Ldr_beginBody σ x0 x1) fun _ σ1 =>
  ck (tg σ1 x0 = 9) <|
  ck (tg σ1 (gR σ1 x0 7) = 3) <|
  ck (tg σ1 (gR σ1 (gR σ1 x0 7) 11) = 4) <| cl (Row_at σ1 (gR σ1 (gR σ1 x0 7) 11) (((5 : Int32) * x1) + (4 : Int32))) fun r3 σ2 =>
  Ldr_checkBody_p21 FU σ2 x0 r3
theorem V.ctX8_checkBody (x0 : Nat) (x1 : Int32) : Ct yX8_checkBody  cX8_checkBody 4 none 16 307 eXV [av x0, iv x1] (fun σ => Ldr_checkBody σ x0 x1) := by
  refine Ct.of (own := RX8) (nm := "checkBody") (desc := "(I)V") rfl (by decide) (Nat.le_of_ble_eq_true rfl) (by decide) (fun X σ => ?_)
  show G X RX8 "checkBody" cX8_checkBody 4 none 16 307 (enX enV (cxz X)) 0 [(0, av x0), (1, iv x1)] [] σ (Ldr_checkBody σ x0 x1)
  unfold Ldr_checkBody
  refine g_aload_n 0 0 dX8_checkBody_0 rfl rfl ?_
  refine g_iload_n 1 1 dX8_checkBody_1 rfl rfl ?_
  refine g_callVT (fc := fun sς => Ldr_beginBody sς x0 x1) (ci := 8) (as := [iv x1]) rfl rfl rfl q1728 qs70 q1726 mdX8_299 (ctX8_beginBody x0 x1) rfl (Nat.le_of_ble_eq_true rfl) (Nat.le_of_ble_eq_true rfl) (Nat.le_of_ble_eq_true rfl) pu_V (by decide) dX8_checkBody_2 (fun _ σ1 => ?_)
  refine g_aload_n 0 0 dX8_checkBody_5 rfl rfl ?_
  refine g_getR fdX8_57 dX8_checkBody_6 ?_
  refine g_getR fdX8_171 dX8_checkBody_9 ?_
  refine g_iconst (v := 5) dX8_checkBody_12 (by decide) ?_
  refine g_iload_n 1 1 dX8_checkBody_13 rfl rfl ?_
  refine g_imul dX8_checkBody_14 ?_
  refine g_iconst (v := 4) dX8_checkBody_15 (by decide) ?_
  refine g_iadd dX8_checkBody_16 ?_
  refine g_callV (fc := fun sς => Row_at sς (gR σ1 (gR σ1 x0 7) 11) (((5 : Int32) * x1) + (4 : Int32))) (ci := 3) (as := [iv (((5 : Int32) * x1) + (4 : Int32))]) rfl rfl rfl q1409 q1410 mdX8_174 (ctX3_at (gR σ1 (gR σ1 x0 7) 11) (((5 : Int32) * x1) + (4 : Int32))) rfl (Nat.le_of_ble_eq_true rfl) (Nat.le_of_ble_eq_true rfl) (Nat.le_of_ble_eq_true rfl) pu_I dX8_checkBody_17 (fun r3 σ2 => ?_)
  refine g_istore_n 2 dX8_checkBody_20 rfl (by decide) rfl ?_
  refine G.sub [1, 0] rfl ?_
  exact gX8_checkBody_p21 FU _ _ _
theorem V.dX8_check_0 : decode cX8_check 0 = .ok (.aload_n 0, 1) := by decide +kernel
theorem V.dX8_check_1 : decode cX8_check 1 = .ok (.invokevirtual 78, 3) := by decide +kernel
theorem V.dX8_check_4 : decode cX8_check 4 = .ok (.aload_n 0, 1) := by decide +kernel
theorem V.dX8_check_5 : decode cX8_check 5 = .ok (.invokevirtual 81, 3) := by decide +kernel
theorem V.dX8_check_8 : decode cX8_check 8 = .ok (.aload_n 0, 1) := by decide +kernel
theorem V.dX8_check_9 : decode cX8_check 9 = .ok (.invokevirtual 84, 3) := by decide +kernel
theorem V.dX8_check_12 : decode cX8_check 12 = .ok (.aload_n 0, 1) := by decide +kernel
theorem V.dX8_check_13 : decode cX8_check 13 = .ok (.invokevirtual 87, 3) := by decide +kernel
theorem V.dX8_check_16 : decode cX8_check 16 = .ok (.aload_n 0, 1) := by decide +kernel
theorem V.dX8_check_17 : decode cX8_check 17 = .ok (.invokevirtual 90, 3) := by decide +kernel
theorem V.dX8_check_20 : decode cX8_check 20 = .ok (.aload_n 0, 1) := by decide +kernel
theorem V.dX8_check_21 : decode cX8_check 21 = .ok (.invokevirtual 93, 3) := by decide +kernel
theorem V.dX8_check_24 : decode cX8_check 24 = .ok (.iconst 0, 1) := by decide +kernel
theorem V.dX8_check_25 : decode cX8_check 25 = .ok (.istore_n 1, 1) := by decide +kernel
theorem V.dX8_check_26 : decode cX8_check 26 = .ok (.iload_n 1, 1) := by decide +kernel
theorem V.dX8_check_27 : decode cX8_check 27 = .ok (.aload_n 0, 1) := by decide +kernel
theorem V.dX8_check_28 : decode cX8_check 28 = .ok (.getfield 57, 3) := by decide +kernel
theorem V.dX8_check_31 : decode cX8_check 31 = .ok (.getfield 96, 3) := by decide +kernel
theorem V.dX8_check_34 : decode cX8_check 34 = .ok (.invokevirtual 100, 3) := by decide +kernel
theorem V.dX8_check_37 : decode cX8_check 37 = .ok (.if_icmp .ge 14, 3) := by decide +kernel
theorem V.dX8_check_40 : decode cX8_check 40 = .ok (.aload_n 0, 1) := by decide +kernel
theorem V.dX8_check_41 : decode cX8_check 41 = .ok (.iload_n 1, 1) := by decide +kernel
theorem V.dX8_check_42 : decode cX8_check 42 = .ok (.invokevirtual 106, 3) := by decide +kernel
theorem V.dX8_check_45 : decode cX8_check 45 = .ok (.iinc 1 1, 3) := by decide +kernel
theorem V.dX8_check_48 : decode cX8_check 48 = .ok (.goto (-22), 3) := by decide +kernel
theorem V.dX8_check_51 : decode cX8_check 51 = .ok (.return_, 1) := by decide +kernel
theorem V.mdX8_78 : MD RX8 78 yX8_checkRoom cX8_checkRoom 2 none 0 := ⟨Or.inl q1544, q368, q1547, by decide, by decide, by decide +kernel⟩
theorem V.mdX8_81 : MD RX8 81 yX8_checkTypes cX8_checkTypes 2 none 0 := ⟨Or.inl q1631, q368, q1634, by decide, by decide, by decide +kernel⟩
theorem V.mdX8_84 : MD RX8 84 yX8_checkLimits cX8_checkLimits 3 none 0 := ⟨Or.inl q1651, q368, q1654, by decide, by decide, by decide +kernel⟩
theorem V.mdX8_87 : MD RX8 87 yX8_checkExports cX8_checkExports 4 none 0 := ⟨Or.inl q1667, q368, q1670, by decide, by decide, by decide +kernel⟩
theorem V.mdX8_90 : MD RX8 90 yX8_fillSpaces cX8_fillSpaces 3 none 0 := ⟨Or.inl q1683, q368, q1686, by decide, by decide, by decide +kernel⟩
theorem V.mdX8_93 : MD RX8 93 yX8_checkConstants cX8_checkConstants 5 none 0 := ⟨Or.inl q1702, q368, q1705, by decide, by decide, by decide +kernel⟩
theorem V.mdX8_106 : MD RX8 106 yX8_checkBody cX8_checkBody 4 none 1 := ⟨Or.inl q1722, q368, q1725, by decide, by decide, by decide +kernel⟩
/-! ModuleEngine$Loader.check()V -/
def V.Ldr_check_p26  : Nat → HS → Nat → Int32 → Option ((Nat ⊕ Unit) × HS)
  | 0, _, _, _ => none
  | n + 1, σ, x0, x1 =>
    ck (tg σ x0 = 9) <|
    ck (tg σ (gR σ x0 7) = 3) <|
    ck (tg σ (gR σ (gR σ x0 7) 4) = 4) <| cl (Row_size σ (gR σ (gR σ x0 7) 4) ) fun r2 σ1 =>
    if r2 ≤ x1 then (
      some (.inr (), σ1))
    else (
      ck (tg σ1 x0 = 9) <| clT (Ldr_checkBody σ1 x0 x1) fun _ σ3 =>
      bn (x1 + (1 : Int32)) fun y4 =>
      Ldr_check_p26 n σ3 x0 y4)
theorem V.gX8_check_p26 {X : CX}  : ∀ (n : Nat) (σ : HS) (x0 : Nat) (x1 : Int32), G X RX8 "check" cX8_check 2 none 17 330 (enX enV (cxz X)) 26 [(0, av x0), (1, iv x1)] [] σ (Ldr_check_p26 n σ x0 x1)
  | 0, σ, x0, x1 => by rw [Ldr_check_p26]; exact G.nul
  | n + 1, σ, x0, x1 => by
    rw [Ldr_check_p26]
    refine g_iload_n 1 1 dX8_check_26 rfl rfl ?_
    refine g_aload_n 0 0 dX8_check_27 rfl rfl ?_
    refine g_getR fdX8_57 dX8_check_28 ?_
    refine g_getR fdX8_96 dX8_check_31 ?_
    refine g_callV (fc := fun sς => Row_size sς (gR σ (gR σ x0 7) 4) ) (ci := 3) (as := []) rfl rfl rfl q1421 q1422 mdX8_100 (ctX3_size (gR σ (gR σ x0 7) 4) ) rfl (Nat.le_of_ble_eq_true rfl) (Nat.le_of_ble_eq_true rfl) (Nat.le_of_ble_eq_true rfl) pu_I dX8_check_34 (fun r2 σ1 => ?_)
    refine g_icmp_ge 51 dX8_check_37 (by decide) ?_ ?_
    · exact g_return rfl dX8_check_51
    · refine g_aload_n 0 0 dX8_check_40 rfl rfl ?_
      refine g_iload_n 1 1 dX8_check_41 rfl rfl ?_
      refine g_callVT (fc := fun sς => Ldr_checkBody sς x0 x1) (ci := 8) (as := [iv x1]) rfl rfl rfl q1724 qs69 q1722 mdX8_106 (ctX8_checkBody x0 x1) rfl (Nat.le_of_ble_eq_true rfl) (Nat.le_of_ble_eq_true rfl) (Nat.le_of_ble_eq_true rfl) pu_V (by decide) dX8_check_42 (fun _ σ3 => ?_)
      refine g_iincB (w := 1) 1 dX8_check_45 rfl (by decide) (by decide) (fun _ => rfl) (fun y4 => ?_)
      refine g_goto 26 dX8_check_48 (by decide) ?_
      refine G.sub [1, 0] rfl ?_
      exact gX8_check_p26 n _ _ _
def V.Ldr_check (σ : HS) (x0 : Nat) : Option ((Nat ⊕ Unit) × HS) :=
  ck (tg σ x0 = 9) <| clT (Ldr_checkRoom σ x0 ) fun _ σ1 =>
  ck (tg σ1 x0 = 9) <| clT (Ldr_checkTypes σ1 x0 ) fun _ σ2 =>
  ck (tg σ2 x0 = 9) <| clT (Ldr_checkLimits σ2 x0 ) fun _ σ3 =>
  ck (tg σ3 x0 = 9) <| clT (Ldr_checkExports σ3 x0 ) fun _ σ4 =>
  ck (tg σ4 x0 = 9) <| cl (Ldr_fillSpaces σ4 x0 ) fun _ σ5 =>
  ck (tg σ5 x0 = 9) <| clT (Ldr_checkConstants σ5 x0 ) fun _ σ6 =>
  Ldr_check_p26 FU σ6 x0 (0 : Int32)
theorem V.ctX8_check (x0 : Nat) : Ct yX8_check  cX8_check 2 none 17 330 eXV [av x0] (fun σ => Ldr_check σ x0) := by
  refine Ct.of (own := RX8) (nm := "check") (desc := "()V") rfl (by decide) (Nat.le_of_ble_eq_true rfl) (by decide) (fun X σ => ?_)
  show G X RX8 "check" cX8_check 2 none 17 330 (enX enV (cxz X)) 0 [(0, av x0)] [] σ (Ldr_check σ x0)
  unfold Ldr_check
  refine g_aload_n 0 0 dX8_check_0 rfl rfl ?_
  refine g_callVT (fc := fun sς => Ldr_checkRoom sς x0 ) (ci := 8) (as := []) rfl rfl rfl q1546 qs36 q1544 mdX8_78 (ctX8_checkRoom x0 ) rfl (Nat.le_of_ble_eq_true rfl) (Nat.le_of_ble_eq_true rfl) (Nat.le_of_ble_eq_true rfl) pu_V (by decide) dX8_check_1 (fun _ σ1 => ?_)
  refine g_aload_n 0 0 dX8_check_4 rfl rfl ?_
  refine g_callVT (fc := fun sς => Ldr_checkTypes sς x0 ) (ci := 8) (as := []) rfl rfl rfl q1633 qs48 q1631 mdX8_81 (ctX8_checkTypes x0 ) rfl (Nat.le_of_ble_eq_true rfl) (Nat.le_of_ble_eq_true rfl) (Nat.le_of_ble_eq_true rfl) pu_V (by decide) dX8_check_5 (fun _ σ2 => ?_)
  refine g_aload_n 0 0 dX8_check_8 rfl rfl ?_
  refine g_callVT (fc := fun sς => Ldr_checkLimits sς x0 ) (ci := 8) (as := []) rfl rfl rfl q1653 qs53 q1651 mdX8_84 (ctX8_checkLimits x0 ) rfl (Nat.le_of_ble_eq_true rfl) (Nat.le_of_ble_eq_true rfl) (Nat.le_of_ble_eq_true rfl) pu_V (by decide) dX8_check_9 (fun _ σ3 => ?_)
  refine g_aload_n 0 0 dX8_check_12 rfl rfl ?_
  refine g_callVT (fc := fun sς => Ldr_checkExports sς x0 ) (ci := 8) (as := []) rfl rfl rfl q1669 qs56 q1667 mdX8_87 (ctX8_checkExports x0 ) rfl (Nat.le_of_ble_eq_true rfl) (Nat.le_of_ble_eq_true rfl) (Nat.le_of_ble_eq_true rfl) pu_V (by decide) dX8_check_13 (fun _ σ4 => ?_)
  refine g_aload_n 0 0 dX8_check_16 rfl rfl ?_
  refine g_callV (fc := fun sς => Ldr_fillSpaces sς x0 ) (ci := 8) (as := []) rfl rfl rfl q1685 qs60 mdX8_90 (ctX8_fillSpaces x0 ) rfl (Nat.le_of_ble_eq_true rfl) (Nat.le_of_ble_eq_true rfl) (Nat.le_of_ble_eq_true rfl) pu_V dX8_check_17 (fun _ σ5 => ?_)
  refine g_aload_n 0 0 dX8_check_20 rfl rfl ?_
  refine g_callVT (fc := fun sς => Ldr_checkConstants sς x0 ) (ci := 8) (as := []) rfl rfl rfl q1704 qs64 q1702 mdX8_93 (ctX8_checkConstants x0 ) rfl (Nat.le_of_ble_eq_true rfl) (Nat.le_of_ble_eq_true rfl) (Nat.le_of_ble_eq_true rfl) pu_V (by decide) dX8_check_21 (fun _ σ6 => ?_)
  refine g_iconst (v := 0) dX8_check_24 (by decide) ?_
  refine g_istore_n 1 dX8_check_25 rfl (by decide) rfl ?_
  refine G.sub [1, 0] rfl ?_
  exact gX8_check_p26 FU _ _ _
theorem V.dX8_open_0 : decode cX8_open 0 = .ok (.aload_n 0, 1) := by decide +kernel
theorem V.dX8_open_1 : decode cX8_open 1 = .ok (.getfield 35, 3) := by decide +kernel
theorem V.dX8_open_4 : decode cX8_open 4 = .ok (.getfield 262, 3) := by decide +kernel
theorem V.dX8_open_7 : decode cX8_open 7 = .ok (.istore_n 1, 1) := by decide +kernel
theorem V.dX8_open_8 : decode cX8_open 8 = .ok (.aload_n 0, 1) := by decide +kernel
theorem V.dX8_open_9 : decode cX8_open 9 = .ok (.getfield 39, 3) := by decide +kernel
theorem V.dX8_open_12 : decode cX8_open 12 = .ok (.aload_n 0, 1) := by decide +kernel
theorem V.dX8_open_13 : decode cX8_open 13 = .ok (.getfield 35, 3) := by decide +kernel
theorem V.dX8_open_16 : decode cX8_open 16 = .ok (.getfield 185, 3) := by decide +kernel
theorem V.dX8_open_19 : decode cX8_open 19 = .ok (.iload_n 1, 1) := by decide +kernel
theorem V.dX8_open_20 : decode cX8_open 20 = .ok (.ifCond .ge 7, 3) := by decide +kernel
theorem V.dX8_open_23 : decode cX8_open 23 = .ok (.iconst 0, 1) := by decide +kernel
theorem V.dX8_open_24 : decode cX8_open 24 = .ok (.goto 11, 3) := by decide +kernel
theorem V.dX8_open_27 : decode cX8_open 27 = .ok (.aload_n 0, 1) := by decide +kernel
theorem V.dX8_open_28 : decode cX8_open 28 = .ok (.getfield 57, 3) := by decide +kernel
theorem V.dX8_open_31 : decode cX8_open 31 = .ok (.iload_n 1, 1) := by decide +kernel
theorem V.dX8_open_32 : decode cX8_open 32 = .ok (.invokevirtual 165, 3) := by decide +kernel
theorem V.dX8_open_35 : decode cX8_open 35 = .ok (.iload_n 1, 1) := by decide +kernel
theorem V.dX8_open_36 : decode cX8_open 36 = .ok (.ifCond .ge 17, 3) := by decide +kernel
theorem V.dX8_open_39 : decode cX8_open 39 = .ok (.iload_n 1, 1) := by decide +kernel
theorem V.dX8_open_40 : decode cX8_open 40 = .ok (.bipush (-64), 2) := by decide +kernel
theorem V.dX8_open_42 : decode cX8_open 42 = .ok (.if_icmp .ne 7, 3) := by decide +kernel
theorem V.dX8_open_45 : decode cX8_open 45 = .ok (.iconst 0, 1) := by decide +kernel
theorem V.dX8_open_46 : decode cX8_open 46 = .ok (.goto 15, 3) := by decide +kernel
theorem V.dX8_open_49 : decode cX8_open 49 = .ok (.iconst 1, 1) := by decide +kernel
theorem V.dX8_open_50 : decode cX8_open 50 = .ok (.goto 11, 3) := by decide +kernel
theorem V.dX8_open_53 : decode cX8_open 53 = .ok (.aload_n 0, 1) := by decide +kernel
theorem V.dX8_open_54 : decode cX8_open 54 = .ok (.getfield 57, 3) := by decide +kernel
theorem V.dX8_open_57 : decode cX8_open 57 = .ok (.iload_n 1, 1) := by decide +kernel
theorem V.dX8_open_58 : decode cX8_open 58 = .ok (.invokevirtual 168, 3) := by decide +kernel
theorem V.dX8_open_61 : decode cX8_open 61 = .ok (.invokevirtual 319, 3) := by decide +kernel
theorem V.dX8_open_64 : decode cX8_open 64 = .ok (.return_, 1) := by decide +kernel
theorem V.fdX8_39 : FD RX8 39 8 0 2 := ⟨(RX8, TX8, 9), tyX8, rfl, rfl, in_X8, by decide, Or.inl q914, rfl⟩
theorem V.mdX8_319 : MD RX8 319 yX6_open cX6_open 5 none 3 := ⟨Or.inl q2055, q366, q2058, by decide, by decide, by decide +kernel⟩
/-! ModuleEngine$Loader.open()V -/
def V.Ldr_open_p61  (σ : HS) (s0 : Int32) (s1 : Int32) (s2 : Int32) (s3 : Nat) : Option (Unit × HS) :=
  ck (tg σ s3 = 7) <| cl (Flt_open σ s3 s2 s1 s0) fun _ σ1 =>
  some ((), σ1)
theorem V.gX8_open_p61 {X : CX}  (σ : HS) (s0 : Int32) (s1 : Int32) (s2 : Int32) (s3 : Nat) : G X RX8 "open" cX8_open 2 none 3 63 enV 61 [] [iv s0, iv s1, iv s2, av s3] σ (Ldr_open_p61 σ s0 s1 s2 s3) := by
  unfold Ldr_open_p61
  refine g_callV (fc := fun sς => Flt_open sς s3 s2 s1 s0) (ci := 6) (as := [iv s2, iv s1, iv s0]) rfl rfl rfl q2056 q2057 mdX8_319 (ctX6_open s3 s2 s1 s0) rfl (Nat.le_of_ble_eq_true rfl) (Nat.le_of_ble_eq_true rfl) (Nat.le_of_ble_eq_true rfl) pu_V dX8_open_61 (fun _ σ1 => ?_)
  exact g_return rfl dX8_open_64
def V.Ldr_open_p35  (σ : HS) (x0 : Nat) (x1 : Int32) (s0 : Int32) (s1 : Int32) (s2 : Nat) : Option (Unit × HS) :=
  if 0 ≤ x1 then (
    ck (tg σ x0 = 9) <|
    ck (tg σ (gR σ x0 7) = 3) <| cl (Mod_results σ (gR σ x0 7) x1) fun r2 σ1 =>
    Ldr_open_p61 σ1 r2 s0 s1 s2)
  else (
    if x1 = (-64 : Int32) then (
      Ldr_open_p61 σ (0 : Int32) s0 s1 s2)
    else (
      Ldr_open_p61 σ (1 : Int32) s0 s1 s2))
theorem V.gX8_open_p35 {X : CX}  (σ : HS) (x0 : Nat) (x1 : Int32) (s0 : Int32) (s1 : Int32) (s2 : Nat) : G X RX8 "open" cX8_open 2 none 3 63 enV 35 [(0, av x0), (1, iv x1)] [iv s0, iv s1, av s2] σ (Ldr_open_p35 σ x0 x1 s0 s1 s2) := by
  unfold Ldr_open_p35
  refine g_iload_n 1 1 dX8_open_35 rfl rfl ?_
  refine g_if_ge 53 dX8_open_36 (by decide) ?_ ?_
  · refine g_aload_n 0 0 dX8_open_53 rfl rfl ?_
    refine g_getR fdX8_57 dX8_open_54 ?_
    refine g_iload_n 1 1 dX8_open_57 rfl rfl ?_
    refine g_callV (fc := fun sς => Mod_results sς (gR σ x0 7) x1) (ci := 2) (as := [iv x1]) rfl rfl rfl q1563 q1564 mdX8_168 (ctX2_results (gR σ x0 7) x1) rfl (Nat.le_of_ble_eq_true rfl) (Nat.le_of_ble_eq_true rfl) (Nat.le_of_ble_eq_true rfl) pu_I dX8_open_58 (fun r2 σ1 => ?_)
    refine G.sub [] rfl ?_
    exact gX8_open_p61 _ _ _ _ _
  · refine g_iload_n 1 1 dX8_open_39 rfl rfl ?_
    refine g_bipush (v := (-64)) dX8_open_40 (by decide) ?_
    refine g_icmp_ne 49 dX8_open_42 (by decide) ?_ ?_
    · refine g_iconst (v := 1) dX8_open_49 (by decide) ?_
      refine g_goto 61 dX8_open_50 (by decide) ?_
      refine G.sub [] rfl ?_
      exact gX8_open_p61 _ _ _ _ _
    · refine g_iconst (v := 0) dX8_open_45 (by decide) ?_
      refine g_goto 61 dX8_open_46 (by decide) ?_
      refine G.sub [] rfl ?_
      exact gX8_open_p61 _ _ _ _ _
def V.Ldr_open (σ : HS) (x0 : Nat) : Option (Unit × HS) :=
  ck (tg σ x0 = 9) <|
  ck (tg σ (gR σ x0 6) = 13) <|
  bn (gI σ (gR σ x0 6) 4) fun y1 =>
  ck (tg σ x0 = 9) <|
  ck (tg σ x0 = 9) <|
  ck (tg σ (gR σ x0 6) = 13) <|
  if 0 ≤ y1 then (
    ck (tg σ x0 = 9) <|
    ck (tg σ (gR σ x0 7) = 3) <| cl (Mod_parameters σ (gR σ x0 7) y1) fun r3 σ2 =>
    Ldr_open_p35 σ2 x0 y1 r3 (gI σ (gR σ x0 6) 3) (gR σ x0 0))
  else (
    Ldr_open_p35 σ x0 y1 (0 : Int32) (gI σ (gR σ x0 6) 3) (gR σ x0 0))
theorem V.ctX8_open (x0 : Nat) : Ct yX8_open  cX8_open 2 none 3 63 eV [av x0] (fun σ => Ldr_open σ x0) := by
  refine Ct.of (own := RX8) (nm := "open") (desc := "()V") rfl (by decide) (Nat.le_of_ble_eq_true rfl) (by decide) (fun X σ => ?_)
  show G X RX8 "open" cX8_open 2 none 3 63 enV 0 [(0, av x0)] [] σ (Ldr_open σ x0)
  unfold Ldr_open
  refine g_aload_n 0 0 dX8_open_0 rfl rfl ?_
  refine g_getR fdX8_35 dX8_open_1 ?_
  refine g_getI fdX8_262 dX8_open_4 ?_
  refine g_nmI (fun y1 => ?_)
  refine g_istore_n 1 dX8_open_7 rfl (by decide) rfl ?_
  refine g_aload_n 0 1 dX8_open_8 rfl rfl ?_
  refine g_getR fdX8_39 dX8_open_9 ?_
  refine g_aload_n 0 1 dX8_open_12 rfl rfl ?_
  refine g_getR fdX8_35 dX8_open_13 ?_
  refine g_getI fdX8_185 dX8_open_16 ?_
  refine g_iload_n 1 0 dX8_open_19 rfl rfl ?_
  refine g_if_ge 27 dX8_open_20 (by decide) ?_ ?_
  · refine g_aload_n 0 1 dX8_open_27 rfl rfl ?_
    refine g_getR fdX8_57 dX8_open_28 ?_
    refine g_iload_n 1 0 dX8_open_31 rfl rfl ?_
    refine g_callV (fc := fun sς => Mod_parameters sς (gR σ x0 7) y1) (ci := 2) (as := [iv y1]) rfl rfl rfl q1558 q1559 mdX8_165 (ctX2_parameters (gR σ x0 7) y1) rfl (Nat.le_of_ble_eq_true rfl) (Nat.le_of_ble_eq_true rfl) (Nat.le_of_ble_eq_true rfl) pu_I dX8_open_32 (fun r3 σ2 => ?_)
    refine G.sub [1, 0] rfl ?_
    exact gX8_open_p35 _ _ _ _ _ _
  · refine g_iconst (v := 0) dX8_open_23 (by decide) ?_
    refine g_goto 35 dX8_open_24 (by decide) ?_
    refine G.sub [1, 0] rfl ?_
    exact gX8_open_p35 _ _ _ _ _ _
theorem V.dX8_shape_0 : decode cX8_shape 0 = .ok (.aload_n 0, 1) := by decide +kernel
theorem V.dX8_shape_1 : decode cX8_shape 1 = .ok (.getfield 57, 3) := by decide +kernel
theorem V.dX8_shape_4 : decode cX8_shape 4 = .ok (.iload_n 1, 1) := by decide +kernel
theorem V.dX8_shape_5 : decode cX8_shape 5 = .ok (.invokevirtual 165, 3) := by decide +kernel
theorem V.dX8_shape_8 : decode cX8_shape 8 = .ok (.bipush 8, 2) := by decide +kernel
theorem V.dX8_shape_10 : decode cX8_shape 10 = .ok (.ishl, 1) := by decide +kernel
theorem V.dX8_shape_11 : decode cX8_shape 11 = .ok (.aload_n 0, 1) := by decide +kernel
theorem V.dX8_shape_12 : decode cX8_shape 12 = .ok (.getfield 57, 3) := by decide +kernel
theorem V.dX8_shape_15 : decode cX8_shape 15 = .ok (.iload_n 1, 1) := by decide +kernel
theorem V.dX8_shape_16 : decode cX8_shape 16 = .ok (.invokevirtual 168, 3) := by decide +kernel
theorem V.dX8_shape_19 : decode cX8_shape 19 = .ok (.ior, 1) := by decide +kernel
theorem V.dX8_shape_20 : decode cX8_shape 20 = .ok (.ireturn, 1) := by decide +kernel
/-! ModuleEngine$Loader.shape(I)I -/
def V.Ldr_shape (σ : HS) (x0 : Nat) (x1 : Int32) : Option (Int32 × HS) :=
  ck (tg σ x0 = 9) <|
  ck (tg σ (gR σ x0 7) = 3) <| cl (Mod_parameters σ (gR σ x0 7) x1) fun r2 σ1 =>
  ck (tg σ1 x0 = 9) <|
  ck (tg σ1 (gR σ1 x0 7) = 3) <| cl (Mod_results σ1 (gR σ1 x0 7) x1) fun r4 σ3 =>
  some ((r2 <<< ((8 : Int32) &&& 31)) ||| r4, σ3)
theorem V.ctX8_shape (x0 : Nat) (x1 : Int32) : Ct yX8_shape  cX8_shape 2 (some .int) 3 63 eI [av x0, iv x1] (fun σ => Ldr_shape σ x0 x1) := by
  refine Ct.of (own := RX8) (nm := "shape") (desc := "(I)I") rfl (by decide) (Nat.le_of_ble_eq_true rfl) (by decide) (fun X σ => ?_)
  show G X RX8 "shape" cX8_shape 2 (some .int) 3 63 enI 0 [(0, av x0), (1, iv x1)] [] σ (Ldr_shape σ x0 x1)
  unfold Ldr_shape
  refine g_aload_n 0 0 dX8_shape_0 rfl rfl ?_
  refine g_getR fdX8_57 dX8_shape_1 ?_
  refine g_iload_n 1 1 dX8_shape_4 rfl rfl ?_
  refine g_callV (fc := fun sς => Mod_parameters sς (gR σ x0 7) x1) (ci := 2) (as := [iv x1]) rfl rfl rfl q1558 q1559 mdX8_165 (ctX2_parameters (gR σ x0 7) x1) rfl (Nat.le_of_ble_eq_true rfl) (Nat.le_of_ble_eq_true rfl) (Nat.le_of_ble_eq_true rfl) pu_I dX8_shape_5 (fun r2 σ1 => ?_)
  refine g_bipush (v := 8) dX8_shape_8 (by decide) ?_
  refine g_ishl dX8_shape_10 ?_
  refine g_aload_n 0 0 dX8_shape_11 rfl rfl ?_
  refine g_getR fdX8_57 dX8_shape_12 ?_
  refine g_iload_n 1 1 dX8_shape_15 rfl rfl ?_
  refine g_callV (fc := fun sς => Mod_results sς (gR σ1 x0 7) x1) (ci := 2) (as := [iv x1]) rfl rfl rfl q1563 q1564 mdX8_168 (ctX2_results (gR σ1 x0 7) x1) rfl (Nat.le_of_ble_eq_true rfl) (Nat.le_of_ble_eq_true rfl) (Nat.le_of_ble_eq_true rfl) pu_I dX8_shape_16 (fun r4 σ3 => ?_)
  refine g_ior dX8_shape_19 ?_
  exact g_ireturn rfl dX8_shape_20
theorem V.dX8_writeCall_0 : decode cX8_writeCall 0 = .ok (.aload_n 0, 1) := by decide +kernel
theorem V.dX8_writeCall_1 : decode cX8_writeCall 1 = .ok (.getfield 39, 3) := by decide +kernel
theorem V.dX8_writeCall_4 : decode cX8_writeCall 4 = .ok (.iload_n 1, 1) := by decide +kernel
theorem V.dX8_writeCall_5 : decode cX8_writeCall 5 = .ok (.iload_n 2, 1) := by decide +kernel
theorem V.dX8_writeCall_6 : decode cX8_writeCall 6 = .ok (.iload_n 3, 1) := by decide +kernel
theorem V.dX8_writeCall_7 : decode cX8_writeCall 7 = .ok (.aload_n 0, 1) := by decide +kernel
theorem V.dX8_writeCall_8 : decode cX8_writeCall 8 = .ok (.iload 4, 2) := by decide +kernel
theorem V.dX8_writeCall_10 : decode cX8_writeCall 10 = .ok (.invokevirtual 356, 3) := by decide +kernel
theorem V.dX8_writeCall_13 : decode cX8_writeCall 13 = .ok (.aload_n 0, 1) := by decide +kernel
theorem V.dX8_writeCall_14 : decode cX8_writeCall 14 = .ok (.getfield 57, 3) := by decide +kernel
theorem V.dX8_writeCall_17 : decode cX8_writeCall 17 = .ok (.iload 4, 2) := by decide +kernel
theorem V.dX8_writeCall_19 : decode cX8_writeCall 19 = .ok (.invokevirtual 165, 3) := by decide +kernel
theorem V.dX8_writeCall_22 : decode cX8_writeCall 22 = .ok (.iload 5, 2) := by decide +kernel
theorem V.dX8_writeCall_24 : decode cX8_writeCall 24 = .ok (.iadd, 1) := by decide +kernel
theorem V.dX8_writeCall_25 : decode cX8_writeCall 25 = .ok (.aload_n 0, 1) := by decide +kernel
theorem V.dX8_writeCall_26 : decode cX8_writeCall 26 = .ok (.getfield 57, 3) := by decide +kernel
theorem V.dX8_writeCall_29 : decode cX8_writeCall 29 = .ok (.iload 4, 2) := by decide +kernel
theorem V.dX8_writeCall_31 : decode cX8_writeCall 31 = .ok (.invokevirtual 168, 3) := by decide +kernel
theorem V.dX8_writeCall_34 : decode cX8_writeCall 34 = .ok (.invokevirtual 346, 3) := by decide +kernel
theorem V.dX8_writeCall_37 : decode cX8_writeCall 37 = .ok (.return_, 1) := by decide +kernel
theorem V.mdX8_356 : MD RX8 356 yX8_shape cX8_shape 2 (some .int) 1 := ⟨Or.inl q2108, q368, q2111, by decide, by decide, by decide +kernel⟩
theorem V.mdX8_346 : MD RX8 346 yX6_write cX6_write 7 none 6 := ⟨Or.inl q2112, q366, q2115, by decide, by decide, by decide +kernel⟩
/-! ModuleEngine$Loader.writeCall(IIIII)V -/
def V.Ldr_writeCall (σ : HS) (x0 : Nat) (x1 : Int32) (x2 : Int32) (x3 : Int32) (x4 : Int32) (x5 : Int32) : Option (Unit × HS) :=
  ck (tg σ x0 = 9) <|
  ck (tg σ x0 = 9) <| cl (Ldr_shape σ x0 x4) fun r2 σ1 =>
  ck (tg σ1 x0 = 9) <|
  ck (tg σ1 (gR σ1 x0 7) = 3) <| cl (Mod_parameters σ1 (gR σ1 x0 7) x4) fun r4 σ3 =>
  ck (tg σ3 x0 = 9) <|
  ck (tg σ3 (gR σ3 x0 7) = 3) <| cl (Mod_results σ3 (gR σ3 x0 7) x4) fun r6 σ5 =>
  ck (tg σ5 (gR σ x0 0) = 7) <| cl (Flt_write σ5 (gR σ x0 0) x1 x2 x3 r2 (r4 + x5) r6) fun _ σ7 =>
  some ((), σ7)
theorem V.ctX8_writeCall (x0 : Nat) (x1 : Int32) (x2 : Int32) (x3 : Int32) (x4 : Int32) (x5 : Int32) : Ct yX8_writeCall  cX8_writeCall 6 none 4 84 eV [av x0, iv x1, iv x2, iv x3, iv x4, iv x5] (fun σ => Ldr_writeCall σ x0 x1 x2 x3 x4 x5) := by
  refine Ct.of (own := RX8) (nm := "writeCall") (desc := "(IIIII)V") rfl (by decide) (Nat.le_of_ble_eq_true rfl) (by decide) (fun X σ => ?_)
  show G X RX8 "writeCall" cX8_writeCall 6 none 4 84 enV 0 [(0, av x0), (1, iv x1), (2, iv x2), (3, iv x3), (4, iv x4), (5, iv x5)] [] σ (Ldr_writeCall σ x0 x1 x2 x3 x4 x5)
  unfold Ldr_writeCall
  refine g_aload_n 0 0 dX8_writeCall_0 rfl rfl ?_
  refine g_getR fdX8_39 dX8_writeCall_1 ?_
  refine g_iload_n 1 1 dX8_writeCall_4 rfl rfl ?_
  refine g_iload_n 2 2 dX8_writeCall_5 rfl rfl ?_
  refine g_iload_n 3 3 dX8_writeCall_6 rfl rfl ?_
  refine g_aload_n 0 0 dX8_writeCall_7 rfl rfl ?_
  refine g_iload 4 dX8_writeCall_8 rfl ?_
  refine g_callV (fc := fun sς => Ldr_shape sς x0 x4) (ci := 8) (as := [iv x4]) rfl rfl rfl q2110 qs129 mdX8_356 (ctX8_shape x0 x4) rfl (Nat.le_of_ble_eq_true rfl) (Nat.le_of_ble_eq_true rfl) (Nat.le_of_ble_eq_true rfl) pu_I dX8_writeCall_10 (fun r2 σ1 => ?_)
  refine g_aload_n 0 0 dX8_writeCall_13 rfl rfl ?_
  refine g_getR fdX8_57 dX8_writeCall_14 ?_
  refine g_iload 4 dX8_writeCall_17 rfl ?_
  refine g_callV (fc := fun sς => Mod_parameters sς (gR σ1 x0 7) x4) (ci := 2) (as := [iv x4]) rfl rfl rfl q1558 q1559 mdX8_165 (ctX2_parameters (gR σ1 x0 7) x4) rfl (Nat.le_of_ble_eq_true rfl) (Nat.le_of_ble_eq_true rfl) (Nat.le_of_ble_eq_true rfl) pu_I dX8_writeCall_19 (fun r4 σ3 => ?_)
  refine g_iload 5 dX8_writeCall_22 rfl ?_
  refine g_iadd dX8_writeCall_24 ?_
  refine g_aload_n 0 0 dX8_writeCall_25 rfl rfl ?_
  refine g_getR fdX8_57 dX8_writeCall_26 ?_
  refine g_iload 4 dX8_writeCall_29 rfl ?_
  refine g_callV (fc := fun sς => Mod_results sς (gR σ3 x0 7) x4) (ci := 2) (as := [iv x4]) rfl rfl rfl q1563 q1564 mdX8_168 (ctX2_results (gR σ3 x0 7) x4) rfl (Nat.le_of_ble_eq_true rfl) (Nat.le_of_ble_eq_true rfl) (Nat.le_of_ble_eq_true rfl) pu_I dX8_writeCall_31 (fun r6 σ5 => ?_)
  refine g_callV (fc := fun sς => Flt_write sς (gR σ x0 0) x1 x2 x3 r2 (r4 + x5) r6) (ci := 6) (as := [iv x1, iv x2, iv x3, iv r2, iv (r4 + x5), iv r6]) rfl rfl rfl q2113 q2114 mdX8_346 (ctX6_write (gR σ x0 0) x1 x2 x3 r2 (r4 + x5) r6) rfl (Nat.le_of_ble_eq_true rfl) (Nat.le_of_ble_eq_true rfl) (Nat.le_of_ble_eq_true rfl) pu_V dX8_writeCall_34 (fun _ σ7 => ?_)
  exact g_return rfl dX8_writeCall_37
theorem V.dX8_writePlain_0 : decode cX8_writePlain 0 = .ok (.iload_n 1, 1) := by decide +kernel
theorem V.dX8_writePlain_1 : decode cX8_writePlain 1 = .ok (.sipush 255, 3) := by decide +kernel
theorem V.dX8_writePlain_4 : decode cX8_writePlain 4 = .ok (.if_icmp .le 17, 3) := by decide +kernel
theorem V.dX8_writePlain_7 : decode cX8_writePlain 7 = .ok (.iload_n 1, 1) := by decide +kernel
theorem V.dX8_writePlain_8 : decode cX8_writePlain 8 = .ok (.sipush 264, 3) := by decide +kernel
theorem V.dX8_writePlain_11 : decode cX8_writePlain 11 = .ok (.if_icmp .ge 10, 3) := by decide +kernel
theorem V.dX8_writePlain_14 : decode cX8_writePlain 14 = .ok (.iload_n 1, 1) := by decide +kernel
theorem V.dX8_writePlain_15 : decode cX8_writePlain 15 = .ok (.bipush 56, 2) := by decide +kernel
theorem V.dX8_writePlain_17 : decode cX8_writePlain 17 = .ok (.isub, 1) := by decide +kernel
theorem V.dX8_writePlain_18 : decode cX8_writePlain 18 = .ok (.goto 4, 3) := by decide +kernel
theorem V.dX8_writePlain_21 : decode cX8_writePlain 21 = .ok (.iload_n 1, 1) := by decide +kernel
theorem V.dX8_writePlain_22 : decode cX8_writePlain 22 = .ok (.istore_n 2, 1) := by decide +kernel
theorem V.dX8_writePlain_23 : decode cX8_writePlain 23 = .ok (.iload_n 1, 1) := by decide +kernel
theorem V.dX8_writePlain_24 : decode cX8_writePlain 24 = .ok (.bipush 39, 2) := by decide +kernel
theorem V.dX8_writePlain_26 : decode cX8_writePlain 26 = .ok (.if_icmp .le 13, 3) := by decide +kernel
theorem V.dX8_writePlain_29 : decode cX8_writePlain 29 = .ok (.iload_n 1, 1) := by decide +kernel
theorem V.dX8_writePlain_30 : decode cX8_writePlain 30 = .ok (.bipush 63, 2) := by decide +kernel
theorem V.dX8_writePlain_32 : decode cX8_writePlain 32 = .ok (.if_icmp .ge 7, 3) := by decide +kernel
theorem V.dX8_writePlain_35 : decode cX8_writePlain 35 = .ok (.iconst 1, 1) := by decide +kernel
theorem V.dX8_writePlain_36 : decode cX8_writePlain 36 = .ok (.goto 4, 3) := by decide +kernel
theorem V.dX8_writePlain_39 : decode cX8_writePlain 39 = .ok (.iconst 0, 1) := by decide +kernel
theorem V.dX8_writePlain_40 : decode cX8_writePlain 40 = .ok (.istore_n 3, 1) := by decide +kernel
theorem V.dX8_writePlain_41 : decode cX8_writePlain 41 = .ok (.aload_n 0, 1) := by decide +kernel
theorem V.dX8_writePlain_42 : decode cX8_writePlain 42 = .ok (.getfield 39, 3) := by decide +kernel
theorem V.dX8_writePlain_45 : decode cX8_writePlain 45 = .ok (.iload_n 2, 1) := by decide +kernel
theorem V.dX8_writePlain_46 : decode cX8_writePlain 46 = .ok (.iload_n 3, 1) := by decide +kernel
theorem V.dX8_writePlain_47 : decode cX8_writePlain 47 = .ok (.ifCond .eq 13, 3) := by decide +kernel
theorem V.dX8_writePlain_50 : decode cX8_writePlain 50 = .ok (.aload_n 0, 1) := by decide +kernel
theorem V.dX8_writePlain_51 : decode cX8_writePlain 51 = .ok (.getfield 35, 3) := by decide +kernel
theorem V.dX8_writePlain_54 : decode cX8_writePlain 54 = .ok (.getfield 303, 3) := by decide +kernel
theorem V.dX8_writePlain_57 : decode cX8_writePlain 57 = .ok (.goto 10, 3) := by decide +kernel
theorem V.dX8_writePlain_60 : decode cX8_writePlain 60 = .ok (.aload_n 0, 1) := by decide +kernel
theorem V.dX8_writePlain_61 : decode cX8_writePlain 61 = .ok (.getfield 35, 3) := by decide +kernel
theorem V.dX8_writePlain_64 : decode cX8_writePlain 64 = .ok (.getfield 262, 3) := by decide +kernel
theorem V.dX8_writePlain_67 : decode cX8_writePlain 67 = .ok (.iload_n 3, 1) := by decide +kernel
theorem V.dX8_writePlain_68 : decode cX8_writePlain 68 = .ok (.ifCond .eq 7, 3) := by decide +kernel
theorem V.dX8_writePlain_71 : decode cX8_writePlain 71 = .ok (.iconst 0, 1) := by decide +kernel
theorem V.dX8_writePlain_72 : decode cX8_writePlain 72 = .ok (.goto 10, 3) := by decide +kernel
theorem V.dX8_writePlain_75 : decode cX8_writePlain 75 = .ok (.aload_n 0, 1) := by decide +kernel
theorem V.dX8_writePlain_76 : decode cX8_writePlain 76 = .ok (.getfield 35, 3) := by decide +kernel
theorem V.dX8_writePlain_79 : decode cX8_writePlain 79 = .ok (.getfield 303, 3) := by decide +kernel
theorem V.dX8_writePlain_82 : decode cX8_writePlain 82 = .ok (.iconst 0, 1) := by decide +kernel
theorem V.dX8_writePlain_83 : decode cX8_writePlain 83 = .ok (.aload_n 0, 1) := by decide +kernel
theorem V.dX8_writePlain_84 : decode cX8_writePlain 84 = .ok (.getfield 39, 3) := by decide +kernel
theorem V.dX8_writePlain_87 : decode cX8_writePlain 87 = .ok (.iload_n 2, 1) := by decide +kernel
theorem V.dX8_writePlain_88 : decode cX8_writePlain 88 = .ok (.invokevirtual 359, 3) := by decide +kernel
theorem V.dX8_writePlain_91 : decode cX8_writePlain 91 = .ok (.aload_n 0, 1) := by decide +kernel
theorem V.dX8_writePlain_92 : decode cX8_writePlain 92 = .ok (.getfield 39, 3) := by decide +kernel
theorem V.dX8_writePlain_95 : decode cX8_writePlain 95 = .ok (.iload_n 2, 1) := by decide +kernel
theorem V.dX8_writePlain_96 : decode cX8_writePlain 96 = .ok (.invokevirtual 362, 3) := by decide +kernel
theorem V.dX8_writePlain_99 : decode cX8_writePlain 99 = .ok (.invokevirtual 346, 3) := by decide +kernel
theorem V.dX8_writePlain_102 : decode cX8_writePlain 102 = .ok (.return_, 1) := by decide +kernel
theorem V.mdX8_359 : MD RX8 359 yX6_in cX6_in 2 (some .int) 1 := ⟨Or.inl q2120, q366, q2123, by decide, by decide, by decide +kernel⟩
theorem V.mdX8_362 : MD RX8 362 yX6_out cX6_out 2 (some .int) 1 := ⟨Or.inl q2128, q366, q2131, by decide, by decide, by decide +kernel⟩
/-! ModuleEngine$Loader.writePlain(I)V -/
def V.Ldr_writePlain_p82  (σ : HS) (x0 : Nat) (x2 : Int32) (s0 : Int32) (s1 : Int32) (s2 : Int32) (s3 : Nat) : Option (Unit × HS) :=
  ck (tg σ x0 = 9) <|
  ck (tg σ (gR σ x0 0) = 7) <| cl (Flt_in σ (gR σ x0 0) x2) fun r2 σ1 =>
  ck (tg σ1 x0 = 9) <|
  ck (tg σ1 (gR σ1 x0 0) = 7) <| cl (Flt_out σ1 (gR σ1 x0 0) x2) fun r4 σ3 =>
  ck (tg σ3 s3 = 7) <| cl (Flt_write σ3 s3 s2 s1 s0 (0 : Int32) r2 r4) fun _ σ5 =>
  some ((), σ5)
theorem V.gX8_writePlain_p82 {X : CX}  (σ : HS) (x0 : Nat) (x2 : Int32) (s0 : Int32) (s1 : Int32) (s2 : Int32) (s3 : Nat) : G X RX8 "writePlain" cX8_writePlain 4 none 2 52 enV 82 [(0, av x0), (2, iv x2)] [iv s0, iv s1, iv s2, av s3] σ (Ldr_writePlain_p82 σ x0 x2 s0 s1 s2 s3) := by
  unfold Ldr_writePlain_p82
  refine g_iconst (v := 0) dX8_writePlain_82 (by decide) ?_
  refine g_aload_n 0 0 dX8_writePlain_83 rfl rfl ?_
  refine g_getR fdX8_39 dX8_writePlain_84 ?_
  refine g_iload_n 2 1 dX8_writePlain_87 rfl rfl ?_
  refine g_callV (fc := fun sς => Flt_in sς (gR σ x0 0) x2) (ci := 6) (as := [iv x2]) rfl rfl rfl q2121 q2122 mdX8_359 (ctX6_in (gR σ x0 0) x2) rfl (Nat.le_of_ble_eq_true rfl) (Nat.le_of_ble_eq_true rfl) (Nat.le_of_ble_eq_true rfl) pu_I dX8_writePlain_88 (fun r2 σ1 => ?_)
  refine g_aload_n 0 0 dX8_writePlain_91 rfl rfl ?_
  refine g_getR fdX8_39 dX8_writePlain_92 ?_
  refine g_iload_n 2 1 dX8_writePlain_95 rfl rfl ?_
  refine g_callV (fc := fun sς => Flt_out sς (gR σ1 x0 0) x2) (ci := 6) (as := [iv x2]) rfl rfl rfl q2129 q2130 mdX8_362 (ctX6_out (gR σ1 x0 0) x2) rfl (Nat.le_of_ble_eq_true rfl) (Nat.le_of_ble_eq_true rfl) (Nat.le_of_ble_eq_true rfl) pu_I dX8_writePlain_96 (fun r4 σ3 => ?_)
  refine g_callV (fc := fun sς => Flt_write sς s3 s2 s1 s0 (0 : Int32) r2 r4) (ci := 6) (as := [iv s2, iv s1, iv s0, iv (0 : Int32), iv r2, iv r4]) rfl rfl rfl q2113 q2114 mdX8_346 (ctX6_write s3 s2 s1 s0 (0 : Int32) r2 r4) rfl (Nat.le_of_ble_eq_true rfl) (Nat.le_of_ble_eq_true rfl) (Nat.le_of_ble_eq_true rfl) pu_V dX8_writePlain_99 (fun _ σ5 => ?_)
  exact g_return rfl dX8_writePlain_102
def V.Ldr_writePlain_p67  (σ : HS) (x0 : Nat) (x2 : Int32) (x3 : Int32) (s0 : Int32) (s1 : Int32) (s2 : Nat) : Option (Unit × HS) :=
  if x3 = 0 then (
    ck (tg σ x0 = 9) <|
    ck (tg σ (gR σ x0 6) = 13) <|
    Ldr_writePlain_p82 σ x0 x2 (gI σ (gR σ x0 6) 5) s0 s1 s2)
  else (
    Ldr_writePlain_p82 σ x0 x2 (0 : Int32) s0 s1 s2)
theorem V.gX8_writePlain_p67 {X : CX}  (σ : HS) (x0 : Nat) (x2 : Int32) (x3 : Int32) (s0 : Int32) (s1 : Int32) (s2 : Nat) : G X RX8 "writePlain" cX8_writePlain 4 none 2 52 enV 67 [(0, av x0), (2, iv x2), (3, iv x3)] [iv s0, iv s1, av s2] σ (Ldr_writePlain_p67 σ x0 x2 x3 s0 s1 s2) := by
  unfold Ldr_writePlain_p67
  refine g_iload_n 3 2 dX8_writePlain_67 rfl rfl ?_
  refine g_if_eq 75 dX8_writePlain_68 (by decide) ?_ ?_
  · refine g_aload_n 0 0 dX8_writePlain_75 rfl rfl ?_
    refine g_getR fdX8_35 dX8_writePlain_76 ?_
    refine g_getI fdX8_303 dX8_writePlain_79 ?_
    refine G.sub [0, 1] rfl ?_
    exact gX8_writePlain_p82 _ _ _ _ _ _ _
  · refine g_iconst (v := 0) dX8_writePlain_71 (by decide) ?_
    refine g_goto 82 dX8_writePlain_72 (by decide) ?_
    refine G.sub [0, 1] rfl ?_
    exact gX8_writePlain_p82 _ _ _ _ _ _ _
def V.Ldr_writePlain_p40  (σ : HS) (x0 : Nat) (x2 : Int32) (s0 : Int32) : Option (Unit × HS) :=
  ck (tg σ x0 = 9) <|
  if s0 = 0 then (
    ck (tg σ x0 = 9) <|
    ck (tg σ (gR σ x0 6) = 13) <|
    Ldr_writePlain_p67 σ x0 x2 s0 (gI σ (gR σ x0 6) 4) x2 (gR σ x0 0))
  else (
    ck (tg σ x0 = 9) <|
    ck (tg σ (gR σ x0 6) = 13) <|
    Ldr_writePlain_p67 σ x0 x2 s0 (gI σ (gR σ x0 6) 5) x2 (gR σ x0 0))
theorem V.gX8_writePlain_p40 {X : CX}  (σ : HS) (x0 : Nat) (x2 : Int32) (s0 : Int32) : G X RX8 "writePlain" cX8_writePlain 4 none 2 52 enV 40 [(0, av x0), (2, iv x2)] [iv s0] σ (Ldr_writePlain_p40 σ x0 x2 s0) := by
  unfold Ldr_writePlain_p40
  refine g_istore_n 3 dX8_writePlain_40 rfl (by decide) rfl ?_
  refine g_aload_n 0 1 dX8_writePlain_41 rfl rfl ?_
  refine g_getR fdX8_39 dX8_writePlain_42 ?_
  refine g_iload_n 2 2 dX8_writePlain_45 rfl rfl ?_
  refine g_iload_n 3 0 dX8_writePlain_46 rfl rfl ?_
  refine g_if_eq 60 dX8_writePlain_47 (by decide) ?_ ?_
  · refine g_aload_n 0 1 dX8_writePlain_60 rfl rfl ?_
    refine g_getR fdX8_35 dX8_writePlain_61 ?_
    refine g_getI fdX8_262 dX8_writePlain_64 ?_
    refine G.sub [1, 2, 0] rfl ?_
    exact gX8_writePlain_p67 _ _ _ _ _ _ _
  · refine g_aload_n 0 1 dX8_writePlain_50 rfl rfl ?_
    refine g_getR fdX8_35 dX8_writePlain_51 ?_
    refine g_getI fdX8_303 dX8_writePlain_54 ?_
    refine g_goto 67 dX8_writePlain_57 (by decide) ?_
    refine G.sub [1, 2, 0] rfl ?_
    exact gX8_writePlain_p67 _ _ _ _ _ _ _
def V.Ldr_writePlain_p39  (σ : HS) (x0 : Nat) (x2 : Int32) : Option (Unit × HS) :=
  Ldr_writePlain_p40 σ x0 x2 (0 : Int32)
theorem V.gX8_writePlain_p39 {X : CX}  (σ : HS) (x0 : Nat) (x2 : Int32) : G X RX8 "writePlain" cX8_writePlain 4 none 2 52 enV 39 [(0, av x0), (2, iv x2)] [] σ (Ldr_writePlain_p39 σ x0 x2) := by
  unfold Ldr_writePlain_p39
  refine g_iconst (v := 0) dX8_writePlain_39 (by decide) ?_
  exact gX8_writePlain_p40 _ _ _ _
def V.Ldr_writePlain_p22  (σ : HS) (x0 : Nat) (x1 : Int32) (s0 : Int32) : Option (Unit × HS) :=
  if x1 ≤ (39 : Int32) then (
    Ldr_writePlain_p39 σ x0 s0)
  else (
    if (63 : Int32) ≤ x1 then (
      Ldr_writePlain_p39 σ x0 s0)
    else (
      Ldr_writePlain_p40 σ x0 s0 (1 : Int32)))
theorem V.gX8_writePlain_p22 {X : CX}  (σ : HS) (x0 : Nat) (x1 : Int32) (s0 : Int32) : G X RX8 "writePlain" cX8_writePlain 4 none 2 52 enV 22 [(0, av x0), (1, iv x1)] [iv s0] σ (Ldr_writePlain_p22 σ x0 x1 s0) := by
  unfold Ldr_writePlain_p22
  refine g_istore_n 2 dX8_writePlain_22 rfl (by decide) rfl ?_
  refine g_iload_n 1 2 dX8_writePlain_23 rfl rfl ?_
  refine g_bipush (v := 39) dX8_writePlain_24 (by decide) ?_
  refine g_icmp_le 39 dX8_writePlain_26 (by decide) ?_ ?_
  · refine G.sub [1, 0] rfl ?_
    exact gX8_writePlain_p39 _ _ _
  · refine g_iload_n 1 2 dX8_writePlain_29 rfl rfl ?_
    refine g_bipush (v := 63) dX8_writePlain_30 (by decide) ?_
    refine g_icmp_ge 39 dX8_writePlain_32 (by decide) ?_ ?_
    · refine G.sub [1, 0] rfl ?_
      exact gX8_writePlain_p39 _ _ _
    · refine g_iconst (v := 1) dX8_writePlain_35 (by decide) ?_
      refine g_goto 40 dX8_writePlain_36 (by decide) ?_
      refine G.sub [1, 0] rfl ?_
      exact gX8_writePlain_p40 _ _ _ _
def V.Ldr_writePlain_p21  (σ : HS) (x0 : Nat) (x1 : Int32) : Option (Unit × HS) :=
  Ldr_writePlain_p22 σ x0 x1 x1
theorem V.gX8_writePlain_p21 {X : CX}  (σ : HS) (x0 : Nat) (x1 : Int32) : G X RX8 "writePlain" cX8_writePlain 4 none 2 52 enV 21 [(0, av x0), (1, iv x1)] [] σ (Ldr_writePlain_p21 σ x0 x1) := by
  unfold Ldr_writePlain_p21
  refine g_iload_n 1 1 dX8_writePlain_21 rfl rfl ?_
  exact gX8_writePlain_p22 _ _ _ _
def V.Ldr_writePlain (σ : HS) (x0 : Nat) (x1 : Int32) : Option (Unit × HS) :=
  if x1 ≤ (255 : Int32) then (
    Ldr_writePlain_p21 σ x0 x1)
  else (
    if (264 : Int32) ≤ x1 then (
      Ldr_writePlain_p21 σ x0 x1)
    else (
      Ldr_writePlain_p22 σ x0 x1 (x1 - (56 : Int32))))
theorem V.ctX8_writePlain (x0 : Nat) (x1 : Int32) : Ct yX8_writePlain  cX8_writePlain 4 none 2 52 eV [av x0, iv x1] (fun σ => Ldr_writePlain σ x0 x1) := by
  refine Ct.of (own := RX8) (nm := "writePlain") (desc := "(I)V") rfl (by decide) (Nat.le_of_ble_eq_true rfl) (by decide) (fun X σ => ?_)
  show G X RX8 "writePlain" cX8_writePlain 4 none 2 52 enV 0 [(0, av x0), (1, iv x1)] [] σ (Ldr_writePlain σ x0 x1)
  unfold Ldr_writePlain
  refine g_iload_n 1 1 dX8_writePlain_0 rfl rfl ?_
  refine g_sipush (v := 255) dX8_writePlain_1 (by decide) ?_
  refine g_icmp_le 21 dX8_writePlain_4 (by decide) ?_ ?_
  · exact gX8_writePlain_p21 _ _ _
  · refine g_iload_n 1 1 dX8_writePlain_7 rfl rfl ?_
    refine g_sipush (v := 264) dX8_writePlain_8 (by decide) ?_
    refine g_icmp_ge 21 dX8_writePlain_11 (by decide) ?_ ?_
    · exact gX8_writePlain_p21 _ _ _
    · refine g_iload_n 1 1 dX8_writePlain_14 rfl rfl ?_
      refine g_bipush (v := 56) dX8_writePlain_15 (by decide) ?_
      refine g_isub dX8_writePlain_17 ?_
      refine g_goto 22 dX8_writePlain_18 (by decide) ?_
      exact gX8_writePlain_p22 _ _ _ _
theorem V.dX8_writeOne_0 : decode cX8_writeOne 0 = .ok (.aload_n 0, 1) := by decide +kernel
theorem V.dX8_writeOne_1 : decode cX8_writeOne 1 = .ok (.getfield 35, 3) := by decide +kernel
theorem V.dX8_writeOne_4 : decode cX8_writeOne 4 = .ok (.getfield 185, 3) := by decide +kernel
theorem V.dX8_writeOne_7 : decode cX8_writeOne 7 = .ok (.istore_n 1, 1) := by decide +kernel
theorem V.dX8_writeOne_8 : decode cX8_writeOne 8 = .ok (.iload_n 1, 1) := by decide +kernel
theorem V.dX8_writeOne_9 : decode cX8_writeOne 9 = .ok (.tableswitch 511 0 68 #[291, 511, 301, 301, 301, 308, 511, 511, 511, 511, 511, 318, 326, 326, 344, 368, 378, 406, 511, 511, 511, 511, 511, 511, 511, 511, 511, 511, 436, 511, 511, 511, 511, 511, 511, 511, 511, 511, 511, 511, 511, 511, 511, 511, 511, 511, 511, 511, 511, 511, 511, 511, 511, 511, 511, 511, 511, 511, 511, 511, 511, 511, 511, 511, 511, 453, 477, 453, 477], 291) := by decide +kernel
theorem V.dX8_writeOne_300 : decode cX8_writeOne 300 = .ok (.aload_n 0, 1) := by decide +kernel
theorem V.dX8_writeOne_301 : decode cX8_writeOne 301 = .ok (.getfield 39, 3) := by decide +kernel
theorem V.dX8_writeOne_304 : decode cX8_writeOne 304 = .ok (.invokevirtual 322, 3) := by decide +kernel
theorem V.dX8_writeOne_307 : decode cX8_writeOne 307 = .ok (.goto 218, 3) := by decide +kernel
theorem V.dX8_writeOne_310 : decode cX8_writeOne 310 = .ok (.aload_n 0, 1) := by decide +kernel
theorem V.dX8_writeOne_311 : decode cX8_writeOne 311 = .ok (.invokevirtual 324, 3) := by decide +kernel
theorem V.dX8_writeOne_314 : decode cX8_writeOne 314 = .ok (.goto 211, 3) := by decide +kernel
theorem V.dX8_writeOne_317 : decode cX8_writeOne 317 = .ok (.aload_n 0, 1) := by decide +kernel
theorem V.dX8_writeOne_318 : decode cX8_writeOne 318 = .ok (.getfield 39, 3) := by decide +kernel
theorem V.dX8_writeOne_321 : decode cX8_writeOne 321 = .ok (.invokevirtual 326, 3) := by decide +kernel
theorem V.dX8_writeOne_324 : decode cX8_writeOne 324 = .ok (.goto 201, 3) := by decide +kernel
theorem V.dX8_writeOne_327 : decode cX8_writeOne 327 = .ok (.aload_n 0, 1) := by decide +kernel
theorem V.dX8_writeOne_328 : decode cX8_writeOne 328 = .ok (.getfield 39, 3) := by decide +kernel
theorem V.dX8_writeOne_331 : decode cX8_writeOne 331 = .ok (.invokevirtual 329, 3) := by decide +kernel
theorem V.dX8_writeOne_334 : decode cX8_writeOne 334 = .ok (.ireturn, 1) := by decide +kernel
theorem V.dX8_writeOne_335 : decode cX8_writeOne 335 = .ok (.aload_n 0, 1) := by decide +kernel
theorem V.dX8_writeOne_336 : decode cX8_writeOne 336 = .ok (.getfield 39, 3) := by decide +kernel
theorem V.dX8_writeOne_339 : decode cX8_writeOne 339 = .ok (.iload_n 1, 1) := by decide +kernel
theorem V.dX8_writeOne_340 : decode cX8_writeOne 340 = .ok (.aload_n 0, 1) := by decide +kernel
theorem V.dX8_writeOne_341 : decode cX8_writeOne 341 = .ok (.getfield 35, 3) := by decide +kernel
theorem V.dX8_writeOne_344 : decode cX8_writeOne 344 = .ok (.getfield 262, 3) := by decide +kernel
theorem V.dX8_writeOne_347 : decode cX8_writeOne 347 = .ok (.invokevirtual 332, 3) := by decide +kernel
theorem V.dX8_writeOne_350 : decode cX8_writeOne 350 = .ok (.goto 175, 3) := by decide +kernel
theorem V.dX8_writeOne_353 : decode cX8_writeOne 353 = .ok (.aload_n 0, 1) := by decide +kernel
theorem V.dX8_writeOne_354 : decode cX8_writeOne 354 = .ok (.getfield 39, 3) := by decide +kernel
theorem V.dX8_writeOne_357 : decode cX8_writeOne 357 = .ok (.aload_n 0, 1) := by decide +kernel
theorem V.dX8_writeOne_358 : decode cX8_writeOne 358 = .ok (.getfield 35, 3) := by decide +kernel
theorem V.dX8_writeOne_361 : decode cX8_writeOne 361 = .ok (.getfield 188, 3) := by decide +kernel
theorem V.dX8_writeOne_364 : decode cX8_writeOne 364 = .ok (.aload_n 0, 1) := by decide +kernel
theorem V.dX8_writeOne_365 : decode cX8_writeOne 365 = .ok (.getfield 35, 3) := by decide +kernel
theorem V.dX8_writeOne_368 : decode cX8_writeOne 368 = .ok (.getfield 262, 3) := by decide +kernel
theorem V.dX8_writeOne_371 : decode cX8_writeOne 371 = .ok (.invokevirtual 335, 3) := by decide +kernel
theorem V.dX8_writeOne_374 : decode cX8_writeOne 374 = .ok (.goto 151, 3) := by decide +kernel
theorem V.dX8_writeOne_377 : decode cX8_writeOne 377 = .ok (.aload_n 0, 1) := by decide +kernel
theorem V.dX8_writeOne_378 : decode cX8_writeOne 378 = .ok (.getfield 39, 3) := by decide +kernel
theorem V.dX8_writeOne_381 : decode cX8_writeOne 381 = .ok (.invokevirtual 339, 3) := by decide +kernel
theorem V.dX8_writeOne_384 : decode cX8_writeOne 384 = .ok (.goto 141, 3) := by decide +kernel
theorem V.dX8_writeOne_387 : decode cX8_writeOne 387 = .ok (.aload_n 0, 1) := by decide +kernel
theorem V.dX8_writeOne_388 : decode cX8_writeOne 388 = .ok (.iload_n 1, 1) := by decide +kernel
theorem V.dX8_writeOne_389 : decode cX8_writeOne 389 = .ok (.aload_n 0, 1) := by decide +kernel
theorem V.dX8_writeOne_390 : decode cX8_writeOne 390 = .ok (.getfield 35, 3) := by decide +kernel
theorem V.dX8_writeOne_393 : decode cX8_writeOne 393 = .ok (.getfield 262, 3) := by decide +kernel
theorem V.dX8_writeOne_396 : decode cX8_writeOne 396 = .ok (.iconst 0, 1) := by decide +kernel
theorem V.dX8_writeOne_397 : decode cX8_writeOne 397 = .ok (.aload_n 0, 1) := by decide +kernel
theorem V.dX8_writeOne_398 : decode cX8_writeOne 398 = .ok (.aload_n 0, 1) := by decide +kernel
theorem V.dX8_writeOne_399 : decode cX8_writeOne 399 = .ok (.getfield 35, 3) := by decide +kernel
theorem V.dX8_writeOne_402 : decode cX8_writeOne 402 = .ok (.getfield 262, 3) := by decide +kernel
theorem V.dX8_writeOne_405 : decode cX8_writeOne 405 = .ok (.invokevirtual 230, 3) := by decide +kernel
theorem V.dX8_writeOne_408 : decode cX8_writeOne 408 = .ok (.iconst 0, 1) := by decide +kernel
theorem V.dX8_writeOne_409 : decode cX8_writeOne 409 = .ok (.invokevirtual 342, 3) := by decide +kernel
theorem V.dX8_writeOne_412 : decode cX8_writeOne 412 = .ok (.goto 113, 3) := by decide +kernel
theorem V.dX8_writeOne_415 : decode cX8_writeOne 415 = .ok (.aload_n 0, 1) := by decide +kernel
theorem V.dX8_writeOne_416 : decode cX8_writeOne 416 = .ok (.iload_n 1, 1) := by decide +kernel
theorem V.dX8_writeOne_417 : decode cX8_writeOne 417 = .ok (.aload_n 0, 1) := by decide +kernel
theorem V.dX8_writeOne_418 : decode cX8_writeOne 418 = .ok (.getfield 35, 3) := by decide +kernel
theorem V.dX8_writeOne_421 : decode cX8_writeOne 421 = .ok (.getfield 262, 3) := by decide +kernel
theorem V.dX8_writeOne_424 : decode cX8_writeOne 424 = .ok (.aload_n 0, 1) := by decide +kernel
theorem V.dX8_writeOne_425 : decode cX8_writeOne 425 = .ok (.getfield 35, 3) := by decide +kernel
theorem V.dX8_writeOne_428 : decode cX8_writeOne 428 = .ok (.getfield 303, 3) := by decide +kernel
theorem V.dX8_writeOne_431 : decode cX8_writeOne 431 = .ok (.aload_n 0, 1) := by decide +kernel
theorem V.dX8_writeOne_432 : decode cX8_writeOne 432 = .ok (.getfield 35, 3) := by decide +kernel
theorem V.dX8_writeOne_435 : decode cX8_writeOne 435 = .ok (.getfield 262, 3) := by decide +kernel
theorem V.dX8_writeOne_438 : decode cX8_writeOne 438 = .ok (.iconst 1, 1) := by decide +kernel
theorem V.dX8_writeOne_439 : decode cX8_writeOne 439 = .ok (.invokevirtual 342, 3) := by decide +kernel
theorem V.dX8_writeOne_442 : decode cX8_writeOne 442 = .ok (.goto 83, 3) := by decide +kernel
theorem V.dX8_writeOne_445 : decode cX8_writeOne 445 = .ok (.aload_n 0, 1) := by decide +kernel
theorem V.dX8_writeOne_446 : decode cX8_writeOne 446 = .ok (.getfield 39, 3) := by decide +kernel
theorem V.dX8_writeOne_449 : decode cX8_writeOne 449 = .ok (.bipush 27, 2) := by decide +kernel
theorem V.dX8_writeOne_451 : decode cX8_writeOne 451 = .ok (.iconst 0, 1) := by decide +kernel
theorem V.dX8_writeOne_452 : decode cX8_writeOne 452 = .ok (.iconst 0, 1) := by decide +kernel
theorem V.dX8_writeOne_453 : decode cX8_writeOne 453 = .ok (.iconst 0, 1) := by decide +kernel
theorem V.dX8_writeOne_454 : decode cX8_writeOne 454 = .ok (.iconst 3, 1) := by decide +kernel
theorem V.dX8_writeOne_455 : decode cX8_writeOne 455 = .ok (.iconst 1, 1) := by decide +kernel
theorem V.dX8_writeOne_456 : decode cX8_writeOne 456 = .ok (.invokevirtual 346, 3) := by decide +kernel
theorem V.dX8_writeOne_459 : decode cX8_writeOne 459 = .ok (.goto 66, 3) := by decide +kernel
theorem V.dX8_writeOne_462 : decode cX8_writeOne 462 = .ok (.aload_n 0, 1) := by decide +kernel
theorem V.dX8_writeOne_463 : decode cX8_writeOne 463 = .ok (.getfield 39, 3) := by decide +kernel
theorem V.dX8_writeOne_466 : decode cX8_writeOne 466 = .ok (.bipush 65, 2) := by decide +kernel
theorem V.dX8_writeOne_468 : decode cX8_writeOne 468 = .ok (.aload_n 0, 1) := by decide +kernel
theorem V.dX8_writeOne_469 : decode cX8_writeOne 469 = .ok (.getfield 35, 3) := by decide +kernel
theorem V.dX8_writeOne_472 : decode cX8_writeOne 472 = .ok (.getfield 349, 3) := by decide +kernel
theorem V.dX8_writeOne_475 : decode cX8_writeOne 475 = .ok (.l2i, 1) := by decide +kernel
theorem V.dX8_writeOne_476 : decode cX8_writeOne 476 = .ok (.iconst 0, 1) := by decide +kernel
theorem V.dX8_writeOne_477 : decode cX8_writeOne 477 = .ok (.iconst 0, 1) := by decide +kernel
theorem V.dX8_writeOne_478 : decode cX8_writeOne 478 = .ok (.iconst 0, 1) := by decide +kernel
theorem V.dX8_writeOne_479 : decode cX8_writeOne 479 = .ok (.iconst 1, 1) := by decide +kernel
theorem V.dX8_writeOne_480 : decode cX8_writeOne 480 = .ok (.invokevirtual 346, 3) := by decide +kernel
theorem V.dX8_writeOne_483 : decode cX8_writeOne 483 = .ok (.goto 42, 3) := by decide +kernel
theorem V.dX8_writeOne_486 : decode cX8_writeOne 486 = .ok (.aload_n 0, 1) := by decide +kernel
theorem V.dX8_writeOne_487 : decode cX8_writeOne 487 = .ok (.getfield 39, 3) := by decide +kernel
theorem V.dX8_writeOne_490 : decode cX8_writeOne 490 = .ok (.bipush 66, 2) := by decide +kernel
theorem V.dX8_writeOne_492 : decode cX8_writeOne 492 = .ok (.aload_n 0, 1) := by decide +kernel
theorem V.dX8_writeOne_493 : decode cX8_writeOne 493 = .ok (.getfield 35, 3) := by decide +kernel
theorem V.dX8_writeOne_496 : decode cX8_writeOne 496 = .ok (.getfield 349, 3) := by decide +kernel
theorem V.dX8_writeOne_499 : decode cX8_writeOne 499 = .ok (.l2i, 1) := by decide +kernel
theorem V.dX8_writeOne_500 : decode cX8_writeOne 500 = .ok (.aload_n 0, 1) := by decide +kernel
theorem V.dX8_writeOne_501 : decode cX8_writeOne 501 = .ok (.getfield 35, 3) := by decide +kernel
theorem V.dX8_writeOne_504 : decode cX8_writeOne 504 = .ok (.getfield 349, 3) := by decide +kernel
theorem V.dX8_writeOne_507 : decode cX8_writeOne 507 = .ok (.bipush 32, 2) := by decide +kernel
theorem V.dX8_writeOne_509 : decode cX8_writeOne 509 = .ok (.lshr, 1) := by decide +kernel
theorem V.dX8_writeOne_510 : decode cX8_writeOne 510 = .ok (.l2i, 1) := by decide +kernel
theorem V.dX8_writeOne_511 : decode cX8_writeOne 511 = .ok (.iconst 0, 1) := by decide +kernel
theorem V.dX8_writeOne_512 : decode cX8_writeOne 512 = .ok (.iconst 0, 1) := by decide +kernel
theorem V.dX8_writeOne_513 : decode cX8_writeOne 513 = .ok (.iconst 1, 1) := by decide +kernel
theorem V.dX8_writeOne_514 : decode cX8_writeOne 514 = .ok (.invokevirtual 346, 3) := by decide +kernel
theorem V.dX8_writeOne_517 : decode cX8_writeOne 517 = .ok (.goto 8, 3) := by decide +kernel
theorem V.dX8_writeOne_520 : decode cX8_writeOne 520 = .ok (.aload_n 0, 1) := by decide +kernel
theorem V.dX8_writeOne_521 : decode cX8_writeOne 521 = .ok (.iload_n 1, 1) := by decide +kernel
theorem V.dX8_writeOne_522 : decode cX8_writeOne 522 = .ok (.invokevirtual 353, 3) := by decide +kernel
theorem V.dX8_writeOne_525 : decode cX8_writeOne 525 = .ok (.iconst 0, 1) := by decide +kernel
theorem V.dX8_writeOne_526 : decode cX8_writeOne 526 = .ok (.ireturn, 1) := by decide +kernel
theorem V.mdX8_322 : MD RX8 322 yX6_stop cX6_stop 1 none 0 := ⟨Or.inl q2039, q366, q2042, by decide, by decide, by decide +kernel⟩
theorem V.mdX8_326 : MD RX8 326 yX6_otherPart cX6_otherPart 3 none 0 := ⟨Or.inl q2071, q366, q2074, by decide, by decide, by decide +kernel⟩
theorem V.mdX8_329 : MD RX8 329 yX6_close cX6_close 2 (some .boolean) 0 := ⟨Or.inl q2075, q366, q2078, by decide, by decide, by decide +kernel⟩
theorem V.mdX8_335 : MD RX8 335 yX6_table cX6_table 4 none 2 := ⟨Or.inl q2095, q366, q2098, by decide, by decide, by decide +kernel⟩
theorem V.mdX8_339 : MD RX8 339 yX6_leave cX6_leave 1 none 0 := ⟨Or.inl q2100, q366, q2103, by decide, by decide, by decide +kernel⟩
theorem V.mdX8_342 : MD RX8 342 yX8_writeCall cX8_writeCall 6 none 5 := ⟨Or.inl q2104, q368, q2107, by decide, by decide, by decide +kernel⟩
theorem V.mdX8_324 : MD RX8 324 yX8_open cX8_open 2 none 0 := ⟨Or.inl q2051, q368, q2054, by decide, by decide, by decide +kernel⟩
theorem V.mdX8_332 : MD RX8 332 yX6_branch cX6_branch 4 none 2 := ⟨Or.inl q2083, q366, q2086, by decide, by decide, by decide +kernel⟩
theorem V.fdX8_349 : FD RX8 349 12 6 1 := ⟨(RX12, TX12, 8), tyX12, rfl, rfl, in_X12, by decide, Or.inr ⟨_, q894⟩, rfl⟩
theorem V.mdX8_353 : MD RX8 353 yX8_writePlain cX8_writePlain 4 none 1 := ⟨Or.inl q2116, q368, q2119, by decide, by decide, by decide +kernel⟩
/-! ModuleEngine$Loader.writeOne()Z -/
def V.Ldr_writeOne_p310  (σ : HS) (x0 : Nat) : Option (Int32 × HS) :=
  ck (tg σ x0 = 9) <| cl (Ldr_open σ x0 ) fun _ σ1 =>
  some ((0 : Int32), σ1)
theorem V.gX8_writeOne_p310 {X : CX}  (σ : HS) (x0 : Nat) : G X RX8 "writeOne" cX8_writeOne 2 (some .boolean) 5 109 enI 310 [(0, av x0)] [] σ (Ldr_writeOne_p310 σ x0) := by
  unfold Ldr_writeOne_p310
  refine g_aload_n 0 0 dX8_writeOne_310 rfl rfl ?_
  refine g_callV (fc := fun sς => Ldr_open sς x0 ) (ci := 8) (as := []) rfl rfl rfl q2053 qs121 mdX8_324 (ctX8_open x0 ) rfl (Nat.le_of_ble_eq_true rfl) (Nat.le_of_ble_eq_true rfl) (Nat.le_of_ble_eq_true rfl) pu_V dX8_writeOne_311 (fun _ σ1 => ?_)
  refine g_goto 525 dX8_writeOne_314 (by decide) ?_
  refine g_iconst (v := 0) dX8_writeOne_525 (by decide) ?_
  exact g_zreturn rfl (by decide +kernel) dX8_writeOne_526
def V.Ldr_writeOne_p335  (σ : HS) (x0 : Nat) (x1 : Int32) : Option (Int32 × HS) :=
  ck (tg σ x0 = 9) <|
  ck (tg σ x0 = 9) <|
  ck (tg σ (gR σ x0 6) = 13) <|
  ck (tg σ (gR σ x0 0) = 7) <| cl (Flt_branch σ (gR σ x0 0) x1 (gI σ (gR σ x0 6) 4)) fun _ σ1 =>
  some ((0 : Int32), σ1)
theorem V.gX8_writeOne_p335 {X : CX}  (σ : HS) (x0 : Nat) (x1 : Int32) : G X RX8 "writeOne" cX8_writeOne 2 (some .boolean) 5 109 enI 335 [(0, av x0), (1, iv x1)] [] σ (Ldr_writeOne_p335 σ x0 x1) := by
  unfold Ldr_writeOne_p335
  refine g_aload_n 0 0 dX8_writeOne_335 rfl rfl ?_
  refine g_getR fdX8_39 dX8_writeOne_336 ?_
  refine g_iload_n 1 1 dX8_writeOne_339 rfl rfl ?_
  refine g_aload_n 0 0 dX8_writeOne_340 rfl rfl ?_
  refine g_getR fdX8_35 dX8_writeOne_341 ?_
  refine g_getI fdX8_262 dX8_writeOne_344 ?_
  refine g_callV (fc := fun sς => Flt_branch sς (gR σ x0 0) x1 (gI σ (gR σ x0 6) 4)) (ci := 6) (as := [iv x1, iv (gI σ (gR σ x0 6) 4)]) rfl rfl rfl q2084 q2085 mdX8_332 (ctX6_branch (gR σ x0 0) x1 (gI σ (gR σ x0 6) 4)) rfl (Nat.le_of_ble_eq_true rfl) (Nat.le_of_ble_eq_true rfl) (Nat.le_of_ble_eq_true rfl) pu_V dX8_writeOne_347 (fun _ σ1 => ?_)
  refine g_goto 525 dX8_writeOne_350 (by decide) ?_
  refine g_iconst (v := 0) dX8_writeOne_525 (by decide) ?_
  exact g_zreturn rfl (by decide +kernel) dX8_writeOne_526
def V.Ldr_writeOne_p462  (σ : HS) (x0 : Nat) : Option (Int32 × HS) :=
  ck (tg σ x0 = 9) <|
  ck (tg σ x0 = 9) <|
  ck (tg σ (gR σ x0 6) = 13) <|
  ck (tg σ (gR σ x0 0) = 7) <| cl (Flt_write σ (gR σ x0 0) (65 : Int32) ((gJ σ (gR σ x0 6) 6).toInt32) (0 : Int32) (0 : Int32) (0 : Int32) (1 : Int32)) fun _ σ1 =>
  some ((0 : Int32), σ1)
theorem V.gX8_writeOne_p462 {X : CX}  (σ : HS) (x0 : Nat) : G X RX8 "writeOne" cX8_writeOne 2 (some .boolean) 5 109 enI 462 [(0, av x0)] [] σ (Ldr_writeOne_p462 σ x0) := by
  unfold Ldr_writeOne_p462
  refine g_aload_n 0 0 dX8_writeOne_462 rfl rfl ?_
  refine g_getR fdX8_39 dX8_writeOne_463 ?_
  refine g_bipush (v := 65) dX8_writeOne_466 (by decide) ?_
  refine g_aload_n 0 0 dX8_writeOne_468 rfl rfl ?_
  refine g_getR fdX8_35 dX8_writeOne_469 ?_
  refine g_getJ fdX8_349 dX8_writeOne_472 ?_
  refine g_l2i dX8_writeOne_475 ?_
  refine g_iconst (v := 0) dX8_writeOne_476 (by decide) ?_
  refine g_iconst (v := 0) dX8_writeOne_477 (by decide) ?_
  refine g_iconst (v := 0) dX8_writeOne_478 (by decide) ?_
  refine g_iconst (v := 1) dX8_writeOne_479 (by decide) ?_
  refine g_callV (fc := fun sς => Flt_write sς (gR σ x0 0) (65 : Int32) ((gJ σ (gR σ x0 6) 6).toInt32) (0 : Int32) (0 : Int32) (0 : Int32) (1 : Int32)) (ci := 6) (as := [iv (65 : Int32), iv ((gJ σ (gR σ x0 6) 6).toInt32), iv (0 : Int32), iv (0 : Int32), iv (0 : Int32), iv (1 : Int32)]) rfl rfl rfl q2113 q2114 mdX8_346 (ctX6_write (gR σ x0 0) (65 : Int32) ((gJ σ (gR σ x0 6) 6).toInt32) (0 : Int32) (0 : Int32) (0 : Int32) (1 : Int32)) rfl (Nat.le_of_ble_eq_true rfl) (Nat.le_of_ble_eq_true rfl) (Nat.le_of_ble_eq_true rfl) pu_V dX8_writeOne_480 (fun _ σ1 => ?_)
  refine g_goto 525 dX8_writeOne_483 (by decide) ?_
  refine g_iconst (v := 0) dX8_writeOne_525 (by decide) ?_
  exact g_zreturn rfl (by decide +kernel) dX8_writeOne_526
def V.Ldr_writeOne_p486  (σ : HS) (x0 : Nat) : Option (Int32 × HS) :=
  ck (tg σ x0 = 9) <|
  ck (tg σ x0 = 9) <|
  ck (tg σ (gR σ x0 6) = 13) <|
  ck (tg σ x0 = 9) <|
  ck (tg σ (gR σ x0 6) = 13) <|
  ck (tg σ (gR σ x0 0) = 7) <| cl (Flt_write σ (gR σ x0 0) (66 : Int32) ((gJ σ (gR σ x0 6) 6).toInt32) ((lshr (gJ σ (gR σ x0 6) 6) (32 : Int32)).toInt32) (0 : Int32) (0 : Int32) (1 : Int32)) fun _ σ1 =>
  some ((0 : Int32), σ1)
theorem V.gX8_writeOne_p486 {X : CX}  (σ : HS) (x0 : Nat) : G X RX8 "writeOne" cX8_writeOne 2 (some .boolean) 5 109 enI 486 [(0, av x0)] [] σ (Ldr_writeOne_p486 σ x0) := by
  unfold Ldr_writeOne_p486
  refine g_aload_n 0 0 dX8_writeOne_486 rfl rfl ?_
  refine g_getR fdX8_39 dX8_writeOne_487 ?_
  refine g_bipush (v := 66) dX8_writeOne_490 (by decide) ?_
  refine g_aload_n 0 0 dX8_writeOne_492 rfl rfl ?_
  refine g_getR fdX8_35 dX8_writeOne_493 ?_
  refine g_getJ fdX8_349 dX8_writeOne_496 ?_
  refine g_l2i dX8_writeOne_499 ?_
  refine g_aload_n 0 0 dX8_writeOne_500 rfl rfl ?_
  refine g_getR fdX8_35 dX8_writeOne_501 ?_
  refine g_getJ fdX8_349 dX8_writeOne_504 ?_
  refine g_bipush (v := 32) dX8_writeOne_507 (by decide) ?_
  refine g_lshr dX8_writeOne_509 ?_
  refine g_l2i dX8_writeOne_510 ?_
  refine g_iconst (v := 0) dX8_writeOne_511 (by decide) ?_
  refine g_iconst (v := 0) dX8_writeOne_512 (by decide) ?_
  refine g_iconst (v := 1) dX8_writeOne_513 (by decide) ?_
  refine g_callV (fc := fun sς => Flt_write sς (gR σ x0 0) (66 : Int32) ((gJ σ (gR σ x0 6) 6).toInt32) ((lshr (gJ σ (gR σ x0 6) 6) (32 : Int32)).toInt32) (0 : Int32) (0 : Int32) (1 : Int32)) (ci := 6) (as := [iv (66 : Int32), iv ((gJ σ (gR σ x0 6) 6).toInt32), iv ((lshr (gJ σ (gR σ x0 6) 6) (32 : Int32)).toInt32), iv (0 : Int32), iv (0 : Int32), iv (1 : Int32)]) rfl rfl rfl q2113 q2114 mdX8_346 (ctX6_write (gR σ x0 0) (66 : Int32) ((gJ σ (gR σ x0 6) 6).toInt32) ((lshr (gJ σ (gR σ x0 6) 6) (32 : Int32)).toInt32) (0 : Int32) (0 : Int32) (1 : Int32)) rfl (Nat.le_of_ble_eq_true rfl) (Nat.le_of_ble_eq_true rfl) (Nat.le_of_ble_eq_true rfl) pu_V dX8_writeOne_514 (fun _ σ1 => ?_)
  refine g_goto 525 dX8_writeOne_517 (by decide) ?_
  refine g_iconst (v := 0) dX8_writeOne_525 (by decide) ?_
  exact g_zreturn rfl (by decide +kernel) dX8_writeOne_526
def V.Ldr_writeOne_p520  (σ : HS) (x0 : Nat) (x1 : Int32) : Option (Int32 × HS) :=
  ck (tg σ x0 = 9) <| cl (Ldr_writePlain σ x0 x1) fun _ σ1 =>
  some ((0 : Int32), σ1)
theorem V.gX8_writeOne_p520 {X : CX}  (σ : HS) (x0 : Nat) (x1 : Int32) : G X RX8 "writeOne" cX8_writeOne 2 (some .boolean) 5 109 enI 520 [(0, av x0), (1, iv x1)] [] σ (Ldr_writeOne_p520 σ x0 x1) := by
  unfold Ldr_writeOne_p520
  refine g_aload_n 0 0 dX8_writeOne_520 rfl rfl ?_
  refine g_iload_n 1 1 dX8_writeOne_521 rfl rfl ?_
  refine g_callV (fc := fun sς => Ldr_writePlain sς x0 x1) (ci := 8) (as := [iv x1]) rfl rfl rfl q2118 qs130 mdX8_353 (ctX8_writePlain x0 x1) rfl (Nat.le_of_ble_eq_true rfl) (Nat.le_of_ble_eq_true rfl) (Nat.le_of_ble_eq_true rfl) pu_V dX8_writeOne_522 (fun _ σ1 => ?_)
  refine g_iconst (v := 0) dX8_writeOne_525 (by decide) ?_
  exact g_zreturn rfl (by decide +kernel) dX8_writeOne_526
def V.Ldr_writeOne (σ : HS) (x0 : Nat) : Option (Int32 × HS) :=
  ck (tg σ x0 = 9) <|
  ck (tg σ (gR σ x0 6) = 13) <|
  bn (gI σ (gR σ x0 6) 3) fun y1 =>
  swx y1 [
    (0, (
      ck (tg σ x0 = 9) <|
      ck (tg σ (gR σ x0 0) = 7) <| cl (Flt_stop σ (gR σ x0 0) ) fun _ σ2 =>
      some ((0 : Int32), σ2))),
    (2, (
      Ldr_writeOne_p310 σ x0)),
    (3, (
      Ldr_writeOne_p310 σ x0)),
    (4, (
      Ldr_writeOne_p310 σ x0)),
    (5, (
      ck (tg σ x0 = 9) <|
      ck (tg σ (gR σ x0 0) = 7) <| cl (Flt_otherPart σ (gR σ x0 0) ) fun _ σ3 =>
      some ((0 : Int32), σ3))),
    (11, (
      ck (tg σ x0 = 9) <|
      ck (tg σ (gR σ x0 0) = 7) <| cl (Flt_close σ (gR σ x0 0) ) fun r5 σ4 =>
      ck (zb r5) (some (r5, σ4)))),
    (12, (
      Ldr_writeOne_p335 σ x0 y1)),
    (13, (
      Ldr_writeOne_p335 σ x0 y1)),
    (14, (
      ck (tg σ x0 = 9) <|
      ck (tg σ x0 = 9) <|
      ck (tg σ (gR σ x0 6) = 13) <|
      ck (tg σ x0 = 9) <|
      ck (tg σ (gR σ x0 6) = 13) <|
      ck (tg σ (gR σ x0 0) = 7) <| cl (Flt_table σ (gR σ x0 0) (gR σ (gR σ x0 6) 7) (gI σ (gR σ x0 6) 4)) fun _ σ6 =>
      some ((0 : Int32), σ6))),
    (15, (
      ck (tg σ x0 = 9) <|
      ck (tg σ (gR σ x0 0) = 7) <| cl (Flt_leave σ (gR σ x0 0) ) fun _ σ7 =>
      some ((0 : Int32), σ7))),
    (16, (
      ck (tg σ x0 = 9) <|
      ck (tg σ (gR σ x0 6) = 13) <|
      ck (tg σ x0 = 9) <|
      ck (tg σ (gR σ x0 6) = 13) <|
      ck (tg σ x0 = 9) <| cl (Ldr_typeOf σ x0 (gI σ (gR σ x0 6) 4)) fun r9 σ8 =>
      ck (tg σ8 x0 = 9) <| cl (Ldr_writeCall σ8 x0 y1 (gI σ (gR σ x0 6) 4) (0 : Int32) r9 (0 : Int32)) fun _ σ10 =>
      some ((0 : Int32), σ10))),
    (17, (
      ck (tg σ x0 = 9) <|
      ck (tg σ (gR σ x0 6) = 13) <|
      ck (tg σ x0 = 9) <|
      ck (tg σ (gR σ x0 6) = 13) <|
      ck (tg σ x0 = 9) <|
      ck (tg σ (gR σ x0 6) = 13) <|
      ck (tg σ x0 = 9) <| cl (Ldr_writeCall σ x0 y1 (gI σ (gR σ x0 6) 4) (gI σ (gR σ x0 6) 5) (gI σ (gR σ x0 6) 4) (1 : Int32)) fun _ σ11 =>
      some ((0 : Int32), σ11))),
    (28, (
      ck (tg σ x0 = 9) <|
      ck (tg σ (gR σ x0 0) = 7) <| cl (Flt_write σ (gR σ x0 0) (27 : Int32) (0 : Int32) (0 : Int32) (0 : Int32) (3 : Int32) (1 : Int32)) fun _ σ12 =>
      some ((0 : Int32), σ12))),
    (65, (
      Ldr_writeOne_p462 σ x0)),
    (66, (
      Ldr_writeOne_p486 σ x0)),
    (67, (
      Ldr_writeOne_p462 σ x0)),
    (68, (
      Ldr_writeOne_p486 σ x0))
    ] (
    Ldr_writeOne_p520 σ x0 y1)
theorem V.ctX8_writeOne (x0 : Nat) : Ct yX8_writeOne  cX8_writeOne 2 (some .boolean) 5 109 eI [av x0] (fun σ => Ldr_writeOne σ x0) := by
  refine Ct.of (own := RX8) (nm := "writeOne") (desc := "()Z") rfl (by decide) (Nat.le_of_ble_eq_true rfl) (by decide) (fun X σ => ?_)
  show G X RX8 "writeOne" cX8_writeOne 2 (some .boolean) 5 109 enI 0 [(0, av x0)] [] σ (Ldr_writeOne σ x0)
  unfold Ldr_writeOne
  refine g_aload_n 0 0 dX8_writeOne_0 rfl rfl ?_
  refine g_getR fdX8_35 dX8_writeOne_1 ?_
  refine g_getI fdX8_185 dX8_writeOne_4 ?_
  refine g_nmI (fun y1 => ?_)
  refine g_istore_n 1 dX8_writeOne_7 rfl (by decide) rfl ?_
  refine g_iload_n 1 0 dX8_writeOne_8 rfl rfl ?_
  refine g_tsw dX8_writeOne_9 (by decide +kernel) ?_
  refine g_case ex0 (t := 300) (by decide +kernel) ?_ (fun hx => ?_)
  · refine g_aload_n 0 1 dX8_writeOne_300 rfl rfl ?_
    refine g_getR fdX8_39 dX8_writeOne_301 ?_
    refine g_callV (fc := fun sς => Flt_stop sς (gR σ x0 0) ) (ci := 6) (as := []) rfl rfl rfl q2040 q2041 mdX8_322 (ctX6_stop (gR σ x0 0) ) rfl (Nat.le_of_ble_eq_true rfl) (Nat.le_of_ble_eq_true rfl) (Nat.le_of_ble_eq_true rfl) pu_V dX8_writeOne_304 (fun _ σ2 => ?_)
    refine g_goto 525 dX8_writeOne_307 (by decide) ?_
    refine g_iconst (v := 0) dX8_writeOne_525 (by decide) ?_
    exact g_zreturn rfl (by decide +kernel) dX8_writeOne_526
  refine g_case hx (t := 310) (by decide +kernel) ?_ (fun hx => ?_)
  · refine G.sub [1] rfl ?_
    exact gX8_writeOne_p310 _ _
  refine g_case hx (t := 310) (by decide +kernel) ?_ (fun hx => ?_)
  · refine G.sub [1] rfl ?_
    exact gX8_writeOne_p310 _ _
  refine g_case hx (t := 310) (by decide +kernel) ?_ (fun hx => ?_)
  · refine G.sub [1] rfl ?_
    exact gX8_writeOne_p310 _ _
  refine g_case hx (t := 317) (by decide +kernel) ?_ (fun hx => ?_)
  · refine g_aload_n 0 1 dX8_writeOne_317 rfl rfl ?_
    refine g_getR fdX8_39 dX8_writeOne_318 ?_
    refine g_callV (fc := fun sς => Flt_otherPart sς (gR σ x0 0) ) (ci := 6) (as := []) rfl rfl rfl q2072 q2073 mdX8_326 (ctX6_otherPart (gR σ x0 0) ) rfl (Nat.le_of_ble_eq_true rfl) (Nat.le_of_ble_eq_true rfl) (Nat.le_of_ble_eq_true rfl) pu_V dX8_writeOne_321 (fun _ σ3 => ?_)
    refine g_goto 525 dX8_writeOne_324 (by decide) ?_
    refine g_iconst (v := 0) dX8_writeOne_525 (by decide) ?_
    exact g_zreturn rfl (by decide +kernel) dX8_writeOne_526
  refine g_case hx (t := 327) (by decide +kernel) ?_ (fun hx => ?_)
  · refine g_aload_n 0 1 dX8_writeOne_327 rfl rfl ?_
    refine g_getR fdX8_39 dX8_writeOne_328 ?_
    refine g_callV (fc := fun sς => Flt_close sς (gR σ x0 0) ) (ci := 6) (as := []) rfl rfl rfl q2076 q2077 mdX8_329 (ctX6_close (gR σ x0 0) ) rfl (Nat.le_of_ble_eq_true rfl) (Nat.le_of_ble_eq_true rfl) (Nat.le_of_ble_eq_true rfl) pu_I dX8_writeOne_331 (fun r5 σ4 => ?_)
    exact g_zreturnc rfl dX8_writeOne_334
  refine g_case hx (t := 335) (by decide +kernel) ?_ (fun hx => ?_)
  · refine G.sub [1, 0] rfl ?_
    exact gX8_writeOne_p335 _ _ _
  refine g_case hx (t := 335) (by decide +kernel) ?_ (fun hx => ?_)
  · refine G.sub [1, 0] rfl ?_
    exact gX8_writeOne_p335 _ _ _
  refine g_case hx (t := 353) (by decide +kernel) ?_ (fun hx => ?_)
  · refine g_aload_n 0 1 dX8_writeOne_353 rfl rfl ?_
    refine g_getR fdX8_39 dX8_writeOne_354 ?_
    refine g_aload_n 0 1 dX8_writeOne_357 rfl rfl ?_
    refine g_getR fdX8_35 dX8_writeOne_358 ?_
    refine g_getR fdX8_188 dX8_writeOne_361 ?_
    refine g_aload_n 0 1 dX8_writeOne_364 rfl rfl ?_
    refine g_getR fdX8_35 dX8_writeOne_365 ?_
    refine g_getI fdX8_262 dX8_writeOne_368 ?_
    refine g_callV (fc := fun sς => Flt_table sς (gR σ x0 0) (gR σ (gR σ x0 6) 7) (gI σ (gR σ x0 6) 4)) (ci := 6) (as := [av (gR σ (gR σ x0 6) 7), iv (gI σ (gR σ x0 6) 4)]) rfl rfl rfl q2096 q2097 mdX8_335 (ctX6_table (gR σ x0 0) (gR σ (gR σ x0 6) 7) (gI σ (gR σ x0 6) 4)) rfl (Nat.le_of_ble_eq_true rfl) (Nat.le_of_ble_eq_true rfl) (Nat.le_of_ble_eq_true rfl) pu_V dX8_writeOne_371 (fun _ σ6 => ?_)
    refine g_goto 525 dX8_writeOne_374 (by decide) ?_
    refine g_iconst (v := 0) dX8_writeOne_525 (by decide) ?_
    exact g_zreturn rfl (by decide +kernel) dX8_writeOne_526
  refine g_case hx (t := 377) (by decide +kernel) ?_ (fun hx => ?_)
  · refine g_aload_n 0 1 dX8_writeOne_377 rfl rfl ?_
    refine g_getR fdX8_39 dX8_writeOne_378 ?_
    refine g_callV (fc := fun sς => Flt_leave sς (gR σ x0 0) ) (ci := 6) (as := []) rfl rfl rfl q2101 q2102 mdX8_339 (ctX6_leave (gR σ x0 0) ) rfl (Nat.le_of_ble_eq_true rfl) (Nat.le_of_ble_eq_true rfl) (Nat.le_of_ble_eq_true rfl) pu_V dX8_writeOne_381 (fun _ σ7 => ?_)
    refine g_goto 525 dX8_writeOne_384 (by decide) ?_
    refine g_iconst (v := 0) dX8_writeOne_525 (by decide) ?_
    exact g_zreturn rfl (by decide +kernel) dX8_writeOne_526
  refine g_case hx (t := 387) (by decide +kernel) ?_ (fun hx => ?_)
  · refine g_aload_n 0 1 dX8_writeOne_387 rfl rfl ?_
    refine g_iload_n 1 0 dX8_writeOne_388 rfl rfl ?_
    refine g_aload_n 0 1 dX8_writeOne_389 rfl rfl ?_
    refine g_getR fdX8_35 dX8_writeOne_390 ?_
    refine g_getI fdX8_262 dX8_writeOne_393 ?_
    refine g_iconst (v := 0) dX8_writeOne_396 (by decide) ?_
    refine g_aload_n 0 1 dX8_writeOne_397 rfl rfl ?_
    refine g_aload_n 0 1 dX8_writeOne_398 rfl rfl ?_
    refine g_getR fdX8_35 dX8_writeOne_399 ?_
    refine g_getI fdX8_262 dX8_writeOne_402 ?_
    refine g_callV (fc := fun sς => Ldr_typeOf sς x0 (gI σ (gR σ x0 6) 4)) (ci := 8) (as := [iv (gI σ (gR σ x0 6) 4)]) rfl rfl rfl q1681 qs59 mdX8_230 (ctX8_typeOf x0 (gI σ (gR σ x0 6) 4)) rfl (Nat.le_of_ble_eq_true rfl) (Nat.le_of_ble_eq_true rfl) (Nat.le_of_ble_eq_true rfl) pu_I dX8_writeOne_405 (fun r9 σ8 => ?_)
    refine g_iconst (v := 0) dX8_writeOne_408 (by decide) ?_
    refine g_callV (fc := fun sς => Ldr_writeCall sς x0 y1 (gI σ (gR σ x0 6) 4) (0 : Int32) r9 (0 : Int32)) (ci := 8) (as := [iv y1, iv (gI σ (gR σ x0 6) 4), iv (0 : Int32), iv r9, iv (0 : Int32)]) rfl rfl rfl q2106 qs128 mdX8_342 (ctX8_writeCall x0 y1 (gI σ (gR σ x0 6) 4) (0 : Int32) r9 (0 : Int32)) rfl (Nat.le_of_ble_eq_true rfl) (Nat.le_of_ble_eq_true rfl) (Nat.le_of_ble_eq_true rfl) pu_V dX8_writeOne_409 (fun _ σ10 => ?_)
    refine g_goto 525 dX8_writeOne_412 (by decide) ?_
    refine g_iconst (v := 0) dX8_writeOne_525 (by decide) ?_
    exact g_zreturn rfl (by decide +kernel) dX8_writeOne_526
  refine g_case hx (t := 415) (by decide +kernel) ?_ (fun hx => ?_)
  · refine g_aload_n 0 1 dX8_writeOne_415 rfl rfl ?_
    refine g_iload_n 1 0 dX8_writeOne_416 rfl rfl ?_
    refine g_aload_n 0 1 dX8_writeOne_417 rfl rfl ?_
    refine g_getR fdX8_35 dX8_writeOne_418 ?_
    refine g_getI fdX8_262 dX8_writeOne_421 ?_
    refine g_aload_n 0 1 dX8_writeOne_424 rfl rfl ?_
    refine g_getR fdX8_35 dX8_writeOne_425 ?_
    refine g_getI fdX8_303 dX8_writeOne_428 ?_
    refine g_aload_n 0 1 dX8_writeOne_431 rfl rfl ?_
    refine g_getR fdX8_35 dX8_writeOne_432 ?_
    refine g_getI fdX8_262 dX8_writeOne_435 ?_
    refine g_iconst (v := 1) dX8_writeOne_438 (by decide) ?_
    refine g_callV (fc := fun sς => Ldr_writeCall sς x0 y1 (gI σ (gR σ x0 6) 4) (gI σ (gR σ x0 6) 5) (gI σ (gR σ x0 6) 4) (1 : Int32)) (ci := 8) (as := [iv y1, iv (gI σ (gR σ x0 6) 4), iv (gI σ (gR σ x0 6) 5), iv (gI σ (gR σ x0 6) 4), iv (1 : Int32)]) rfl rfl rfl q2106 qs128 mdX8_342 (ctX8_writeCall x0 y1 (gI σ (gR σ x0 6) 4) (gI σ (gR σ x0 6) 5) (gI σ (gR σ x0 6) 4) (1 : Int32)) rfl (Nat.le_of_ble_eq_true rfl) (Nat.le_of_ble_eq_true rfl) (Nat.le_of_ble_eq_true rfl) pu_V dX8_writeOne_439 (fun _ σ11 => ?_)
    refine g_goto 525 dX8_writeOne_442 (by decide) ?_
    refine g_iconst (v := 0) dX8_writeOne_525 (by decide) ?_
    exact g_zreturn rfl (by decide +kernel) dX8_writeOne_526
  refine g_case hx (t := 445) (by decide +kernel) ?_ (fun hx => ?_)
  · refine g_aload_n 0 1 dX8_writeOne_445 rfl rfl ?_
    refine g_getR fdX8_39 dX8_writeOne_446 ?_
    refine g_bipush (v := 27) dX8_writeOne_449 (by decide) ?_
    refine g_iconst (v := 0) dX8_writeOne_451 (by decide) ?_
    refine g_iconst (v := 0) dX8_writeOne_452 (by decide) ?_
    refine g_iconst (v := 0) dX8_writeOne_453 (by decide) ?_
    refine g_iconst (v := 3) dX8_writeOne_454 (by decide) ?_
    refine g_iconst (v := 1) dX8_writeOne_455 (by decide) ?_
    refine g_callV (fc := fun sς => Flt_write sς (gR σ x0 0) (27 : Int32) (0 : Int32) (0 : Int32) (0 : Int32) (3 : Int32) (1 : Int32)) (ci := 6) (as := [iv (27 : Int32), iv (0 : Int32), iv (0 : Int32), iv (0 : Int32), iv (3 : Int32), iv (1 : Int32)]) rfl rfl rfl q2113 q2114 mdX8_346 (ctX6_write (gR σ x0 0) (27 : Int32) (0 : Int32) (0 : Int32) (0 : Int32) (3 : Int32) (1 : Int32)) rfl (Nat.le_of_ble_eq_true rfl) (Nat.le_of_ble_eq_true rfl) (Nat.le_of_ble_eq_true rfl) pu_V dX8_writeOne_456 (fun _ σ12 => ?_)
    refine g_goto 525 dX8_writeOne_459 (by decide) ?_
    refine g_iconst (v := 0) dX8_writeOne_525 (by decide) ?_
    exact g_zreturn rfl (by decide +kernel) dX8_writeOne_526
  refine g_case hx (t := 462) (by decide +kernel) ?_ (fun hx => ?_)
  · refine G.sub [1] rfl ?_
    exact gX8_writeOne_p462 _ _
  refine g_case hx (t := 486) (by decide +kernel) ?_ (fun hx => ?_)
  · refine G.sub [1] rfl ?_
    exact gX8_writeOne_p486 _ _
  refine g_case hx (t := 462) (by decide +kernel) ?_ (fun hx => ?_)
  · refine G.sub [1] rfl ?_
    exact gX8_writeOne_p462 _ _
  refine g_case hx (t := 486) (by decide +kernel) ?_ (fun hx => ?_)
  · refine G.sub [1] rfl ?_
    exact gX8_writeOne_p486 _ _
  refine g_dflt (t := 520) (tswT_d (by decide +kernel) (by decide +kernel) hx) ?_
  refine G.sub [1, 0] rfl ?_
  exact gX8_writeOne_p520 _ _ _
theorem V.dX8_write_0 : decode cX8_write 0 = .ok (.iconst 0, 1) := by decide +kernel
theorem V.dX8_write_1 : decode cX8_write 1 = .ok (.istore_n 1, 1) := by decide +kernel
theorem V.dX8_write_2 : decode cX8_write 2 = .ok (.iload_n 1, 1) := by decide +kernel
theorem V.dX8_write_3 : decode cX8_write 3 = .ok (.aload_n 0, 1) := by decide +kernel
theorem V.dX8_write_4 : decode cX8_write 4 = .ok (.getfield 57, 3) := by decide +kernel
theorem V.dX8_write_7 : decode cX8_write 7 = .ok (.getfield 96, 3) := by decide +kernel
theorem V.dX8_write_10 : decode cX8_write 10 = .ok (.invokevirtual 100, 3) := by decide +kernel
theorem V.dX8_write_13 : decode cX8_write 13 = .ok (.if_icmp .ge 102, 3) := by decide +kernel
theorem V.dX8_write_16 : decode cX8_write 16 = .ok (.aload_n 0, 1) := by decide +kernel
theorem V.dX8_write_17 : decode cX8_write 17 = .ok (.getfield 57, 3) := by decide +kernel
theorem V.dX8_write_20 : decode cX8_write 20 = .ok (.getfield 96, 3) := by decide +kernel
theorem V.dX8_write_23 : decode cX8_write 23 = .ok (.iload_n 1, 1) := by decide +kernel
theorem V.dX8_write_24 : decode cX8_write 24 = .ok (.invokevirtual 174, 3) := by decide +kernel
theorem V.dX8_write_27 : decode cX8_write 27 = .ok (.istore_n 2, 1) := by decide +kernel
theorem V.dX8_write_28 : decode cX8_write 28 = .ok (.aload_n 0, 1) := by decide +kernel
theorem V.dX8_write_29 : decode cX8_write 29 = .ok (.getfield 39, 3) := by decide +kernel
theorem V.dX8_write_32 : decode cX8_write 32 = .ok (.aload_n 0, 1) := by decide +kernel
theorem V.dX8_write_33 : decode cX8_write 33 = .ok (.getfield 57, 3) := by decide +kernel
theorem V.dX8_write_36 : decode cX8_write 36 = .ok (.iload_n 2, 1) := by decide +kernel
theorem V.dX8_write_37 : decode cX8_write 37 = .ok (.invokevirtual 165, 3) := by decide +kernel
theorem V.dX8_write_40 : decode cX8_write 40 = .ok (.aload_n 0, 1) := by decide +kernel
theorem V.dX8_write_41 : decode cX8_write 41 = .ok (.getfield 57, 3) := by decide +kernel
theorem V.dX8_write_44 : decode cX8_write 44 = .ok (.iload_n 2, 1) := by decide +kernel
theorem V.dX8_write_45 : decode cX8_write 45 = .ok (.invokevirtual 168, 3) := by decide +kernel
theorem V.dX8_write_48 : decode cX8_write 48 = .ok (.aload_n 0, 1) := by decide +kernel
theorem V.dX8_write_49 : decode cX8_write 49 = .ok (.getfield 57, 3) := by decide +kernel
theorem V.dX8_write_52 : decode cX8_write 52 = .ok (.getfield 171, 3) := by decide +kernel
theorem V.dX8_write_55 : decode cX8_write 55 = .ok (.iconst 5, 1) := by decide +kernel
theorem V.dX8_write_56 : decode cX8_write 56 = .ok (.iload_n 1, 1) := by decide +kernel
theorem V.dX8_write_57 : decode cX8_write 57 = .ok (.imul, 1) := by decide +kernel
theorem V.dX8_write_58 : decode cX8_write 58 = .ok (.iconst 2, 1) := by decide +kernel
theorem V.dX8_write_59 : decode cX8_write 59 = .ok (.iadd, 1) := by decide +kernel
theorem V.dX8_write_60 : decode cX8_write 60 = .ok (.invokevirtual 174, 3) := by decide +kernel
theorem V.dX8_write_63 : decode cX8_write 63 = .ok (.invokevirtual 313, 3) := by decide +kernel
theorem V.dX8_write_66 : decode cX8_write 66 = .ok (.aload_n 0, 1) := by decide +kernel
theorem V.dX8_write_67 : decode cX8_write 67 = .ok (.getfield 35, 3) := by decide +kernel
theorem V.dX8_write_70 : decode cX8_write 70 = .ok (.aload_n 0, 1) := by decide +kernel
theorem V.dX8_write_71 : decode cX8_write 71 = .ok (.getfield 57, 3) := by decide +kernel
theorem V.dX8_write_74 : decode cX8_write 74 = .ok (.getfield 171, 3) := by decide +kernel
theorem V.dX8_write_77 : decode cX8_write 77 = .ok (.iconst 5, 1) := by decide +kernel
theorem V.dX8_write_78 : decode cX8_write 78 = .ok (.iload_n 1, 1) := by decide +kernel
theorem V.dX8_write_79 : decode cX8_write 79 = .ok (.imul, 1) := by decide +kernel
theorem V.dX8_write_80 : decode cX8_write 80 = .ok (.iconst 3, 1) := by decide +kernel
theorem V.dX8_write_81 : decode cX8_write 81 = .ok (.iadd, 1) := by decide +kernel
theorem V.dX8_write_82 : decode cX8_write 82 = .ok (.invokevirtual 174, 3) := by decide +kernel
theorem V.dX8_write_85 : decode cX8_write 85 = .ok (.invokevirtual 112, 3) := by decide +kernel
theorem V.dX8_write_88 : decode cX8_write 88 = .ok (.iconst 0, 1) := by decide +kernel
theorem V.dX8_write_89 : decode cX8_write 89 = .ok (.istore_n 3, 1) := by decide +kernel
theorem V.dX8_write_90 : decode cX8_write 90 = .ok (.iload_n 3, 1) := by decide +kernel
theorem V.dX8_write_91 : decode cX8_write 91 = .ok (.ifCond .ne 18, 3) := by decide +kernel
theorem V.dX8_write_94 : decode cX8_write 94 = .ok (.aload_n 0, 1) := by decide +kernel
theorem V.dX8_write_95 : decode cX8_write 95 = .ok (.getfield 35, 3) := by decide +kernel
theorem V.dX8_write_98 : decode cX8_write 98 = .ok (.invokevirtual 182, 3) := by decide +kernel
theorem V.dX8_write_101 : decode cX8_write 101 = .ok (.aload_n 0, 1) := by decide +kernel
theorem V.dX8_write_102 : decode cX8_write 102 = .ok (.invokevirtual 316, 3) := by decide +kernel
theorem V.dX8_write_105 : decode cX8_write 105 = .ok (.istore_n 3, 1) := by decide +kernel
theorem V.dX8_write_106 : decode cX8_write 106 = .ok (.goto (-16), 3) := by decide +kernel
theorem V.dX8_write_109 : decode cX8_write 109 = .ok (.iinc 1 1, 3) := by decide +kernel
theorem V.dX8_write_112 : decode cX8_write 112 = .ok (.goto (-110), 3) := by decide +kernel
theorem V.dX8_write_115 : decode cX8_write 115 = .ok (.return_, 1) := by decide +kernel
theorem V.mdX8_313 : MD RX8 313 yX6_begin cX6_begin 4 none 3 := ⟨Or.inl q2026, q366, q2029, by decide, by decide, by decide +kernel⟩
theorem V.mdX8_316 : MD RX8 316 yX8_writeOne cX8_writeOne 2 (some .boolean) 0 := ⟨Or.inl q2035, q368, q2038, by decide, by decide, by decide +kernel⟩
/-! ModuleEngine$Loader.write()V -/
def V.Ldr_write_p90 (rec2 : HS → Nat → Int32 → Option (Unit × HS)) : Nat → HS → Nat → Int32 → Int32 → Option (Unit × HS)
  | 0, _, _, _, _ => none
  | n + 1, σ, x0, x1, x3 =>
    if x3 = 0 then (
      ck (tg σ x0 = 9) <|
      ck (tg σ (gR σ x0 6) = 13) <| cl (Wlk_next σ (gR σ x0 6) ) fun _ σ2 =>
      ck (tg σ2 x0 = 9) <| cl (Ldr_writeOne σ2 x0 ) fun r4 σ3 =>
      Ldr_write_p90 rec2 n σ3 x0 x1 r4)
    else (
      bn (x1 + (1 : Int32)) fun y1 =>
      rec2 σ x0 y1)
theorem V.gX8_write_p90 {X : CX} (rec2 : HS → Nat → Int32 → Option (Unit × HS)) (hrec2 : ∀ (σ : HS) (x0 : Nat) (x1 : Int32), G X RX8 "write" cX8_write 4 none 6 130 enV 2 [(0, av x0), (1, iv x1)] [] σ (rec2 σ x0 x1)) : ∀ (n : Nat) (σ : HS) (x0 : Nat) (x1 : Int32) (x3 : Int32), G X RX8 "write" cX8_write 4 none 6 130 enV 90 [(0, av x0), (1, iv x1), (3, iv x3)] [] σ (Ldr_write_p90 rec2 n σ x0 x1 x3)
  | 0, σ, x0, x1, x3 => by rw [Ldr_write_p90]; exact G.nul
  | n + 1, σ, x0, x1, x3 => by
    rw [Ldr_write_p90]
    refine g_iload_n 3 2 dX8_write_90 rfl rfl ?_
    refine g_if_ne 109 dX8_write_91 (by decide) ?_ ?_
    · refine g_iincB (w := 1) 1 dX8_write_109 rfl (by decide) (by decide) (fun _ => rfl) (fun y1 => ?_)
      refine g_goto 2 dX8_write_112 (by decide) ?_
      refine G.sub [1, 0] rfl ?_
      exact hrec2 _ _ _
    · refine g_aload_n 0 0 dX8_write_94 rfl rfl ?_
      refine g_getR fdX8_35 dX8_write_95 ?_
      refine g_callV (fc := fun sς => Wlk_next sς (gR σ x0 6) ) (ci := 12) (as := []) rfl rfl rfl q1609 q1610 mdX8_182 (ctX12_next (gR σ x0 6) ) rfl (Nat.le_of_ble_eq_true rfl) (Nat.le_of_ble_eq_true rfl) (Nat.le_of_ble_eq_true rfl) pu_V dX8_write_98 (fun _ σ2 => ?_)
      refine g_aload_n 0 0 dX8_write_101 rfl rfl ?_
      refine g_callV (fc := fun sς => Ldr_writeOne sς x0 ) (ci := 8) (as := []) rfl rfl rfl q2037 qs118 mdX8_316 (ctX8_writeOne x0 ) rfl (Nat.le_of_ble_eq_true rfl) (Nat.le_of_ble_eq_true rfl) (Nat.le_of_ble_eq_true rfl) pu_I dX8_write_102 (fun r4 σ3 => ?_)
      refine g_istore_n 3 dX8_write_105 rfl (by decide) rfl ?_
      refine g_goto 90 dX8_write_106 (by decide) ?_
      refine G.sub [1, 2, 0] rfl ?_
      exact gX8_write_p90 rec2 hrec2 n _ _ _ _
def V.Ldr_write_p2  : Nat → HS → Nat → Int32 → Option (Unit × HS)
  | 0, _, _, _ => none
  | n + 1, σ, x0, x1 =>
    ck (tg σ x0 = 9) <|
    ck (tg σ (gR σ x0 7) = 3) <|
    ck (tg σ (gR σ (gR σ x0 7) 4) = 4) <| cl (Row_size σ (gR σ (gR σ x0 7) 4) ) fun r2 σ1 =>
    if r2 ≤ x1 then (
      some ((), σ1))
    else (
      ck (tg σ1 x0 = 9) <|
      ck (tg σ1 (gR σ1 x0 7) = 3) <|
      ck (tg σ1 (gR σ1 (gR σ1 x0 7) 4) = 4) <| cl (Row_at σ1 (gR σ1 (gR σ1 x0 7) 4) x1) fun r4 σ3 =>
      ck (tg σ3 x0 = 9) <|
      ck (tg σ3 x0 = 9) <|
      ck (tg σ3 (gR σ3 x0 7) = 3) <| cl (Mod_parameters σ3 (gR σ3 x0 7) r4) fun r6 σ5 =>
      ck (tg σ5 x0 = 9) <|
      ck (tg σ5 (gR σ5 x0 7) = 3) <| cl (Mod_results σ5 (gR σ5 x0 7) r4) fun r8 σ7 =>
      ck (tg σ7 x0 = 9) <|
      ck (tg σ7 (gR σ7 x0 7) = 3) <|
      ck (tg σ7 (gR σ7 (gR σ7 x0 7) 11) = 4) <| cl (Row_at σ7 (gR σ7 (gR σ7 x0 7) 11) (((5 : Int32) * x1) + (2 : Int32))) fun r10 σ9 =>
      ck (tg σ9 (gR σ3 x0 0) = 7) <| cl (Flt_begin σ9 (gR σ3 x0 0) r6 r8 r10) fun _ σ11 =>
      ck (tg σ11 x0 = 9) <|
      ck (tg σ11 x0 = 9) <|
      ck (tg σ11 (gR σ11 x0 7) = 3) <|
      ck (tg σ11 (gR σ11 (gR σ11 x0 7) 11) = 4) <| cl (Row_at σ11 (gR σ11 (gR σ11 x0 7) 11) (((5 : Int32) * x1) + (3 : Int32))) fun r13 σ12 =>
      ck (tg σ12 (gR σ11 x0 6) = 13) <| cl (Wlk_go σ12 (gR σ11 x0 6) r13) fun _ σ14 =>
      Ldr_write_p90 (Ldr_write_p2 n) FU σ14 x0 x1 (0 : Int32))
theorem V.gX8_write_p2 {X : CX}  : ∀ (n : Nat) (σ : HS) (x0 : Nat) (x1 : Int32), G X RX8 "write" cX8_write 4 none 6 130 enV 2 [(0, av x0), (1, iv x1)] [] σ (Ldr_write_p2 n σ x0 x1)
  | 0, σ, x0, x1 => by rw [Ldr_write_p2]; exact G.nul
  | n + 1, σ, x0, x1 => by
    rw [Ldr_write_p2]
    refine g_iload_n 1 1 dX8_write_2 rfl rfl ?_
    refine g_aload_n 0 0 dX8_write_3 rfl rfl ?_
    refine g_getR fdX8_57 dX8_write_4 ?_
    refine g_getR fdX8_96 dX8_write_7 ?_
    refine g_callV (fc := fun sς => Row_size sς (gR σ (gR σ x0 7) 4) ) (ci := 3) (as := []) rfl rfl rfl q1421 q1422 mdX8_100 (ctX3_size (gR σ (gR σ x0 7) 4) ) rfl (Nat.le_of_ble_eq_true rfl) (Nat.le_of_ble_eq_true rfl) (Nat.le_of_ble_eq_true rfl) pu_I dX8_write_10 (fun r2 σ1 => ?_)
    refine g_icmp_ge 115 dX8_write_13 (by decide) ?_ ?_
    · exact g_return rfl dX8_write_115
    · refine g_aload_n 0 0 dX8_write_16 rfl rfl ?_
      refine g_getR fdX8_57 dX8_write_17 ?_
      refine g_getR fdX8_96 dX8_write_20 ?_
      refine g_iload_n 1 1 dX8_write_23 rfl rfl ?_
      refine g_callV (fc := fun sς => Row_at sς (gR σ1 (gR σ1 x0 7) 4) x1) (ci := 3) (as := [iv x1]) rfl rfl rfl q1409 q1410 mdX8_174 (ctX3_at (gR σ1 (gR σ1 x0 7) 4) x1) rfl (Nat.le_of_ble_eq_true rfl) (Nat.le_of_ble_eq_true rfl) (Nat.le_of_ble_eq_true rfl) pu_I dX8_write_24 (fun r4 σ3 => ?_)
      refine g_istore_n 2 dX8_write_27 rfl (by decide) rfl ?_
      refine g_aload_n 0 1 dX8_write_28 rfl rfl ?_
      refine g_getR fdX8_39 dX8_write_29 ?_
      refine g_aload_n 0 1 dX8_write_32 rfl rfl ?_
      refine g_getR fdX8_57 dX8_write_33 ?_
      refine g_iload_n 2 0 dX8_write_36 rfl rfl ?_
      refine g_callV (fc := fun sς => Mod_parameters sς (gR σ3 x0 7) r4) (ci := 2) (as := [iv r4]) rfl rfl rfl q1558 q1559 mdX8_165 (ctX2_parameters (gR σ3 x0 7) r4) rfl (Nat.le_of_ble_eq_true rfl) (Nat.le_of_ble_eq_true rfl) (Nat.le_of_ble_eq_true rfl) pu_I dX8_write_37 (fun r6 σ5 => ?_)
      refine g_aload_n 0 1 dX8_write_40 rfl rfl ?_
      refine g_getR fdX8_57 dX8_write_41 ?_
      refine g_iload_n 2 0 dX8_write_44 rfl rfl ?_
      refine g_callV (fc := fun sς => Mod_results sς (gR σ5 x0 7) r4) (ci := 2) (as := [iv r4]) rfl rfl rfl q1563 q1564 mdX8_168 (ctX2_results (gR σ5 x0 7) r4) rfl (Nat.le_of_ble_eq_true rfl) (Nat.le_of_ble_eq_true rfl) (Nat.le_of_ble_eq_true rfl) pu_I dX8_write_45 (fun r8 σ7 => ?_)
      refine g_aload_n 0 1 dX8_write_48 rfl rfl ?_
      refine g_getR fdX8_57 dX8_write_49 ?_
      refine g_getR fdX8_171 dX8_write_52 ?_
      refine g_iconst (v := 5) dX8_write_55 (by decide) ?_
      refine g_iload_n 1 2 dX8_write_56 rfl rfl ?_
      refine g_imul dX8_write_57 ?_
      refine g_iconst (v := 2) dX8_write_58 (by decide) ?_
      refine g_iadd dX8_write_59 ?_
      refine g_callV (fc := fun sς => Row_at sς (gR σ7 (gR σ7 x0 7) 11) (((5 : Int32) * x1) + (2 : Int32))) (ci := 3) (as := [iv (((5 : Int32) * x1) + (2 : Int32))]) rfl rfl rfl q1409 q1410 mdX8_174 (ctX3_at (gR σ7 (gR σ7 x0 7) 11) (((5 : Int32) * x1) + (2 : Int32))) rfl (Nat.le_of_ble_eq_true rfl) (Nat.le_of_ble_eq_true rfl) (Nat.le_of_ble_eq_true rfl) pu_I dX8_write_60 (fun r10 σ9 => ?_)
      refine g_callV (fc := fun sς => Flt_begin sς (gR σ3 x0 0) r6 r8 r10) (ci := 6) (as := [iv r6, iv r8, iv r10]) rfl rfl rfl q2027 q2028 mdX8_313 (ctX6_begin (gR σ3 x0 0) r6 r8 r10) rfl (Nat.le_of_ble_eq_true rfl) (Nat.le_of_ble_eq_true rfl) (Nat.le_of_ble_eq_true rfl) pu_V dX8_write_63 (fun _ σ11 => ?_)
      refine g_aload_n 0 1 dX8_write_66 rfl rfl ?_
      refine g_getR fdX8_35 dX8_write_67 ?_
      refine g_aload_n 0 1 dX8_write_70 rfl rfl ?_
      refine g_getR fdX8_57 dX8_write_71 ?_
      refine g_getR fdX8_171 dX8_write_74 ?_
      refine g_iconst (v := 5) dX8_write_77 (by decide) ?_
      refine g_iload_n 1 2 dX8_write_78 rfl rfl ?_
      refine g_imul dX8_write_79 ?_
      refine g_iconst (v := 3) dX8_write_80 (by decide) ?_
      refine g_iadd dX8_write_81 ?_
      refine g_callV (fc := fun sς => Row_at sς (gR σ11 (gR σ11 x0 7) 11) (((5 : Int32) * x1) + (3 : Int32))) (ci := 3) (as := [iv (((5 : Int32) * x1) + (3 : Int32))]) rfl rfl rfl q1409 q1410 mdX8_174 (ctX3_at (gR σ11 (gR σ11 x0 7) 11) (((5 : Int32) * x1) + (3 : Int32))) rfl (Nat.le_of_ble_eq_true rfl) (Nat.le_of_ble_eq_true rfl) (Nat.le_of_ble_eq_true rfl) pu_I dX8_write_82 (fun r13 σ12 => ?_)
      refine g_callV (fc := fun sς => Wlk_go sς (gR σ11 x0 6) r13) (ci := 12) (as := [iv r13]) rfl rfl rfl q1572 q1573 mdX8_112 (ctX12_go (gR σ11 x0 6) r13) rfl (Nat.le_of_ble_eq_true rfl) (Nat.le_of_ble_eq_true rfl) (Nat.le_of_ble_eq_true rfl) pu_V dX8_write_85 (fun _ σ14 => ?_)
      refine g_iconst (v := 0) dX8_write_88 (by decide) ?_
      refine g_istore_n 3 dX8_write_89 rfl (by decide) rfl ?_
      refine G.sub [2, 3, 0] rfl ?_
      exact gX8_write_p90 (Ldr_write_p2 n) (gX8_write_p2 n) FU _ _ _ _
def V.Ldr_write (σ : HS) (x0 : Nat) : Option (Unit × HS) :=
  Ldr_write_p2 FU σ x0 (0 : Int32)
theorem V.ctX8_write (x0 : Nat) : Ct yX8_write  cX8_write 4 none 6 130 eV [av x0] (fun σ => Ldr_write σ x0) := by
  refine Ct.of (own := RX8) (nm := "write") (desc := "()V") rfl (by decide) (Nat.le_of_ble_eq_true rfl) (by decide) (fun X σ => ?_)
  show G X RX8 "write" cX8_write 4 none 6 130 enV 0 [(0, av x0)] [] σ (Ldr_write σ x0)
  unfold Ldr_write
  refine g_iconst (v := 0) dX8_write_0 (by decide) ?_
  refine g_istore_n 1 dX8_write_1 rfl (by decide) rfl ?_
  refine G.sub [1, 0] rfl ?_
  exact gX8_write_p2 FU _ _ _
theorem V.dX8_load_0 : decode cX8_load 0 = .ok (.aload_n 0, 1) := by decide +kernel
theorem V.dX8_load_1 : decode cX8_load 1 = .ok (.iconst 0, 1) := by decide +kernel
theorem V.dX8_load_2 : decode cX8_load 2 = .ok (.putfield 43, 3) := by decide +kernel
theorem V.dX8_load_5 : decode cX8_load 5 = .ok (.aload_n 0, 1) := by decide +kernel
theorem V.dX8_load_6 : decode cX8_load 6 = .ok (.iconst (-1), 1) := by decide +kernel
theorem V.dX8_load_7 : decode cX8_load 7 = .ok (.putfield 47, 3) := by decide +kernel
theorem V.dX8_load_10 : decode cX8_load 10 = .ok (.aload_n 0, 1) := by decide +kernel
theorem V.dX8_load_11 : decode cX8_load 11 = .ok (.aload_n 1, 1) := by decide +kernel
theorem V.dX8_load_12 : decode cX8_load 12 = .ok (.putfield 57, 3) := by decide +kernel
theorem V.dX8_load_15 : decode cX8_load 15 = .ok (.aload_n 0, 1) := by decide +kernel
theorem V.dX8_load_16 : decode cX8_load 16 = .ok (.getfield 10, 3) := by decide +kernel
theorem V.dX8_load_19 : decode cX8_load 19 = .ok (.aload_n 1, 1) := by decide +kernel
theorem V.dX8_load_20 : decode cX8_load 20 = .ok (.putfield 61, 3) := by decide +kernel
theorem V.dX8_load_23 : decode cX8_load 23 = .ok (.aload_n 0, 1) := by decide +kernel
theorem V.dX8_load_24 : decode cX8_load 24 = .ok (.getfield 35, 3) := by decide +kernel
theorem V.dX8_load_27 : decode cX8_load 27 = .ok (.aload_n 1, 1) := by decide +kernel
theorem V.dX8_load_28 : decode cX8_load 28 = .ok (.getfield 62, 3) := by decide +kernel
theorem V.dX8_load_31 : decode cX8_load 31 = .ok (.invokevirtual 68, 3) := by decide +kernel
theorem V.dX8_load_34 : decode cX8_load 34 = .ok (.aload_n 0, 1) := by decide +kernel
theorem V.dX8_load_35 : decode cX8_load 35 = .ok (.invokevirtual 72, 3) := by decide +kernel
theorem V.dX8_load_38 : decode cX8_load 38 = .ok (.goto 6, 3) := by decide +kernel
theorem V.dX8_load_41 : decode cX8_load 41 = .ok (.astore_n 2, 1) := by decide +kernel
theorem V.dX8_load_42 : decode cX8_load 42 = .ok (.iconst 0, 1) := by decide +kernel
theorem V.dX8_load_43 : decode cX8_load 43 = .ok (.ireturn, 1) := by decide +kernel
theorem V.dX8_load_44 : decode cX8_load 44 = .ok (.aload_n 0, 1) := by decide +kernel
theorem V.dX8_load_45 : decode cX8_load 45 = .ok (.invokevirtual 75, 3) := by decide +kernel
theorem V.dX8_load_48 : decode cX8_load 48 = .ok (.iconst 1, 1) := by decide +kernel
theorem V.dX8_load_49 : decode cX8_load 49 = .ok (.ireturn, 1) := by decide +kernel
theorem V.fpX8_57 {nm : String} : FP RX8 nm 57 8 7 (.object "ModuleEngine$Module") := ⟨(RX8, TX8, 9), tyX8, rfl, rfl, in_X8, by decide, tyX8_ok, nmX8, rfl, Or.inl ⟨rfl, Or.inl q921⟩⟩
theorem V.fpX8_61 {nm : String} : FP RX8 nm 61 9 0 (.object "ModuleEngine$Module") := ⟨(RX9, TX9, 1), tyX9, rfl, rfl, in_X9, by decide, tyX9_ok, nmX9, rfl, Or.inl ⟨rfl, Or.inr ⟨_, q759⟩⟩⟩
theorem V.mdX8_68 : MD RX8 68 yX12_over cX12_over 2 none 1 := ⟨Or.inl q1536, q372, q1539, by decide, by decide, by decide +kernel⟩
theorem V.mdX8_72 : MD RX8 72 yX8_check cX8_check 2 none 0 := ⟨Or.inl q1540, q368, q1543, by decide, by decide, by decide +kernel⟩
theorem V.mdX8_75 : MD RX8 75 yX8_write cX8_write 4 none 0 := ⟨Or.inl q2022, q368, q2025, by decide, by decide, by decide +kernel⟩
/-! ModuleEngine$Loader.load(LModuleEngine$Module;)Z -/
def V.Ldr_load (σ : HS) (x0 : Nat) (x1 : Nat) : Option (Int32 × HS) :=
  ck (tg σ x0 = 9) <| bn (sI σ x0 1 (0 : Int32)) fun σ1 =>
  ck (tg σ1 x0 = 9) <| bn (sI σ1 x0 2 (-1 : Int32)) fun σ2 =>
  ck (tg σ2 x0 = 9) <| bn (sR σ2 x0 7 x1) fun σ3 =>
  ck (tg σ3 x0 = 9) <|
  ck (tg σ3 (gR σ3 x0 3) = 10) <| bn (sR σ3 (gR σ3 x0 3) 0 x1) fun σ4 =>
  ck (tg σ4 x0 = 9) <|
  ck (tg σ4 x1 = 3) <|
  ck (tg σ4 (gR σ4 x0 6) = 13) <| cl (Wlk_over σ4 (gR σ4 x0 6) (gR σ4 x1 0)) fun _ σ5 =>
  ck (tg σ5 x0 = 9) <| clH (Ldr_check σ5 x0 ) (fun w7 σ8 => ck (tg σ8 w7 = 22) <| (
      some ((0 : Int32), σ8))) fun _ σ6 =>
  ck (tg σ6 x0 = 9) <| cl (Ldr_write σ6 x0 ) fun _ σ9 =>
  some ((1 : Int32), σ9)
theorem V.ctX8_load (x0 : Nat) (x1 : Nat) : CtW yX8_load [(34, 38, 41, 50)] cX8_load 3 (some .boolean) 18 351 eI [av x0, av x1] (fun σ => Ldr_load σ x0 x1) := by
  refine CtW.of (own := RX8) (nm := "load") (desc := "(LModuleEngine$Module;)Z") rfl (by decide) (Nat.le_of_ble_eq_true rfl) (by decide) (fun X σ => ?_)
  show G X RX8 "load" cX8_load 3 (some .boolean) 18 351 enI 0 [(0, av x0), (1, av x1)] [] σ (Ldr_load σ x0 x1)
  unfold Ldr_load
  refine g_aload_n 0 0 dX8_load_0 rfl rfl ?_
  refine g_iconst (v := 0) dX8_load_1 (by decide) ?_
  refine g_putI fpX8_43 dX8_load_2 (fun σ1 => ?_)
  refine g_aload_n 0 0 dX8_load_5 rfl rfl ?_
  refine g_iconst (v := (-1)) dX8_load_6 (by decide) ?_
  refine g_putI fpX8_47 dX8_load_7 (fun σ2 => ?_)
  refine g_aload_n 0 0 dX8_load_10 rfl rfl ?_
  refine g_aload_n 1 1 dX8_load_11 rfl rfl ?_
  refine g_putR fpX8_57 rfl dX8_load_12 (fun σ3 => ?_)
  refine g_aload_n 0 0 dX8_load_15 rfl rfl ?_
  refine g_getR fdX8_10 dX8_load_16 ?_
  refine g_aload_n 1 1 dX8_load_19 rfl rfl ?_
  refine g_putR fpX8_61 rfl dX8_load_20 (fun σ4 => ?_)
  refine g_aload_n 0 0 dX8_load_23 rfl rfl ?_
  refine g_getR fdX8_35 dX8_load_24 ?_
  refine g_aload_n 1 1 dX8_load_27 rfl rfl ?_
  refine g_getR fdX8_62 dX8_load_28 ?_
  refine g_callV (fc := fun sς => Wlk_over sς (gR σ4 x0 6) (gR σ4 x1 0)) (ci := 12) (as := [av (gR σ4 x1 0)]) rfl rfl rfl q1537 q1538 mdX8_68 (ctX12_over (gR σ4 x0 6) (gR σ4 x1 0)) rfl (Nat.le_of_ble_eq_true rfl) (Nat.le_of_ble_eq_true rfl) (Nat.le_of_ble_eq_true rfl) pu_V dX8_load_31 (fun _ σ5 => ?_)
  refine g_aload_n 0 0 dX8_load_34 rfl rfl ?_
  refine g_callVH (fc := fun sς => Ldr_check sς x0 ) (ci := 8) (as := []) 34 38 41 50 21 rfl rfl rfl rfl rfl q1542 qs35 q1540 mdX8_72 (ctX8_check x0 ) rfl (Nat.le_of_ble_eq_true rfl) (Nat.le_of_ble_eq_true rfl) (Nat.le_of_ble_eq_true rfl) pu_V (by decide) (by decide) (by decide) q1535 dX8_load_35 (fun _ σ6 => ?_) (fun w7 σ8 => ?_)
  · refine g_goto 44 dX8_load_38 (by decide) ?_
    refine g_aload_n 0 0 dX8_load_44 rfl rfl ?_
    refine g_callV (fc := fun sς => Ldr_write sς x0 ) (ci := 8) (as := []) rfl rfl rfl q2024 qs116 mdX8_75 (ctX8_write x0 ) rfl (Nat.le_of_ble_eq_true rfl) (Nat.le_of_ble_eq_true rfl) (Nat.le_of_ble_eq_true rfl) pu_V dX8_load_45 (fun _ σ9 => ?_)
    refine g_iconst (v := 1) dX8_load_48 (by decide) ?_
    exact g_zreturn rfl (by decide +kernel) dX8_load_49
  · refine g_astore_n 2 dX8_load_41 rfl (by decide) rfl ?_
    refine g_iconst (v := 0) dX8_load_42 (by decide) ?_
    exact g_zreturn rfl (by decide +kernel) dX8_load_43
theorem V.dX8_fault_0 : decode cX8_fault 0 = .ok (.aload_n 0, 1) := by decide +kernel
theorem V.dX8_fault_1 : decode cX8_fault 1 = .ok (.getfield 43, 3) := by decide +kernel
theorem V.dX8_fault_4 : decode cX8_fault 4 = .ok (.ireturn, 1) := by decide +kernel
theorem V.fdX8_43 : FD RX8 43 8 1 0 := ⟨(RX8, TX8, 9), tyX8, rfl, rfl, in_X8, by decide, Or.inl q915, rfl⟩
/-! ModuleEngine$Loader.fault()I -/
def V.Ldr_fault (σ : HS) (x0 : Nat) : Option (Int32 × HS) :=
  ck (tg σ x0 = 9) <|
  some (gI σ x0 1, σ)
theorem V.ctX8_fault (x0 : Nat) : Ct yX8_fault  cX8_fault 1 (some .int) 0 0 eI [av x0] (fun σ => Ldr_fault σ x0) := by
  refine Ct.of (own := RX8) (nm := "fault") (desc := "()I") rfl (by decide) (Nat.le_of_ble_eq_true rfl) (by decide) (fun X σ => ?_)
  show G X RX8 "fault" cX8_fault 1 (some .int) 0 0 enI 0 [(0, av x0)] [] σ (Ldr_fault σ x0)
  unfold Ldr_fault
  refine g_aload_n 0 0 dX8_fault_0 rfl rfl ?_
  refine g_getI fdX8_43 dX8_fault_1 ?_
  exact g_ireturn rfl dX8_fault_4
theorem V.dX8_place_0 : decode cX8_place 0 = .ok (.aload_n 0, 1) := by decide +kernel
theorem V.dX8_place_1 : decode cX8_place 1 = .ok (.getfield 47, 3) := by decide +kernel
theorem V.dX8_place_4 : decode cX8_place 4 = .ok (.ireturn, 1) := by decide +kernel
theorem V.fdX8_47 : FD RX8 47 8 2 0 := ⟨(RX8, TX8, 9), tyX8, rfl, rfl, in_X8, by decide, Or.inl q916, rfl⟩
/-! ModuleEngine$Loader.place()I -/
def V.Ldr_place (σ : HS) (x0 : Nat) : Option (Int32 × HS) :=
  ck (tg σ x0 = 9) <|
  some (gI σ x0 2, σ)
theorem V.ctX8_place (x0 : Nat) : Ct yX8_place  cX8_place 1 (some .int) 0 0 eI [av x0] (fun σ => Ldr_place σ x0) := by
  refine Ct.of (own := RX8) (nm := "place") (desc := "()I") rfl (by decide) (Nat.le_of_ble_eq_true rfl) (by decide) (fun X σ => ?_)
  show G X RX8 "place" cX8_place 1 (some .int) 0 0 enI 0 [(0, av x0)] [] σ (Ldr_place σ x0)
  unfold Ldr_place
  refine g_aload_n 0 0 dX8_place_0 rfl rfl ?_
  refine g_getI fdX8_47 dX8_place_1 ?_
  exact g_ireturn rfl dX8_place_4
theorem V.dX17_init_0 : decode cX17_init 0 = .ok (.aload_n 0, 1) := by decide +kernel
theorem V.dX17_init_1 : decode cX17_init 1 = .ok (.invokespecial 1, 3) := by decide +kernel
theorem V.dX17_init_4 : decode cX17_init 4 = .ok (.aload_n 0, 1) := by decide +kernel
theorem V.dX17_init_5 : decode cX17_init 5 = .ok (.ldc 9, 2) := by decide +kernel
theorem V.dX17_init_7 : decode cX17_init 7 = .ok (.newarray .byte, 2) := by decide +kernel
theorem V.dX17_init_9 : decode cX17_init 9 = .ok (.putfield 10, 3) := by decide +kernel
theorem V.dX17_init_12 : decode cX17_init 12 = .ok (.aload_n 0, 1) := by decide +kernel
theorem V.dX17_init_13 : decode cX17_init 13 = .ok (.bipush 16, 2) := by decide +kernel
theorem V.dX17_init_15 : decode cX17_init 15 = .ok (.anewarray 14, 3) := by decide +kernel
theorem V.dX17_init_18 : decode cX17_init 18 = .ok (.putfield 16, 3) := by decide +kernel
theorem V.dX17_init_21 : decode cX17_init 21 = .ok (.aload_n 0, 1) := by decide +kernel
theorem V.dX17_init_22 : decode cX17_init 22 = .ok (.new 20, 3) := by decide +kernel
theorem V.dX17_init_25 : decode cX17_init 25 = .ok (.dup, 1) := by decide +kernel
theorem V.dX17_init_26 : decode cX17_init 26 = .ok (.invokespecial 22, 3) := by decide +kernel
theorem V.dX17_init_29 : decode cX17_init 29 = .ok (.putfield 23, 3) := by decide +kernel
theorem V.dX17_init_32 : decode cX17_init 32 = .ok (.aload_n 0, 1) := by decide +kernel
theorem V.dX17_init_33 : decode cX17_init 33 = .ok (.ldc 27, 2) := by decide +kernel
theorem V.dX17_init_35 : decode cX17_init 35 = .ok (.newarray .int, 2) := by decide +kernel
theorem V.dX17_init_37 : decode cX17_init 37 = .ok (.putfield 28, 3) := by decide +kernel
theorem V.dX17_init_40 : decode cX17_init 40 = .ok (.aload_n 0, 1) := by decide +kernel
theorem V.dX17_init_41 : decode cX17_init 41 = .ok (.ldc 27, 2) := by decide +kernel
theorem V.dX17_init_43 : decode cX17_init 43 = .ok (.newarray .int, 2) := by decide +kernel
theorem V.dX17_init_45 : decode cX17_init 45 = .ok (.putfield 32, 3) := by decide +kernel
theorem V.dX17_init_48 : decode cX17_init 48 = .ok (.aload_n 0, 1) := by decide +kernel
theorem V.dX17_init_49 : decode cX17_init 49 = .ok (.sipush 128, 3) := by decide +kernel
theorem V.dX17_init_52 : decode cX17_init 52 = .ok (.newarray .boolean, 2) := by decide +kernel
theorem V.dX17_init_54 : decode cX17_init 54 = .ok (.putfield 35, 3) := by decide +kernel
theorem V.dX17_init_57 : decode cX17_init 57 = .ok (.aload_n 0, 1) := by decide +kernel
theorem V.dX17_init_58 : decode cX17_init 58 = .ok (.sipush 1001, 3) := by decide +kernel
theorem V.dX17_init_61 : decode cX17_init 61 = .ok (.newarray .int, 2) := by decide +kernel
theorem V.dX17_init_63 : decode cX17_init 63 = .ok (.putfield 39, 3) := by decide +kernel
theorem V.dX17_init_66 : decode cX17_init 66 = .ok (.aload_n 0, 1) := by decide +kernel
theorem V.dX17_init_67 : decode cX17_init 67 = .ok (.sipush 200, 3) := by decide +kernel
theorem V.dX17_init_70 : decode cX17_init 70 = .ok (.newarray .int, 2) := by decide +kernel
theorem V.dX17_init_72 : decode cX17_init 72 = .ok (.putfield 42, 3) := by decide +kernel
theorem V.dX17_init_75 : decode cX17_init 75 = .ok (.aload_n 0, 1) := by decide +kernel
theorem V.dX17_init_76 : decode cX17_init 76 = .ok (.sipush 200, 3) := by decide +kernel
theorem V.dX17_init_79 : decode cX17_init 79 = .ok (.newarray .long, 2) := by decide +kernel
theorem V.dX17_init_81 : decode cX17_init 81 = .ok (.putfield 45, 3) := by decide +kernel
theorem V.dX17_init_84 : decode cX17_init 84 = .ok (.aload_n 0, 1) := by decide +kernel
theorem V.dX17_init_85 : decode cX17_init 85 = .ok (.sipush 200, 3) := by decide +kernel
theorem V.dX17_init_88 : decode cX17_init 88 = .ok (.newarray .int, 2) := by decide +kernel
theorem V.dX17_init_90 : decode cX17_init 90 = .ok (.putfield 49, 3) := by decide +kernel
theorem V.dX17_init_93 : decode cX17_init 93 = .ok (.aload_n 0, 1) := by decide +kernel
theorem V.dX17_init_94 : decode cX17_init 94 = .ok (.sipush 200, 3) := by decide +kernel
theorem V.dX17_init_97 : decode cX17_init 97 = .ok (.newarray .boolean, 2) := by decide +kernel
theorem V.dX17_init_99 : decode cX17_init 99 = .ok (.putfield 52, 3) := by decide +kernel
theorem V.dX17_init_102 : decode cX17_init 102 = .ok (.aload_n 0, 1) := by decide +kernel
theorem V.dX17_init_103 : decode cX17_init 103 = .ok (.bipush 16, 2) := by decide +kernel
theorem V.dX17_init_105 : decode cX17_init 105 = .ok (.newarray .int, 2) := by decide +kernel
theorem V.dX17_init_107 : decode cX17_init 107 = .ok (.putfield 55, 3) := by decide +kernel
theorem V.dX17_init_110 : decode cX17_init 110 = .ok (.aload_n 0, 1) := by decide +kernel
theorem V.dX17_init_111 : decode cX17_init 111 = .ok (.new 58, 3) := by decide +kernel
theorem V.dX17_init_114 : decode cX17_init 114 = .ok (.dup, 1) := by decide +kernel
theorem V.dX17_init_115 : decode cX17_init 115 = .ok (.invokespecial 60, 3) := by decide +kernel
theorem V.dX17_init_118 : decode cX17_init 118 = .ok (.putfield 61, 3) := by decide +kernel
theorem V.dX17_init_121 : decode cX17_init 121 = .ok (.aload_n 0, 1) := by decide +kernel
theorem V.dX17_init_122 : decode cX17_init 122 = .ok (.new 58, 3) := by decide +kernel
theorem V.dX17_init_125 : decode cX17_init 125 = .ok (.dup, 1) := by decide +kernel
theorem V.dX17_init_126 : decode cX17_init 126 = .ok (.invokespecial 60, 3) := by decide +kernel
theorem V.dX17_init_129 : decode cX17_init 129 = .ok (.putfield 65, 3) := by decide +kernel
theorem V.dX17_init_132 : decode cX17_init 132 = .ok (.aload_n 0, 1) := by decide +kernel
theorem V.dX17_init_133 : decode cX17_init 133 = .ok (.sipush 512, 3) := by decide +kernel
theorem V.dX17_init_136 : decode cX17_init 136 = .ok (.newarray .int, 2) := by decide +kernel
theorem V.dX17_init_138 : decode cX17_init 138 = .ok (.putfield 68, 3) := by decide +kernel
theorem V.dX17_init_141 : decode cX17_init 141 = .ok (.aload_n 0, 1) := by decide +kernel
theorem V.dX17_init_142 : decode cX17_init 142 = .ok (.sipush 512, 3) := by decide +kernel
theorem V.dX17_init_145 : decode cX17_init 145 = .ok (.newarray .int, 2) := by decide +kernel
theorem V.dX17_init_147 : decode cX17_init 147 = .ok (.putfield 71, 3) := by decide +kernel
theorem V.dX17_init_150 : decode cX17_init 150 = .ok (.aload_n 0, 1) := by decide +kernel
theorem V.dX17_init_151 : decode cX17_init 151 = .ok (.sipush 512, 3) := by decide +kernel
theorem V.dX17_init_154 : decode cX17_init 154 = .ok (.newarray .int, 2) := by decide +kernel
theorem V.dX17_init_156 : decode cX17_init 156 = .ok (.putfield 74, 3) := by decide +kernel
theorem V.dX17_init_159 : decode cX17_init 159 = .ok (.aload_n 0, 1) := by decide +kernel
theorem V.dX17_init_160 : decode cX17_init 160 = .ok (.sipush 512, 3) := by decide +kernel
theorem V.dX17_init_163 : decode cX17_init 163 = .ok (.newarray .int, 2) := by decide +kernel
theorem V.dX17_init_165 : decode cX17_init 165 = .ok (.putfield 77, 3) := by decide +kernel
theorem V.dX17_init_168 : decode cX17_init 168 = .ok (.aload_n 0, 1) := by decide +kernel
theorem V.dX17_init_169 : decode cX17_init 169 = .ok (.sipush 512, 3) := by decide +kernel
theorem V.dX17_init_172 : decode cX17_init 172 = .ok (.newarray .int, 2) := by decide +kernel
theorem V.dX17_init_174 : decode cX17_init 174 = .ok (.putfield 80, 3) := by decide +kernel
theorem V.dX17_init_177 : decode cX17_init 177 = .ok (.aload_n 0, 1) := by decide +kernel
theorem V.dX17_init_178 : decode cX17_init 178 = .ok (.sipush 512, 3) := by decide +kernel
theorem V.dX17_init_181 : decode cX17_init 181 = .ok (.newarray .int, 2) := by decide +kernel
theorem V.dX17_init_183 : decode cX17_init 183 = .ok (.putfield 83, 3) := by decide +kernel
theorem V.dX17_init_186 : decode cX17_init 186 = .ok (.aload_n 0, 1) := by decide +kernel
theorem V.dX17_init_187 : decode cX17_init 187 = .ok (.sipush 512, 3) := by decide +kernel
theorem V.dX17_init_190 : decode cX17_init 190 = .ok (.newarray .boolean, 2) := by decide +kernel
theorem V.dX17_init_192 : decode cX17_init 192 = .ok (.putfield 86, 3) := by decide +kernel
theorem V.dX17_init_195 : decode cX17_init 195 = .ok (.aload_n 0, 1) := by decide +kernel
theorem V.dX17_init_196 : decode cX17_init 196 = .ok (.sipush 1024, 3) := by decide +kernel
theorem V.dX17_init_199 : decode cX17_init 199 = .ok (.putfield 89, 3) := by decide +kernel
theorem V.dX17_init_202 : decode cX17_init 202 = .ok (.aload_n 0, 1) := by decide +kernel
theorem V.dX17_init_203 : decode cX17_init 203 = .ok (.bipush 32, 2) := by decide +kernel
theorem V.dX17_init_205 : decode cX17_init 205 = .ok (.newarray .int, 2) := by decide +kernel
theorem V.dX17_init_207 : decode cX17_init 207 = .ok (.putfield 93, 3) := by decide +kernel
theorem V.dX17_init_210 : decode cX17_init 210 = .ok (.aload_n 0, 1) := by decide +kernel
theorem V.dX17_init_211 : decode cX17_init 211 = .ok (.bipush 32, 2) := by decide +kernel
theorem V.dX17_init_213 : decode cX17_init 213 = .ok (.newarray .int, 2) := by decide +kernel
theorem V.dX17_init_215 : decode cX17_init 215 = .ok (.putfield 96, 3) := by decide +kernel
theorem V.dX17_init_218 : decode cX17_init 218 = .ok (.aload_n 0, 1) := by decide +kernel
theorem V.dX17_init_219 : decode cX17_init 219 = .ok (.bipush 32, 2) := by decide +kernel
theorem V.dX17_init_221 : decode cX17_init 221 = .ok (.newarray .long, 2) := by decide +kernel
theorem V.dX17_init_223 : decode cX17_init 223 = .ok (.putfield 99, 3) := by decide +kernel
theorem V.dX17_init_226 : decode cX17_init 226 = .ok (.aload_n 0, 1) := by decide +kernel
theorem V.dX17_init_227 : decode cX17_init 227 = .ok (.ldc 102, 2) := by decide +kernel
theorem V.dX17_init_229 : decode cX17_init 229 = .ok (.newarray .int, 2) := by decide +kernel
theorem V.dX17_init_231 : decode cX17_init 231 = .ok (.putfield 103, 3) := by decide +kernel
theorem V.dX17_init_234 : decode cX17_init 234 = .ok (.aload_n 0, 1) := by decide +kernel
theorem V.dX17_init_235 : decode cX17_init 235 = .ok (.bipush 8, 2) := by decide +kernel
theorem V.dX17_init_237 : decode cX17_init 237 = .ok (.putfield 106, 3) := by decide +kernel
theorem V.dX17_init_240 : decode cX17_init 240 = .ok (.aload_n 0, 1) := by decide +kernel
theorem V.dX17_init_241 : decode cX17_init 241 = .ok (.bipush 16, 2) := by decide +kernel
theorem V.dX17_init_243 : decode cX17_init 243 = .ok (.newarray .int, 2) := by decide +kernel
theorem V.dX17_init_245 : decode cX17_init 245 = .ok (.putfield 109, 3) := by decide +kernel
theorem V.dX17_init_248 : decode cX17_init 248 = .ok (.aload_n 0, 1) := by decide +kernel
theorem V.dX17_init_249 : decode cX17_init 249 = .ok (.bipush 16, 2) := by decide +kernel
theorem V.dX17_init_251 : decode cX17_init 251 = .ok (.newarray .long, 2) := by decide +kernel
theorem V.dX17_init_253 : decode cX17_init 253 = .ok (.putfield 112, 3) := by decide +kernel
theorem V.dX17_init_256 : decode cX17_init 256 = .ok (.aload_n 0, 1) := by decide +kernel
theorem V.dX17_init_257 : decode cX17_init 257 = .ok (.sipush 128, 3) := by decide +kernel
theorem V.dX17_init_260 : decode cX17_init 260 = .ok (.newarray .int, 2) := by decide +kernel
theorem V.dX17_init_262 : decode cX17_init 262 = .ok (.putfield 115, 3) := by decide +kernel
theorem V.dX17_init_265 : decode cX17_init 265 = .ok (.aload_n 0, 1) := by decide +kernel
theorem V.dX17_init_266 : decode cX17_init 266 = .ok (.ldc 118, 2) := by decide +kernel
theorem V.dX17_init_268 : decode cX17_init 268 = .ok (.newarray .byte, 2) := by decide +kernel
theorem V.dX17_init_270 : decode cX17_init 270 = .ok (.putfield 119, 3) := by decide +kernel
theorem V.dX17_init_273 : decode cX17_init 273 = .ok (.aload_n 0, 1) := by decide +kernel
theorem V.dX17_init_274 : decode cX17_init 274 = .ok (.sipush 256, 3) := by decide +kernel
theorem V.dX17_init_277 : decode cX17_init 277 = .ok (.newarray .int, 2) := by decide +kernel
theorem V.dX17_init_279 : decode cX17_init 279 = .ok (.putfield 122, 3) := by decide +kernel
theorem V.dX17_init_282 : decode cX17_init 282 = .ok (.aload_n 0, 1) := by decide +kernel
theorem V.dX17_init_283 : decode cX17_init 283 = .ok (.sipush 256, 3) := by decide +kernel
theorem V.dX17_init_286 : decode cX17_init 286 = .ok (.newarray .boolean, 2) := by decide +kernel
theorem V.dX17_init_288 : decode cX17_init 288 = .ok (.putfield 125, 3) := by decide +kernel
theorem V.dX17_init_291 : decode cX17_init 291 = .ok (.aload_n 0, 1) := by decide +kernel
theorem V.dX17_init_292 : decode cX17_init 292 = .ok (.sipush 256, 3) := by decide +kernel
theorem V.dX17_init_295 : decode cX17_init 295 = .ok (.newarray .long, 2) := by decide +kernel
theorem V.dX17_init_297 : decode cX17_init 297 = .ok (.putfield 128, 3) := by decide +kernel
theorem V.dX17_init_300 : decode cX17_init 300 = .ok (.aload_n 0, 1) := by decide +kernel
theorem V.dX17_init_301 : decode cX17_init 301 = .ok (.bipush 16, 2) := by decide +kernel
theorem V.dX17_init_303 : decode cX17_init 303 = .ok (.newarray .int, 2) := by decide +kernel
theorem V.dX17_init_305 : decode cX17_init 305 = .ok (.putfield 131, 3) := by decide +kernel
theorem V.dX17_init_308 : decode cX17_init 308 = .ok (.aload_n 0, 1) := by decide +kernel
theorem V.dX17_init_309 : decode cX17_init 309 = .ok (.sipush 2048, 3) := by decide +kernel
theorem V.dX17_init_312 : decode cX17_init 312 = .ok (.newarray .int, 2) := by decide +kernel
theorem V.dX17_init_314 : decode cX17_init 314 = .ok (.putfield 134, 3) := by decide +kernel
theorem V.dX17_init_317 : decode cX17_init 317 = .ok (.aload_n 0, 1) := by decide +kernel
theorem V.dX17_init_318 : decode cX17_init 318 = .ok (.sipush 2048, 3) := by decide +kernel
theorem V.dX17_init_321 : decode cX17_init 321 = .ok (.newarray .int, 2) := by decide +kernel
theorem V.dX17_init_323 : decode cX17_init 323 = .ok (.putfield 137, 3) := by decide +kernel
theorem V.dX17_init_326 : decode cX17_init 326 = .ok (.aload_n 0, 1) := by decide +kernel
theorem V.dX17_init_327 : decode cX17_init 327 = .ok (.sipush 2048, 3) := by decide +kernel
theorem V.dX17_init_330 : decode cX17_init 330 = .ok (.newarray .int, 2) := by decide +kernel
theorem V.dX17_init_332 : decode cX17_init 332 = .ok (.putfield 140, 3) := by decide +kernel
theorem V.dX17_init_335 : decode cX17_init 335 = .ok (.aload_n 0, 1) := by decide +kernel
theorem V.dX17_init_336 : decode cX17_init 336 = .ok (.sipush 2048, 3) := by decide +kernel
theorem V.dX17_init_339 : decode cX17_init 339 = .ok (.newarray .int, 2) := by decide +kernel
theorem V.dX17_init_341 : decode cX17_init 341 = .ok (.putfield 143, 3) := by decide +kernel
theorem V.dX17_init_344 : decode cX17_init 344 = .ok (.aload_n 0, 1) := by decide +kernel
theorem V.dX17_init_345 : decode cX17_init 345 = .ok (.sipush 1024, 3) := by decide +kernel
theorem V.dX17_init_348 : decode cX17_init 348 = .ok (.newarray .int, 2) := by decide +kernel
theorem V.dX17_init_350 : decode cX17_init 350 = .ok (.putfield 146, 3) := by decide +kernel
theorem V.dX17_init_353 : decode cX17_init 353 = .ok (.aload_n 0, 1) := by decide +kernel
theorem V.dX17_init_354 : decode cX17_init 354 = .ok (.sipush 1024, 3) := by decide +kernel
theorem V.dX17_init_357 : decode cX17_init 357 = .ok (.newarray .int, 2) := by decide +kernel
theorem V.dX17_init_359 : decode cX17_init 359 = .ok (.putfield 149, 3) := by decide +kernel
theorem V.dX17_init_362 : decode cX17_init 362 = .ok (.aload_n 0, 1) := by decide +kernel
theorem V.dX17_init_363 : decode cX17_init 363 = .ok (.sipush 1024, 3) := by decide +kernel
theorem V.dX17_init_366 : decode cX17_init 366 = .ok (.newarray .boolean, 2) := by decide +kernel
theorem V.dX17_init_368 : decode cX17_init 368 = .ok (.putfield 152, 3) := by decide +kernel
theorem V.dX17_init_371 : decode cX17_init 371 = .ok (.aload_n 0, 1) := by decide +kernel
theorem V.dX17_init_372 : decode cX17_init 372 = .ok (.sipush 2048, 3) := by decide +kernel
theorem V.dX17_init_375 : decode cX17_init 375 = .ok (.newarray .int, 2) := by decide +kernel
theorem V.dX17_init_377 : decode cX17_init 377 = .ok (.putfield 155, 3) := by decide +kernel
theorem V.dX17_init_380 : decode cX17_init 380 = .ok (.aload_n 0, 1) := by decide +kernel
theorem V.dX17_init_381 : decode cX17_init 381 = .ok (.bipush 64, 2) := by decide +kernel
theorem V.dX17_init_383 : decode cX17_init 383 = .ok (.newarray .int, 2) := by decide +kernel
theorem V.dX17_init_385 : decode cX17_init 385 = .ok (.putfield 158, 3) := by decide +kernel
theorem V.dX17_init_388 : decode cX17_init 388 = .ok (.aload_n 0, 1) := by decide +kernel
theorem V.dX17_init_389 : decode cX17_init 389 = .ok (.bipush 64, 2) := by decide +kernel
theorem V.dX17_init_391 : decode cX17_init 391 = .ok (.newarray .int, 2) := by decide +kernel
theorem V.dX17_init_393 : decode cX17_init 393 = .ok (.putfield 161, 3) := by decide +kernel
theorem V.dX17_init_396 : decode cX17_init 396 = .ok (.aload_n 0, 1) := by decide +kernel
theorem V.dX17_init_397 : decode cX17_init 397 = .ok (.iconst (-1), 1) := by decide +kernel
theorem V.dX17_init_398 : decode cX17_init 398 = .ok (.putfield 164, 3) := by decide +kernel
theorem V.dX17_init_401 : decode cX17_init 401 = .ok (.aload_n 0, 1) := by decide +kernel
theorem V.dX17_init_402 : decode cX17_init 402 = .ok (.bipush 16, 2) := by decide +kernel
theorem V.dX17_init_404 : decode cX17_init 404 = .ok (.newarray .long, 2) := by decide +kernel
theorem V.dX17_init_406 : decode cX17_init 406 = .ok (.putfield 167, 3) := by decide +kernel
theorem V.dX17_init_409 : decode cX17_init 409 = .ok (.aload_n 0, 1) := by decide +kernel
theorem V.dX17_init_410 : decode cX17_init 410 = .ok (.bipush 16, 2) := by decide +kernel
theorem V.dX17_init_412 : decode cX17_init 412 = .ok (.newarray .long, 2) := by decide +kernel
theorem V.dX17_init_414 : decode cX17_init 414 = .ok (.putfield 170, 3) := by decide +kernel
theorem V.dX17_init_417 : decode cX17_init 417 = .ok (.aload_n 0, 1) := by decide +kernel
theorem V.dX17_init_418 : decode cX17_init 418 = .ok (.sipush 200, 3) := by decide +kernel
theorem V.dX17_init_421 : decode cX17_init 421 = .ok (.newarray .int, 2) := by decide +kernel
theorem V.dX17_init_423 : decode cX17_init 423 = .ok (.putfield 173, 3) := by decide +kernel
theorem V.dX17_init_426 : decode cX17_init 426 = .ok (.aload_n 0, 1) := by decide +kernel
theorem V.dX17_init_427 : decode cX17_init 427 = .ok (.sipush 200, 3) := by decide +kernel
theorem V.dX17_init_430 : decode cX17_init 430 = .ok (.newarray .int, 2) := by decide +kernel
theorem V.dX17_init_432 : decode cX17_init 432 = .ok (.putfield 176, 3) := by decide +kernel
theorem V.dX17_init_435 : decode cX17_init 435 = .ok (.aload_n 0, 1) := by decide +kernel
theorem V.dX17_init_436 : decode cX17_init 436 = .ok (.sipush 200, 3) := by decide +kernel
theorem V.dX17_init_439 : decode cX17_init 439 = .ok (.newarray .int, 2) := by decide +kernel
theorem V.dX17_init_441 : decode cX17_init 441 = .ok (.putfield 179, 3) := by decide +kernel
theorem V.dX17_init_444 : decode cX17_init 444 = .ok (.aload_n 0, 1) := by decide +kernel
theorem V.dX17_init_445 : decode cX17_init 445 = .ok (.sipush 200, 3) := by decide +kernel
theorem V.dX17_init_448 : decode cX17_init 448 = .ok (.newarray .int, 2) := by decide +kernel
theorem V.dX17_init_450 : decode cX17_init 450 = .ok (.putfield 182, 3) := by decide +kernel
theorem V.dX17_init_453 : decode cX17_init 453 = .ok (.aload_n 0, 1) := by decide +kernel
theorem V.dX17_init_454 : decode cX17_init 454 = .ok (.sipush 200, 3) := by decide +kernel
theorem V.dX17_init_457 : decode cX17_init 457 = .ok (.newarray .int, 2) := by decide +kernel
theorem V.dX17_init_459 : decode cX17_init 459 = .ok (.putfield 185, 3) := by decide +kernel
theorem V.dX17_init_462 : decode cX17_init 462 = .ok (.aload_n 0, 1) := by decide +kernel
theorem V.dX17_init_463 : decode cX17_init 463 = .ok (.sipush 200, 3) := by decide +kernel
theorem V.dX17_init_466 : decode cX17_init 466 = .ok (.newarray .int, 2) := by decide +kernel
theorem V.dX17_init_468 : decode cX17_init 468 = .ok (.putfield 188, 3) := by decide +kernel
theorem V.dX17_init_471 : decode cX17_init 471 = .ok (.aload_n 0, 1) := by decide +kernel
theorem V.dX17_init_472 : decode cX17_init 472 = .ok (.sipush 4096, 3) := by decide +kernel
theorem V.dX17_init_475 : decode cX17_init 475 = .ok (.newarray .long, 2) := by decide +kernel
theorem V.dX17_init_477 : decode cX17_init 477 = .ok (.putfield 191, 3) := by decide +kernel
theorem V.dX17_init_480 : decode cX17_init 480 = .ok (.aload_n 0, 1) := by decide +kernel
theorem V.dX17_init_481 : decode cX17_init 481 = .ok (.ldc 194, 2) := by decide +kernel
theorem V.dX17_init_483 : decode cX17_init 483 = .ok (.newarray .int, 2) := by decide +kernel
theorem V.dX17_init_485 : decode cX17_init 485 = .ok (.putfield 195, 3) := by decide +kernel
theorem V.dX17_init_488 : decode cX17_init 488 = .ok (.aload_n 0, 1) := by decide +kernel
theorem V.dX17_init_489 : decode cX17_init 489 = .ok (.ldc 194, 2) := by decide +kernel
theorem V.dX17_init_491 : decode cX17_init 491 = .ok (.newarray .int, 2) := by decide +kernel
theorem V.dX17_init_493 : decode cX17_init 493 = .ok (.putfield 198, 3) := by decide +kernel
theorem V.dX17_init_496 : decode cX17_init 496 = .ok (.aload_n 0, 1) := by decide +kernel
theorem V.dX17_init_497 : decode cX17_init 497 = .ok (.ldc 194, 2) := by decide +kernel
theorem V.dX17_init_499 : decode cX17_init 499 = .ok (.newarray .int, 2) := by decide +kernel
theorem V.dX17_init_501 : decode cX17_init 501 = .ok (.putfield 201, 3) := by decide +kernel
theorem V.dX17_init_504 : decode cX17_init 504 = .ok (.aload_n 0, 1) := by decide +kernel
theorem V.dX17_init_505 : decode cX17_init 505 = .ok (.ldc 194, 2) := by decide +kernel
theorem V.dX17_init_507 : decode cX17_init 507 = .ok (.newarray .boolean, 2) := by decide +kernel
theorem V.dX17_init_509 : decode cX17_init 509 = .ok (.putfield 204, 3) := by decide +kernel
theorem V.dX17_init_512 : decode cX17_init 512 = .ok (.iconst 0, 1) := by decide +kernel
theorem V.dX17_init_513 : decode cX17_init 513 = .ok (.istore_n 1, 1) := by decide +kernel
theorem V.dX17_init_514 : decode cX17_init 514 = .ok (.iload_n 1, 1) := by decide +kernel
theorem V.dX17_init_515 : decode cX17_init 515 = .ok (.sipush 512, 3) := by decide +kernel
theorem V.dX17_init_518 : decode cX17_init 518 = .ok (.if_icmp .ge 16, 3) := by decide +kernel
theorem V.dX17_init_521 : decode cX17_init 521 = .ok (.aload_n 0, 1) := by decide +kernel
theorem V.dX17_init_522 : decode cX17_init 522 = .ok (.getfield 80, 3) := by decide +kernel
theorem V.dX17_init_525 : decode cX17_init 525 = .ok (.iload_n 1, 1) := by decide +kernel
theorem V.dX17_init_526 : decode cX17_init 526 = .ok (.iconst (-1), 1) := by decide +kernel
theorem V.dX17_init_527 : decode cX17_init 527 = .ok (.iastore, 1) := by decide +kernel
theorem V.dX17_init_528 : decode cX17_init 528 = .ok (.iinc 1 1, 3) := by decide +kernel
theorem V.dX17_init_531 : decode cX17_init 531 = .ok (.goto (-17), 3) := by decide +kernel
theorem V.dX17_init_534 : decode cX17_init 534 = .ok (.return_, 1) := by decide +kernel
theorem V.fpX17_10 : FP RX17 "<init>" 10 17 0 (.array .byte) := ⟨(RX17, TX17, 101), tyX17, rfl, rfl, in_X17, by decide, tyX17_ok, nmX17, rfl, Or.inr ⟨rfl, rfl, rfl, q3036⟩⟩
theorem V.fpX17_16 : FP RX17 "<init>" 16 17 4 (.array (.object "ModuleEngineModel$Plan")) := ⟨(RX17, TX17, 101), tyX17, rfl, rfl, in_X17, by decide, tyX17_ok, nmX17, rfl, Or.inr ⟨rfl, rfl, rfl, q3040⟩⟩
theorem V.fpX17_23 : FP RX17 "<init>" 23 17 9 (.object "ModuleEngineModel$Fault") := ⟨(RX17, TX17, 101), tyX17, rfl, rfl, in_X17, by decide, tyX17_ok, nmX17, rfl, Or.inr ⟨rfl, rfl, rfl, q3045⟩⟩
theorem V.fpX17_28 : FP RX17 "<init>" 28 17 14 (.array .int) := ⟨(RX17, TX17, 101), tyX17, rfl, rfl, in_X17, by decide, tyX17_ok, nmX17, rfl, Or.inr ⟨rfl, rfl, rfl, q3050⟩⟩
theorem V.fpX17_32 : FP RX17 "<init>" 32 17 15 (.array .int) := ⟨(RX17, TX17, 101), tyX17, rfl, rfl, in_X17, by decide, tyX17_ok, nmX17, rfl, Or.inr ⟨rfl, rfl, rfl, q3051⟩⟩
theorem V.fpX17_35 : FP RX17 "<init>" 35 17 20 (.array .boolean) := ⟨(RX17, TX17, 101), tyX17, rfl, rfl, in_X17, by decide, tyX17_ok, nmX17, rfl, Or.inr ⟨rfl, rfl, rfl, q3056⟩⟩
theorem V.fpX17_39 : FP RX17 "<init>" 39 17 22 (.array .int) := ⟨(RX17, TX17, 101), tyX17, rfl, rfl, in_X17, by decide, tyX17_ok, nmX17, rfl, Or.inr ⟨rfl, rfl, rfl, q3058⟩⟩
theorem V.fpX17_42 : FP RX17 "<init>" 42 17 25 (.array .int) := ⟨(RX17, TX17, 101), tyX17, rfl, rfl, in_X17, by decide, tyX17_ok, nmX17, rfl, Or.inr ⟨rfl, rfl, rfl, q3061⟩⟩
theorem V.fpX17_45 : FP RX17 "<init>" 45 17 26 (.array .long) := ⟨(RX17, TX17, 101), tyX17, rfl, rfl, in_X17, by decide, tyX17_ok, nmX17, rfl, Or.inr ⟨rfl, rfl, rfl, q3062⟩⟩
theorem V.fpX17_49 : FP RX17 "<init>" 49 17 27 (.array .int) := ⟨(RX17, TX17, 101), tyX17, rfl, rfl, in_X17, by decide, tyX17_ok, nmX17, rfl, Or.inr ⟨rfl, rfl, rfl, q3063⟩⟩
theorem V.fpX17_52 : FP RX17 "<init>" 52 17 28 (.array .boolean) := ⟨(RX17, TX17, 101), tyX17, rfl, rfl, in_X17, by decide, tyX17_ok, nmX17, rfl, Or.inr ⟨rfl, rfl, rfl, q3064⟩⟩
theorem V.fpX17_55 : FP RX17 "<init>" 55 17 32 (.array .int) := ⟨(RX17, TX17, 101), tyX17, rfl, rfl, in_X17, by decide, tyX17_ok, nmX17, rfl, Or.inr ⟨rfl, rfl, rfl, q3068⟩⟩
theorem V.ndX17_58 : ND RX17 58 19 4 := ⟨(RX19, TX19, 4), tyX19, rfl, rfl, in_X19, tyX19_ok, by decide, q3010, q3011, q382⟩
theorem V.mdX17_60 : MD RX17 60 yX19_init cX19_init 1 none 0 := ⟨Or.inr ⟨_, q3012⟩, q382, q3014, by decide, by decide, by decide +kernel⟩
theorem V.fpX17_61 : FP RX17 "<init>" 61 17 34 (.object "ModuleEngineModel$Real") := ⟨(RX17, TX17, 101), tyX17, rfl, rfl, in_X17, by decide, tyX17_ok, nmX17, rfl, Or.inr ⟨rfl, rfl, rfl, q3070⟩⟩
theorem V.fpX17_65 : FP RX17 "<init>" 65 17 35 (.object "ModuleEngineModel$Real") := ⟨(RX17, TX17, 101), tyX17, rfl, rfl, in_X17, by decide, tyX17_ok, nmX17, rfl, Or.inr ⟨rfl, rfl, rfl, q3071⟩⟩
theorem V.fpX17_68 : FP RX17 "<init>" 68 17 37 (.array .int) := ⟨(RX17, TX17, 101), tyX17, rfl, rfl, in_X17, by decide, tyX17_ok, nmX17, rfl, Or.inr ⟨rfl, rfl, rfl, q3073⟩⟩
theorem V.fpX17_71 : FP RX17 "<init>" 71 17 38 (.array .int) := ⟨(RX17, TX17, 101), tyX17, rfl, rfl, in_X17, by decide, tyX17_ok, nmX17, rfl, Or.inr ⟨rfl, rfl, rfl, q3074⟩⟩
theorem V.fpX17_74 : FP RX17 "<init>" 74 17 39 (.array .int) := ⟨(RX17, TX17, 101), tyX17, rfl, rfl, in_X17, by decide, tyX17_ok, nmX17, rfl, Or.inr ⟨rfl, rfl, rfl, q3075⟩⟩
theorem V.fpX17_77 : FP RX17 "<init>" 77 17 40 (.array .int) := ⟨(RX17, TX17, 101), tyX17, rfl, rfl, in_X17, by decide, tyX17_ok, nmX17, rfl, Or.inr ⟨rfl, rfl, rfl, q3076⟩⟩
theorem V.fpX17_80 : FP RX17 "<init>" 80 17 41 (.array .int) := ⟨(RX17, TX17, 101), tyX17, rfl, rfl, in_X17, by decide, tyX17_ok, nmX17, rfl, Or.inr ⟨rfl, rfl, rfl, q3077⟩⟩
theorem V.fpX17_83 : FP RX17 "<init>" 83 17 42 (.array .int) := ⟨(RX17, TX17, 101), tyX17, rfl, rfl, in_X17, by decide, tyX17_ok, nmX17, rfl, Or.inr ⟨rfl, rfl, rfl, q3078⟩⟩
theorem V.fpX17_86 : FP RX17 "<init>" 86 17 43 (.array .boolean) := ⟨(RX17, TX17, 101), tyX17, rfl, rfl, in_X17, by decide, tyX17_ok, nmX17, rfl, Or.inr ⟨rfl, rfl, rfl, q3079⟩⟩
theorem V.fpX17_89 {nm : String} : FP RX17 nm 89 17 47 (.int) := ⟨(RX17, TX17, 101), tyX17, rfl, rfl, in_X17, by decide, tyX17_ok, nmX17, rfl, Or.inl ⟨rfl, Or.inl q3083⟩⟩
theorem V.fpX17_93 : FP RX17 "<init>" 93 17 48 (.array .int) := ⟨(RX17, TX17, 101), tyX17, rfl, rfl, in_X17, by decide, tyX17_ok, nmX17, rfl, Or.inr ⟨rfl, rfl, rfl, q3084⟩⟩
theorem V.fpX17_96 : FP RX17 "<init>" 96 17 49 (.array .int) := ⟨(RX17, TX17, 101), tyX17, rfl, rfl, in_X17, by decide, tyX17_ok, nmX17, rfl, Or.inr ⟨rfl, rfl, rfl, q3085⟩⟩
theorem V.fpX17_99 : FP RX17 "<init>" 99 17 50 (.array .long) := ⟨(RX17, TX17, 101), tyX17, rfl, rfl, in_X17, by decide, tyX17_ok, nmX17, rfl, Or.inr ⟨rfl, rfl, rfl, q3086⟩⟩
theorem V.fpX17_103 : FP RX17 "<init>" 103 17 51 (.array .int) := ⟨(RX17, TX17, 101), tyX17, rfl, rfl, in_X17, by decide, tyX17_ok, nmX17, rfl, Or.inr ⟨rfl, rfl, rfl, q3087⟩⟩
theorem V.fpX17_106 {nm : String} : FP RX17 nm 106 17 53 (.int) := ⟨(RX17, TX17, 101), tyX17, rfl, rfl, in_X17, by decide, tyX17_ok, nmX17, rfl, Or.inl ⟨rfl, Or.inl q3089⟩⟩
theorem V.fpX17_109 : FP RX17 "<init>" 109 17 54 (.array .int) := ⟨(RX17, TX17, 101), tyX17, rfl, rfl, in_X17, by decide, tyX17_ok, nmX17, rfl, Or.inr ⟨rfl, rfl, rfl, q3090⟩⟩
theorem V.fpX17_112 : FP RX17 "<init>" 112 17 55 (.array .long) := ⟨(RX17, TX17, 101), tyX17, rfl, rfl, in_X17, by decide, tyX17_ok, nmX17, rfl, Or.inr ⟨rfl, rfl, rfl, q3091⟩⟩
theorem V.fpX17_115 : FP RX17 "<init>" 115 17 56 (.array .int) := ⟨(RX17, TX17, 101), tyX17, rfl, rfl, in_X17, by decide, tyX17_ok, nmX17, rfl, Or.inr ⟨rfl, rfl, rfl, q3092⟩⟩
theorem V.fpX17_119 : FP RX17 "<init>" 119 17 57 (.array .byte) := ⟨(RX17, TX17, 101), tyX17, rfl, rfl, in_X17, by decide, tyX17_ok, nmX17, rfl, Or.inr ⟨rfl, rfl, rfl, q3093⟩⟩
theorem V.fpX17_122 : FP RX17 "<init>" 122 17 59 (.array .int) := ⟨(RX17, TX17, 101), tyX17, rfl, rfl, in_X17, by decide, tyX17_ok, nmX17, rfl, Or.inr ⟨rfl, rfl, rfl, q3095⟩⟩
theorem V.fpX17_125 : FP RX17 "<init>" 125 17 60 (.array .boolean) := ⟨(RX17, TX17, 101), tyX17, rfl, rfl, in_X17, by decide, tyX17_ok, nmX17, rfl, Or.inr ⟨rfl, rfl, rfl, q3096⟩⟩
theorem V.fpX17_128 : FP RX17 "<init>" 128 17 61 (.array .long) := ⟨(RX17, TX17, 101), tyX17, rfl, rfl, in_X17, by decide, tyX17_ok, nmX17, rfl, Or.inr ⟨rfl, rfl, rfl, q3097⟩⟩
theorem V.fpX17_131 : FP RX17 "<init>" 131 17 63 (.array .int) := ⟨(RX17, TX17, 101), tyX17, rfl, rfl, in_X17, by decide, tyX17_ok, nmX17, rfl, Or.inr ⟨rfl, rfl, rfl, q3099⟩⟩
theorem V.fpX17_134 : FP RX17 "<init>" 134 17 64 (.array .int) := ⟨(RX17, TX17, 101), tyX17, rfl, rfl, in_X17, by decide, tyX17_ok, nmX17, rfl, Or.inr ⟨rfl, rfl, rfl, q3100⟩⟩
theorem V.fpX17_137 : FP RX17 "<init>" 137 17 65 (.array .int) := ⟨(RX17, TX17, 101), tyX17, rfl, rfl, in_X17, by decide, tyX17_ok, nmX17, rfl, Or.inr ⟨rfl, rfl, rfl, q3101⟩⟩
theorem V.fpX17_140 : FP RX17 "<init>" 140 17 66 (.array .int) := ⟨(RX17, TX17, 101), tyX17, rfl, rfl, in_X17, by decide, tyX17_ok, nmX17, rfl, Or.inr ⟨rfl, rfl, rfl, q3102⟩⟩
theorem V.fpX17_143 : FP RX17 "<init>" 143 17 67 (.array .int) := ⟨(RX17, TX17, 101), tyX17, rfl, rfl, in_X17, by decide, tyX17_ok, nmX17, rfl, Or.inr ⟨rfl, rfl, rfl, q3103⟩⟩
theorem V.fpX17_146 : FP RX17 "<init>" 146 17 68 (.array .int) := ⟨(RX17, TX17, 101), tyX17, rfl, rfl, in_X17, by decide, tyX17_ok, nmX17, rfl, Or.inr ⟨rfl, rfl, rfl, q3104⟩⟩
theorem V.fpX17_149 : FP RX17 "<init>" 149 17 69 (.array .int) := ⟨(RX17, TX17, 101), tyX17, rfl, rfl, in_X17, by decide, tyX17_ok, nmX17, rfl, Or.inr ⟨rfl, rfl, rfl, q3105⟩⟩
theorem V.fpX17_152 : FP RX17 "<init>" 152 17 70 (.array .boolean) := ⟨(RX17, TX17, 101), tyX17, rfl, rfl, in_X17, by decide, tyX17_ok, nmX17, rfl, Or.inr ⟨rfl, rfl, rfl, q3106⟩⟩
theorem V.fpX17_155 : FP RX17 "<init>" 155 17 72 (.array .int) := ⟨(RX17, TX17, 101), tyX17, rfl, rfl, in_X17, by decide, tyX17_ok, nmX17, rfl, Or.inr ⟨rfl, rfl, rfl, q3108⟩⟩
theorem V.fpX17_158 : FP RX17 "<init>" 158 17 74 (.array .int) := ⟨(RX17, TX17, 101), tyX17, rfl, rfl, in_X17, by decide, tyX17_ok, nmX17, rfl, Or.inr ⟨rfl, rfl, rfl, q3110⟩⟩
theorem V.fpX17_161 : FP RX17 "<init>" 161 17 75 (.array .int) := ⟨(RX17, TX17, 101), tyX17, rfl, rfl, in_X17, by decide, tyX17_ok, nmX17, rfl, Or.inr ⟨rfl, rfl, rfl, q3111⟩⟩
theorem V.fpX17_164 {nm : String} : FP RX17 nm 164 17 79 (.int) := ⟨(RX17, TX17, 101), tyX17, rfl, rfl, in_X17, by decide, tyX17_ok, nmX17, rfl, Or.inl ⟨rfl, Or.inl q3115⟩⟩
theorem V.fpX17_167 : FP RX17 "<init>" 167 17 82 (.array .long) := ⟨(RX17, TX17, 101), tyX17, rfl, rfl, in_X17, by decide, tyX17_ok, nmX17, rfl, Or.inr ⟨rfl, rfl, rfl, q3118⟩⟩
theorem V.fpX17_170 : FP RX17 "<init>" 170 17 84 (.array .long) := ⟨(RX17, TX17, 101), tyX17, rfl, rfl, in_X17, by decide, tyX17_ok, nmX17, rfl, Or.inr ⟨rfl, rfl, rfl, q3120⟩⟩
theorem V.fpX17_173 : FP RX17 "<init>" 173 17 86 (.array .int) := ⟨(RX17, TX17, 101), tyX17, rfl, rfl, in_X17, by decide, tyX17_ok, nmX17, rfl, Or.inr ⟨rfl, rfl, rfl, q3122⟩⟩
theorem V.fpX17_176 : FP RX17 "<init>" 176 17 87 (.array .int) := ⟨(RX17, TX17, 101), tyX17, rfl, rfl, in_X17, by decide, tyX17_ok, nmX17, rfl, Or.inr ⟨rfl, rfl, rfl, q3123⟩⟩
theorem V.fpX17_179 : FP RX17 "<init>" 179 17 88 (.array .int) := ⟨(RX17, TX17, 101), tyX17, rfl, rfl, in_X17, by decide, tyX17_ok, nmX17, rfl, Or.inr ⟨rfl, rfl, rfl, q3124⟩⟩
theorem V.fpX17_182 : FP RX17 "<init>" 182 17 89 (.array .int) := ⟨(RX17, TX17, 101), tyX17, rfl, rfl, in_X17, by decide, tyX17_ok, nmX17, rfl, Or.inr ⟨rfl, rfl, rfl, q3125⟩⟩
theorem V.fpX17_185 : FP RX17 "<init>" 185 17 90 (.array .int) := ⟨(RX17, TX17, 101), tyX17, rfl, rfl, in_X17, by decide, tyX17_ok, nmX17, rfl, Or.inr ⟨rfl, rfl, rfl, q3126⟩⟩
theorem V.fpX17_188 : FP RX17 "<init>" 188 17 91 (.array .int) := ⟨(RX17, TX17, 101), tyX17, rfl, rfl, in_X17, by decide, tyX17_ok, nmX17, rfl, Or.inr ⟨rfl, rfl, rfl, q3127⟩⟩
theorem V.fpX17_191 : FP RX17 "<init>" 191 17 92 (.array .long) := ⟨(RX17, TX17, 101), tyX17, rfl, rfl, in_X17, by decide, tyX17_ok, nmX17, rfl, Or.inr ⟨rfl, rfl, rfl, q3128⟩⟩
theorem V.fpX17_195 : FP RX17 "<init>" 195 17 97 (.array .int) := ⟨(RX17, TX17, 101), tyX17, rfl, rfl, in_X17, by decide, tyX17_ok, nmX17, rfl, Or.inr ⟨rfl, rfl, rfl, q3133⟩⟩
theorem V.fpX17_198 : FP RX17 "<init>" 198 17 98 (.array .int) := ⟨(RX17, TX17, 101), tyX17, rfl, rfl, in_X17, by decide, tyX17_ok, nmX17, rfl, Or.inr ⟨rfl, rfl, rfl, q3134⟩⟩
theorem V.fpX17_201 : FP RX17 "<init>" 201 17 99 (.array .int) := ⟨(RX17, TX17, 101), tyX17, rfl, rfl, in_X17, by decide, tyX17_ok, nmX17, rfl, Or.inr ⟨rfl, rfl, rfl, q3135⟩⟩
theorem V.fpX17_204 : FP RX17 "<init>" 204 17 100 (.array .boolean) := ⟨(RX17, TX17, 101), tyX17, rfl, rfl, in_X17, by decide, tyX17_ok, nmX17, rfl, Or.inr ⟨rfl, rfl, rfl, q3136⟩⟩
theorem V.fdX17_80 : FD RX17 80 17 41 2 := ⟨(RX17, TX17, 101), tyX17, rfl, rfl, in_X17, by decide, Or.inl q3077, rfl⟩
/-! ModuleEngineModel.<init>()V -/
def V.Mdl_init_p514  : Nat → HS → Nat → Int32 → Option (Unit × HS)
  | 0, _, _, _ => none
  | n + 1, σ, x0, x1 =>
    if (512 : Int32) ≤ x1 then (
      some ((), σ))
    else (
      ck (tg σ x0 = 18) <|
      ck (tg σ (gR σ x0 41) = 100 ∧ inb x1 (ln σ (gR σ x0 41))) <| bn (sI σ (gR σ x0 41) (ix x1) (-1 : Int32)) fun σ1 =>
      bn (x1 + (1 : Int32)) fun y2 =>
      Mdl_init_p514 n σ1 x0 y2)
theorem V.gX17_init_p514 {X : CX}  : ∀ (n : Nat) (σ : HS) (x0 : Nat) (x1 : Int32), G X RX17 "<init>" cX17_init 2 none 6 85 enV 514 [(0, av x0), (1, iv x1)] [] σ (Mdl_init_p514 n σ x0 x1)
  | 0, σ, x0, x1 => by rw [Mdl_init_p514]; exact G.nul
  | n + 1, σ, x0, x1 => by
    rw [Mdl_init_p514]
    refine g_iload_n 1 1 dX17_init_514 rfl rfl ?_
    refine g_sipush (v := 512) dX17_init_515 (by decide) ?_
    refine g_icmp_ge 534 dX17_init_518 (by decide) ?_ ?_
    · exact g_return rfl dX17_init_534
    · refine g_aload_n 0 0 dX17_init_521 rfl rfl ?_
      refine g_getR fdX17_80 dX17_init_522 ?_
      refine g_iload_n 1 1 dX17_init_525 rfl rfl ?_
      refine g_iconst (v := (-1)) dX17_init_526 (by decide) ?_
      refine g_iastore dX17_init_527 (fun σ1 => ?_)
      refine g_iincB (w := 1) 1 dX17_init_528 rfl (by decide) (by decide) (fun _ => rfl) (fun y2 => ?_)
      refine g_goto 514 dX17_init_531 (by decide) ?_
      refine G.sub [1, 0] rfl ?_
      exact gX17_init_p514 n _ _ _
def V.Mdl_init (σ : HS) (x0 : Nat) : Option (Unit × HS) :=
  ck (¬ x0 = 0) <|
  ck (lenok (40980 : Int32)) <| newa σ 102 (40980 : Int32) fun a1 σ2 =>
  ck (tg σ2 x0 = 18) <| bn (sR σ2 x0 0 a1) fun σ3 =>
  ck (lenok (16 : Int32)) <| newa σ3 107 (16 : Int32) fun a4 σ5 =>
  ck (tg σ5 x0 = 18) <| bn (sR σ5 x0 4 a4) fun σ6 =>
  newo σ6 19 6 fun a7 σ8 =>
  ck (tg σ8 x0 = 18) <| bn (sR σ8 x0 9 a7) fun σ9 =>
  ck (lenok (40962 : Int32)) <| newa σ9 100 (40962 : Int32) fun a10 σ11 =>
  ck (tg σ11 x0 = 18) <| bn (sR σ11 x0 14 a10) fun σ12 =>
  ck (lenok (40962 : Int32)) <| newa σ12 100 (40962 : Int32) fun a13 σ14 =>
  ck (tg σ14 x0 = 18) <| bn (sR σ14 x0 15 a13) fun σ15 =>
  ck (lenok (128 : Int32)) <| newa σ15 103 (128 : Int32) fun a16 σ17 =>
  ck (tg σ17 x0 = 18) <| bn (sR σ17 x0 20 a16) fun σ18 =>
  ck (lenok (1001 : Int32)) <| newa σ18 100 (1001 : Int32) fun a19 σ20 =>
  ck (tg σ20 x0 = 18) <| bn (sR σ20 x0 22 a19) fun σ21 =>
  ck (lenok (200 : Int32)) <| newa σ21 100 (200 : Int32) fun a22 σ23 =>
  ck (tg σ23 x0 = 18) <| bn (sR σ23 x0 25 a22) fun σ24 =>
  ck (lenok (200 : Int32)) <| newa σ24 101 (200 : Int32) fun a25 σ26 =>
  ck (tg σ26 x0 = 18) <| bn (sR σ26 x0 26 a25) fun σ27 =>
  ck (lenok (200 : Int32)) <| newa σ27 100 (200 : Int32) fun a28 σ29 =>
  ck (tg σ29 x0 = 18) <| bn (sR σ29 x0 27 a28) fun σ30 =>
  ck (lenok (200 : Int32)) <| newa σ30 103 (200 : Int32) fun a31 σ32 =>
  ck (tg σ32 x0 = 18) <| bn (sR σ32 x0 28 a31) fun σ33 =>
  ck (lenok (16 : Int32)) <| newa σ33 100 (16 : Int32) fun a34 σ35 =>
  ck (tg σ35 x0 = 18) <| bn (sR σ35 x0 32 a34) fun σ36 =>
  newo σ36 20 4 fun a37 σ38 =>
  ck (¬ a37 = 0) <| cl (Rea_init σ38 a37 ) fun _ σ39 =>
  ck (tg σ39 x0 = 18) <| bn (sR σ39 x0 34 a37) fun σ40 =>
  newo σ40 20 4 fun a41 σ42 =>
  ck (¬ a41 = 0) <| cl (Rea_init σ42 a41 ) fun _ σ43 =>
  ck (tg σ43 x0 = 18) <| bn (sR σ43 x0 35 a41) fun σ44 =>
  ck (lenok (512 : Int32)) <| newa σ44 100 (512 : Int32) fun a45 σ46 =>
  ck (tg σ46 x0 = 18) <| bn (sR σ46 x0 37 a45) fun σ47 =>
  ck (lenok (512 : Int32)) <| newa σ47 100 (512 : Int32) fun a48 σ49 =>
  ck (tg σ49 x0 = 18) <| bn (sR σ49 x0 38 a48) fun σ50 =>
  ck (lenok (512 : Int32)) <| newa σ50 100 (512 : Int32) fun a51 σ52 =>
  ck (tg σ52 x0 = 18) <| bn (sR σ52 x0 39 a51) fun σ53 =>
  ck (lenok (512 : Int32)) <| newa σ53 100 (512 : Int32) fun a54 σ55 =>
  ck (tg σ55 x0 = 18) <| bn (sR σ55 x0 40 a54) fun σ56 =>
  ck (lenok (512 : Int32)) <| newa σ56 100 (512 : Int32) fun a57 σ58 =>
  ck (tg σ58 x0 = 18) <| bn (sR σ58 x0 41 a57) fun σ59 =>
  ck (lenok (512 : Int32)) <| newa σ59 100 (512 : Int32) fun a60 σ61 =>
  ck (tg σ61 x0 = 18) <| bn (sR σ61 x0 42 a60) fun σ62 =>
  ck (lenok (512 : Int32)) <| newa σ62 103 (512 : Int32) fun a63 σ64 =>
  ck (tg σ64 x0 = 18) <| bn (sR σ64 x0 43 a63) fun σ65 =>
  ck (tg σ65 x0 = 18) <| bn (sI σ65 x0 47 (1024 : Int32)) fun σ66 =>
  ck (lenok (32 : Int32)) <| newa σ66 100 (32 : Int32) fun a67 σ68 =>
  ck (tg σ68 x0 = 18) <| bn (sR σ68 x0 48 a67) fun σ69 =>
  ck (lenok (32 : Int32)) <| newa σ69 100 (32 : Int32) fun a70 σ71 =>
  ck (tg σ71 x0 = 18) <| bn (sR σ71 x0 49 a70) fun σ72 =>
  ck (lenok (32 : Int32)) <| newa σ72 101 (32 : Int32) fun a73 σ74 =>
  ck (tg σ74 x0 = 18) <| bn (sR σ74 x0 50 a73) fun σ75 =>
  ck (lenok (32768 : Int32)) <| newa σ75 100 (32768 : Int32) fun a76 σ77 =>
  ck (tg σ77 x0 = 18) <| bn (sR σ77 x0 51 a76) fun σ78 =>
  ck (tg σ78 x0 = 18) <| bn (sI σ78 x0 53 (8 : Int32)) fun σ79 =>
  ck (lenok (16 : Int32)) <| newa σ79 100 (16 : Int32) fun a80 σ81 =>
  ck (tg σ81 x0 = 18) <| bn (sR σ81 x0 54 a80) fun σ82 =>
  ck (lenok (16 : Int32)) <| newa σ82 101 (16 : Int32) fun a83 σ84 =>
  ck (tg σ84 x0 = 18) <| bn (sR σ84 x0 55 a83) fun σ85 =>
  ck (lenok (128 : Int32)) <| newa σ85 100 (128 : Int32) fun a86 σ87 =>
  ck (tg σ87 x0 = 18) <| bn (sR σ87 x0 56 a86) fun σ88 =>
  ck (lenok (524288 : Int32)) <| newa σ88 102 (524288 : Int32) fun a89 σ90 =>
  ck (tg σ90 x0 = 18) <| bn (sR σ90 x0 57 a89) fun σ91 =>
  ck (lenok (256 : Int32)) <| newa σ91 100 (256 : Int32) fun a92 σ93 =>
  ck (tg σ93 x0 = 18) <| bn (sR σ93 x0 59 a92) fun σ94 =>
  ck (lenok (256 : Int32)) <| newa σ94 103 (256 : Int32) fun a95 σ96 =>
  ck (tg σ96 x0 = 18) <| bn (sR σ96 x0 60 a95) fun σ97 =>
  ck (lenok (256 : Int32)) <| newa σ97 101 (256 : Int32) fun a98 σ99 =>
  ck (tg σ99 x0 = 18) <| bn (sR σ99 x0 61 a98) fun σ100 =>
  ck (lenok (16 : Int32)) <| newa σ100 100 (16 : Int32) fun a101 σ102 =>
  ck (tg σ102 x0 = 18) <| bn (sR σ102 x0 63 a101) fun σ103 =>
  ck (lenok (2048 : Int32)) <| newa σ103 100 (2048 : Int32) fun a104 σ105 =>
  ck (tg σ105 x0 = 18) <| bn (sR σ105 x0 64 a104) fun σ106 =>
  ck (lenok (2048 : Int32)) <| newa σ106 100 (2048 : Int32) fun a107 σ108 =>
  ck (tg σ108 x0 = 18) <| bn (sR σ108 x0 65 a107) fun σ109 =>
  ck (lenok (2048 : Int32)) <| newa σ109 100 (2048 : Int32) fun a110 σ111 =>
  ck (tg σ111 x0 = 18) <| bn (sR σ111 x0 66 a110) fun σ112 =>
  ck (lenok (2048 : Int32)) <| newa σ112 100 (2048 : Int32) fun a113 σ114 =>
  ck (tg σ114 x0 = 18) <| bn (sR σ114 x0 67 a113) fun σ115 =>
  ck (lenok (1024 : Int32)) <| newa σ115 100 (1024 : Int32) fun a116 σ117 =>
  ck (tg σ117 x0 = 18) <| bn (sR σ117 x0 68 a116) fun σ118 =>
  ck (lenok (1024 : Int32)) <| newa σ118 100 (1024 : Int32) fun a119 σ120 =>
  ck (tg σ120 x0 = 18) <| bn (sR σ120 x0 69 a119) fun σ121 =>
  ck (lenok (1024 : Int32)) <| newa σ121 103 (1024 : Int32) fun a122 σ123 =>
  ck (tg σ123 x0 = 18) <| bn (sR σ123 x0 70 a122) fun σ124 =>
  ck (lenok (2048 : Int32)) <| newa σ124 100 (2048 : Int32) fun a125 σ126 =>
  ck (tg σ126 x0 = 18) <| bn (sR σ126 x0 72 a125) fun σ127 =>
  ck (lenok (64 : Int32)) <| newa σ127 100 (64 : Int32) fun a128 σ129 =>
  ck (tg σ129 x0 = 18) <| bn (sR σ129 x0 74 a128) fun σ130 =>
  ck (lenok (64 : Int32)) <| newa σ130 100 (64 : Int32) fun a131 σ132 =>
  ck (tg σ132 x0 = 18) <| bn (sR σ132 x0 75 a131) fun σ133 =>
  ck (tg σ133 x0 = 18) <| bn (sI σ133 x0 79 (-1 : Int32)) fun σ134 =>
  ck (lenok (16 : Int32)) <| newa σ134 101 (16 : Int32) fun a135 σ136 =>
  ck (tg σ136 x0 = 18) <| bn (sR σ136 x0 82 a135) fun σ137 =>
  ck (lenok (16 : Int32)) <| newa σ137 101 (16 : Int32) fun a138 σ139 =>
  ck (tg σ139 x0 = 18) <| bn (sR σ139 x0 84 a138) fun σ140 =>
  ck (lenok (200 : Int32)) <| newa σ140 100 (200 : Int32) fun a141 σ142 =>
  ck (tg σ142 x0 = 18) <| bn (sR σ142 x0 86 a141) fun σ143 =>
  ck (lenok (200 : Int32)) <| newa σ143 100 (200 : Int32) fun a144 σ145 =>
  ck (tg σ145 x0 = 18) <| bn (sR σ145 x0 87 a144) fun σ146 =>
  ck (lenok (200 : Int32)) <| newa σ146 100 (200 : Int32) fun a147 σ148 =>
  ck (tg σ148 x0 = 18) <| bn (sR σ148 x0 88 a147) fun σ149 =>
  ck (lenok (200 : Int32)) <| newa σ149 100 (200 : Int32) fun a150 σ151 =>
  ck (tg σ151 x0 = 18) <| bn (sR σ151 x0 89 a150) fun σ152 =>
  ck (lenok (200 : Int32)) <| newa σ152 100 (200 : Int32) fun a153 σ154 =>
  ck (tg σ154 x0 = 18) <| bn (sR σ154 x0 90 a153) fun σ155 =>
  ck (lenok (200 : Int32)) <| newa σ155 100 (200 : Int32) fun a156 σ157 =>
  ck (tg σ157 x0 = 18) <| bn (sR σ157 x0 91 a156) fun σ158 =>
  ck (lenok (4096 : Int32)) <| newa σ158 101 (4096 : Int32) fun a159 σ160 =>
  ck (tg σ160 x0 = 18) <| bn (sR σ160 x0 92 a159) fun σ161 =>
  ck (lenok (40000 : Int32)) <| newa σ161 100 (40000 : Int32) fun a162 σ163 =>
  ck (tg σ163 x0 = 18) <| bn (sR σ163 x0 97 a162) fun σ164 =>
  ck (lenok (40000 : Int32)) <| newa σ164 100 (40000 : Int32) fun a165 σ166 =>
  ck (tg σ166 x0 = 18) <| bn (sR σ166 x0 98 a165) fun σ167 =>
  ck (lenok (40000 : Int32)) <| newa σ167 100 (40000 : Int32) fun a168 σ169 =>
  ck (tg σ169 x0 = 18) <| bn (sR σ169 x0 99 a168) fun σ170 =>
  ck (lenok (40000 : Int32)) <| newa σ170 103 (40000 : Int32) fun a171 σ172 =>
  ck (tg σ172 x0 = 18) <| bn (sR σ172 x0 100 a171) fun σ173 =>
  Mdl_init_p514 FU σ173 x0 (0 : Int32)
theorem V.ctX17_init (x0 : Nat) : Ct yX17_init  cX17_init 2 none 6 85 eV [av x0] (fun σ => Mdl_init σ x0) := by
  refine Ct.of (own := RX17) (nm := "<init>") (desc := "()V") rfl (by decide) (Nat.le_of_ble_eq_true rfl) (by decide) (fun X σ => ?_)
  show G X RX17 "<init>" cX17_init 2 none 6 85 enV 0 [(0, av x0)] [] σ (Mdl_init σ x0)
  unfold Mdl_init
  refine g_aload_n 0 0 dX17_init_0 rfl rfl ?_
  refine g_objInit q2990 (Nat.le_of_ble_eq_true rfl) (Nat.le_of_ble_eq_true rfl) dX17_init_1 ?_
  refine g_aload_n 0 0 dX17_init_4 rfl rfl ?_
  refine g_ldc q2991 dX17_init_5 ?_
  refine g_na_byte dX17_init_7 (fun a1 σ2 => ?_)
  refine g_putR fpX17_10 rfl dX17_init_9 (fun σ3 => ?_)
  refine g_aload_n 0 0 dX17_init_12 rfl rfl ?_
  refine g_bipush (v := 16) dX17_init_13 (by decide) ?_
  refine g_anewarray 7 rfl q2992 (by decide) dX17_init_15 (fun a4 σ5 => ?_)
  refine g_putR fpX17_16 rfl dX17_init_18 (fun σ6 => ?_)
  refine g_aload_n 0 0 dX17_init_21 rfl rfl ?_
  refine g_newexc (ci := 18) rfl rfl (fun C => exA_Fault C) (by decide) q2994 q2995 q381 (Or.inr ⟨_, q3003⟩) (Nat.le_of_ble_eq_true rfl) (Nat.le_of_ble_eq_true rfl) dX17_init_22 dX17_init_25 dX17_init_26 (fun a7 σ8 => ?_)
  refine g_putR fpX17_23 rfl dX17_init_29 (fun σ9 => ?_)
  refine g_aload_n 0 0 dX17_init_32 rfl rfl ?_
  refine g_ldc q3009 dX17_init_33 ?_
  refine g_na_int dX17_init_35 (fun a10 σ11 => ?_)
  refine g_putR fpX17_28 rfl dX17_init_37 (fun σ12 => ?_)
  refine g_aload_n 0 0 dX17_init_40 rfl rfl ?_
  refine g_ldc q3009 dX17_init_41 ?_
  refine g_na_int dX17_init_43 (fun a13 σ14 => ?_)
  refine g_putR fpX17_32 rfl dX17_init_45 (fun σ15 => ?_)
  refine g_aload_n 0 0 dX17_init_48 rfl rfl ?_
  refine g_sipush (v := 128) dX17_init_49 (by decide) ?_
  refine g_na_bool dX17_init_52 (fun a16 σ17 => ?_)
  refine g_putR fpX17_35 rfl dX17_init_54 (fun σ18 => ?_)
  refine g_aload_n 0 0 dX17_init_57 rfl rfl ?_
  refine g_sipush (v := 1001) dX17_init_58 (by decide) ?_
  refine g_na_int dX17_init_61 (fun a19 σ20 => ?_)
  refine g_putR fpX17_39 rfl dX17_init_63 (fun σ21 => ?_)
  refine g_aload_n 0 0 dX17_init_66 rfl rfl ?_
  refine g_sipush (v := 200) dX17_init_67 (by decide) ?_
  refine g_na_int dX17_init_70 (fun a22 σ23 => ?_)
  refine g_putR fpX17_42 rfl dX17_init_72 (fun σ24 => ?_)
  refine g_aload_n 0 0 dX17_init_75 rfl rfl ?_
  refine g_sipush (v := 200) dX17_init_76 (by decide) ?_
  refine g_na_long dX17_init_79 (fun a25 σ26 => ?_)
  refine g_putR fpX17_45 rfl dX17_init_81 (fun σ27 => ?_)
  refine g_aload_n 0 0 dX17_init_84 rfl rfl ?_
  refine g_sipush (v := 200) dX17_init_85 (by decide) ?_
  refine g_na_int dX17_init_88 (fun a28 σ29 => ?_)
  refine g_putR fpX17_49 rfl dX17_init_90 (fun σ30 => ?_)
  refine g_aload_n 0 0 dX17_init_93 rfl rfl ?_
  refine g_sipush (v := 200) dX17_init_94 (by decide) ?_
  refine g_na_bool dX17_init_97 (fun a31 σ32 => ?_)
  refine g_putR fpX17_52 rfl dX17_init_99 (fun σ33 => ?_)
  refine g_aload_n 0 0 dX17_init_102 rfl rfl ?_
  refine g_bipush (v := 16) dX17_init_103 (by decide) ?_
  refine g_na_int dX17_init_105 (fun a34 σ35 => ?_)
  refine g_putR fpX17_55 rfl dX17_init_107 (fun σ36 => ?_)
  refine g_aload_n 0 0 dX17_init_110 rfl rfl ?_
  refine g_newo ndX17_58 dX17_init_111 (fun a37 σ38 => ?_)
  refine g_dup dX17_init_114 rfl ?_
  refine g_callI (fc := fun sς => Rea_init sς a37 ) (as := []) rfl q3013 mdX17_60 (ctX19_init a37 ) rfl (Nat.le_of_ble_eq_true rfl) (Nat.le_of_ble_eq_true rfl) (Nat.le_of_ble_eq_true rfl) pu_V dX17_init_115 (fun _ σ39 => ?_)
  refine g_putR fpX17_61 rfl dX17_init_118 (fun σ40 => ?_)
  refine g_aload_n 0 0 dX17_init_121 rfl rfl ?_
  refine g_newo ndX17_58 dX17_init_122 (fun a41 σ42 => ?_)
  refine g_dup dX17_init_125 rfl ?_
  refine g_callI (fc := fun sς => Rea_init sς a41 ) (as := []) rfl q3013 mdX17_60 (ctX19_init a41 ) rfl (Nat.le_of_ble_eq_true rfl) (Nat.le_of_ble_eq_true rfl) (Nat.le_of_ble_eq_true rfl) pu_V dX17_init_126 (fun _ σ43 => ?_)
  refine g_putR fpX17_65 rfl dX17_init_129 (fun σ44 => ?_)
  refine g_aload_n 0 0 dX17_init_132 rfl rfl ?_
  refine g_sipush (v := 512) dX17_init_133 (by decide) ?_
  refine g_na_int dX17_init_136 (fun a45 σ46 => ?_)
  refine g_putR fpX17_68 rfl dX17_init_138 (fun σ47 => ?_)
  refine g_aload_n 0 0 dX17_init_141 rfl rfl ?_
  refine g_sipush (v := 512) dX17_init_142 (by decide) ?_
  refine g_na_int dX17_init_145 (fun a48 σ49 => ?_)
  refine g_putR fpX17_71 rfl dX17_init_147 (fun σ50 => ?_)
  refine g_aload_n 0 0 dX17_init_150 rfl rfl ?_
  refine g_sipush (v := 512) dX17_init_151 (by decide) ?_
  refine g_na_int dX17_init_154 (fun a51 σ52 => ?_)
  refine g_putR fpX17_74 rfl dX17_init_156 (fun σ53 => ?_)
  refine g_aload_n 0 0 dX17_init_159 rfl rfl ?_
  refine g_sipush (v := 512) dX17_init_160 (by decide) ?_
  refine g_na_int dX17_init_163 (fun a54 σ55 => ?_)
  refine g_putR fpX17_77 rfl dX17_init_165 (fun σ56 => ?_)
  refine g_aload_n 0 0 dX17_init_168 rfl rfl ?_
  refine g_sipush (v := 512) dX17_init_169 (by decide) ?_
  refine g_na_int dX17_init_172 (fun a57 σ58 => ?_)
  refine g_putR fpX17_80 rfl dX17_init_174 (fun σ59 => ?_)
  refine g_aload_n 0 0 dX17_init_177 rfl rfl ?_
  refine g_sipush (v := 512) dX17_init_178 (by decide) ?_
  refine g_na_int dX17_init_181 (fun a60 σ61 => ?_)
  refine g_putR fpX17_83 rfl dX17_init_183 (fun σ62 => ?_)
  refine g_aload_n 0 0 dX17_init_186 rfl rfl ?_
  refine g_sipush (v := 512) dX17_init_187 (by decide) ?_
  refine g_na_bool dX17_init_190 (fun a63 σ64 => ?_)
  refine g_putR fpX17_86 rfl dX17_init_192 (fun σ65 => ?_)
  refine g_aload_n 0 0 dX17_init_195 rfl rfl ?_
  refine g_sipush (v := 1024) dX17_init_196 (by decide) ?_
  refine g_putI fpX17_89 dX17_init_199 (fun σ66 => ?_)
  refine g_aload_n 0 0 dX17_init_202 rfl rfl ?_
  refine g_bipush (v := 32) dX17_init_203 (by decide) ?_
  refine g_na_int dX17_init_205 (fun a67 σ68 => ?_)
  refine g_putR fpX17_93 rfl dX17_init_207 (fun σ69 => ?_)
  refine g_aload_n 0 0 dX17_init_210 rfl rfl ?_
  refine g_bipush (v := 32) dX17_init_211 (by decide) ?_
  refine g_na_int dX17_init_213 (fun a70 σ71 => ?_)
  refine g_putR fpX17_96 rfl dX17_init_215 (fun σ72 => ?_)
  refine g_aload_n 0 0 dX17_init_218 rfl rfl ?_
  refine g_bipush (v := 32) dX17_init_219 (by decide) ?_
  refine g_na_long dX17_init_221 (fun a73 σ74 => ?_)
  refine g_putR fpX17_99 rfl dX17_init_223 (fun σ75 => ?_)
  refine g_aload_n 0 0 dX17_init_226 rfl rfl ?_
  refine g_ldc q3033 dX17_init_227 ?_
  refine g_na_int dX17_init_229 (fun a76 σ77 => ?_)
  refine g_putR fpX17_103 rfl dX17_init_231 (fun σ78 => ?_)
  refine g_aload_n 0 0 dX17_init_234 rfl rfl ?_
  refine g_bipush (v := 8) dX17_init_235 (by decide) ?_
  refine g_putI fpX17_106 dX17_init_237 (fun σ79 => ?_)
  refine g_aload_n 0 0 dX17_init_240 rfl rfl ?_
  refine g_bipush (v := 16) dX17_init_241 (by decide) ?_
  refine g_na_int dX17_init_243 (fun a80 σ81 => ?_)
  refine g_putR fpX17_109 rfl dX17_init_245 (fun σ82 => ?_)
  refine g_aload_n 0 0 dX17_init_248 rfl rfl ?_
  refine g_bipush (v := 16) dX17_init_249 (by decide) ?_
  refine g_na_long dX17_init_251 (fun a83 σ84 => ?_)
  refine g_putR fpX17_112 rfl dX17_init_253 (fun σ85 => ?_)
  refine g_aload_n 0 0 dX17_init_256 rfl rfl ?_
  refine g_sipush (v := 128) dX17_init_257 (by decide) ?_
  refine g_na_int dX17_init_260 (fun a86 σ87 => ?_)
  refine g_putR fpX17_115 rfl dX17_init_262 (fun σ88 => ?_)
  refine g_aload_n 0 0 dX17_init_265 rfl rfl ?_
  refine g_ldc q3034 dX17_init_266 ?_
  refine g_na_byte dX17_init_268 (fun a89 σ90 => ?_)
  refine g_putR fpX17_119 rfl dX17_init_270 (fun σ91 => ?_)
  refine g_aload_n 0 0 dX17_init_273 rfl rfl ?_
  refine g_sipush (v := 256) dX17_init_274 (by decide) ?_
  refine g_na_int dX17_init_277 (fun a92 σ93 => ?_)
  refine g_putR fpX17_122 rfl dX17_init_279 (fun σ94 => ?_)
  refine g_aload_n 0 0 dX17_init_282 rfl rfl ?_
  refine g_sipush (v := 256) dX17_init_283 (by decide) ?_
  refine g_na_bool dX17_init_286 (fun a95 σ96 => ?_)
  refine g_putR fpX17_125 rfl dX17_init_288 (fun σ97 => ?_)
  refine g_aload_n 0 0 dX17_init_291 rfl rfl ?_
  refine g_sipush (v := 256) dX17_init_292 (by decide) ?_
  refine g_na_long dX17_init_295 (fun a98 σ99 => ?_)
  refine g_putR fpX17_128 rfl dX17_init_297 (fun σ100 => ?_)
  refine g_aload_n 0 0 dX17_init_300 rfl rfl ?_
  refine g_bipush (v := 16) dX17_init_301 (by decide) ?_
  refine g_na_int dX17_init_303 (fun a101 σ102 => ?_)
  refine g_putR fpX17_131 rfl dX17_init_305 (fun σ103 => ?_)
  refine g_aload_n 0 0 dX17_init_308 rfl rfl ?_
  refine g_sipush (v := 2048) dX17_init_309 (by decide) ?_
  refine g_na_int dX17_init_312 (fun a104 σ105 => ?_)
  refine g_putR fpX17_134 rfl dX17_init_314 (fun σ106 => ?_)
  refine g_aload_n 0 0 dX17_init_317 rfl rfl ?_
  refine g_sipush (v := 2048) dX17_init_318 (by decide) ?_
  refine g_na_int dX17_init_321 (fun a107 σ108 => ?_)
  refine g_putR fpX17_137 rfl dX17_init_323 (fun σ109 => ?_)
  refine g_aload_n 0 0 dX17_init_326 rfl rfl ?_
  refine g_sipush (v := 2048) dX17_init_327 (by decide) ?_
  refine g_na_int dX17_init_330 (fun a110 σ111 => ?_)
  refine g_putR fpX17_140 rfl dX17_init_332 (fun σ112 => ?_)
  refine g_aload_n 0 0 dX17_init_335 rfl rfl ?_
  refine g_sipush (v := 2048) dX17_init_336 (by decide) ?_
  refine g_na_int dX17_init_339 (fun a113 σ114 => ?_)
  refine g_putR fpX17_143 rfl dX17_init_341 (fun σ115 => ?_)
  refine g_aload_n 0 0 dX17_init_344 rfl rfl ?_
  refine g_sipush (v := 1024) dX17_init_345 (by decide) ?_
  refine g_na_int dX17_init_348 (fun a116 σ117 => ?_)
  refine g_putR fpX17_146 rfl dX17_init_350 (fun σ118 => ?_)
  refine g_aload_n 0 0 dX17_init_353 rfl rfl ?_
  refine g_sipush (v := 1024) dX17_init_354 (by decide) ?_
  refine g_na_int dX17_init_357 (fun a119 σ120 => ?_)
  refine g_putR fpX17_149 rfl dX17_init_359 (fun σ121 => ?_)
  refine g_aload_n 0 0 dX17_init_362 rfl rfl ?_
  refine g_sipush (v := 1024) dX17_init_363 (by decide) ?_
  refine g_na_bool dX17_init_366 (fun a122 σ123 => ?_)
  refine g_putR fpX17_152 rfl dX17_init_368 (fun σ124 => ?_)
  refine g_aload_n 0 0 dX17_init_371 rfl rfl ?_
  refine g_sipush (v := 2048) dX17_init_372 (by decide) ?_
  refine g_na_int dX17_init_375 (fun a125 σ126 => ?_)
  refine g_putR fpX17_155 rfl dX17_init_377 (fun σ127 => ?_)
  refine g_aload_n 0 0 dX17_init_380 rfl rfl ?_
  refine g_bipush (v := 64) dX17_init_381 (by decide) ?_
  refine g_na_int dX17_init_383 (fun a128 σ129 => ?_)
  refine g_putR fpX17_158 rfl dX17_init_385 (fun σ130 => ?_)
  refine g_aload_n 0 0 dX17_init_388 rfl rfl ?_
  refine g_bipush (v := 64) dX17_init_389 (by decide) ?_
  refine g_na_int dX17_init_391 (fun a131 σ132 => ?_)
  refine g_putR fpX17_161 rfl dX17_init_393 (fun σ133 => ?_)
  refine g_aload_n 0 0 dX17_init_396 rfl rfl ?_
  refine g_iconst (v := (-1)) dX17_init_397 (by decide) ?_
  refine g_putI fpX17_164 dX17_init_398 (fun σ134 => ?_)
  refine g_aload_n 0 0 dX17_init_401 rfl rfl ?_
  refine g_bipush (v := 16) dX17_init_402 (by decide) ?_
  refine g_na_long dX17_init_404 (fun a135 σ136 => ?_)
  refine g_putR fpX17_167 rfl dX17_init_406 (fun σ137 => ?_)
  refine g_aload_n 0 0 dX17_init_409 rfl rfl ?_
  refine g_bipush (v := 16) dX17_init_410 (by decide) ?_
  refine g_na_long dX17_init_412 (fun a138 σ139 => ?_)
  refine g_putR fpX17_170 rfl dX17_init_414 (fun σ140 => ?_)
  refine g_aload_n 0 0 dX17_init_417 rfl rfl ?_
  refine g_sipush (v := 200) dX17_init_418 (by decide) ?_
  refine g_na_int dX17_init_421 (fun a141 σ142 => ?_)
  refine g_putR fpX17_173 rfl dX17_init_423 (fun σ143 => ?_)
  refine g_aload_n 0 0 dX17_init_426 rfl rfl ?_
  refine g_sipush (v := 200) dX17_init_427 (by decide) ?_
  refine g_na_int dX17_init_430 (fun a144 σ145 => ?_)
  refine g_putR fpX17_176 rfl dX17_init_432 (fun σ146 => ?_)
  refine g_aload_n 0 0 dX17_init_435 rfl rfl ?_
  refine g_sipush (v := 200) dX17_init_436 (by decide) ?_
  refine g_na_int dX17_init_439 (fun a147 σ148 => ?_)
  refine g_putR fpX17_179 rfl dX17_init_441 (fun σ149 => ?_)
  refine g_aload_n 0 0 dX17_init_444 rfl rfl ?_
  refine g_sipush (v := 200) dX17_init_445 (by decide) ?_
  refine g_na_int dX17_init_448 (fun a150 σ151 => ?_)
  refine g_putR fpX17_182 rfl dX17_init_450 (fun σ152 => ?_)
  refine g_aload_n 0 0 dX17_init_453 rfl rfl ?_
  refine g_sipush (v := 200) dX17_init_454 (by decide) ?_
  refine g_na_int dX17_init_457 (fun a153 σ154 => ?_)
  refine g_putR fpX17_185 rfl dX17_init_459 (fun σ155 => ?_)
  refine g_aload_n 0 0 dX17_init_462 rfl rfl ?_
  refine g_sipush (v := 200) dX17_init_463 (by decide) ?_
  refine g_na_int dX17_init_466 (fun a156 σ157 => ?_)
  refine g_putR fpX17_188 rfl dX17_init_468 (fun σ158 => ?_)
  refine g_aload_n 0 0 dX17_init_471 rfl rfl ?_
  refine g_sipush (v := 4096) dX17_init_472 (by decide) ?_
  refine g_na_long dX17_init_475 (fun a159 σ160 => ?_)
  refine g_putR fpX17_191 rfl dX17_init_477 (fun σ161 => ?_)
  refine g_aload_n 0 0 dX17_init_480 rfl rfl ?_
  refine g_ldc q3035 dX17_init_481 ?_
  refine g_na_int dX17_init_483 (fun a162 σ163 => ?_)
  refine g_putR fpX17_195 rfl dX17_init_485 (fun σ164 => ?_)
  refine g_aload_n 0 0 dX17_init_488 rfl rfl ?_
  refine g_ldc q3035 dX17_init_489 ?_
  refine g_na_int dX17_init_491 (fun a165 σ166 => ?_)
  refine g_putR fpX17_198 rfl dX17_init_493 (fun σ167 => ?_)
  refine g_aload_n 0 0 dX17_init_496 rfl rfl ?_
  refine g_ldc q3035 dX17_init_497 ?_
  refine g_na_int dX17_init_499 (fun a168 σ169 => ?_)
  refine g_putR fpX17_201 rfl dX17_init_501 (fun σ170 => ?_)
  refine g_aload_n 0 0 dX17_init_504 rfl rfl ?_
  refine g_ldc q3035 dX17_init_505 ?_
  refine g_na_bool dX17_init_507 (fun a171 σ172 => ?_)
  refine g_putR fpX17_204 rfl dX17_init_509 (fun σ173 => ?_)
  refine g_iconst (v := 0) dX17_init_512 (by decide) ?_
  refine g_istore_n 1 dX17_init_513 rfl (by decide) rfl ?_
  refine G.sub [1, 0] rfl ?_
  exact gX17_init_p514 FU _ _ _
theorem V.dX17_puts_0 : decode cX17_puts 0 = .ok (.bipush 24, 2) := by decide +kernel
theorem V.dX17_puts_2 : decode cX17_puts 2 = .ok (.istore_n 2, 1) := by decide +kernel
theorem V.dX17_puts_3 : decode cX17_puts 3 = .ok (.iload_n 2, 1) := by decide +kernel
theorem V.dX17_puts_4 : decode cX17_puts 4 = .ok (.ifCond .lt 32, 3) := by decide +kernel
theorem V.dX17_puts_7 : decode cX17_puts 7 = .ok (.aload_n 0, 1) := by decide +kernel
theorem V.dX17_puts_8 : decode cX17_puts 8 = .ok (.getfield 10, 3) := by decide +kernel
theorem V.dX17_puts_11 : decode cX17_puts 11 = .ok (.aload_n 0, 1) := by decide +kernel
theorem V.dX17_puts_12 : decode cX17_puts 12 = .ok (.getfield 215, 3) := by decide +kernel
theorem V.dX17_puts_15 : decode cX17_puts 15 = .ok (.iload_n 1, 1) := by decide +kernel
theorem V.dX17_puts_16 : decode cX17_puts 16 = .ok (.iload_n 2, 1) := by decide +kernel
theorem V.dX17_puts_17 : decode cX17_puts 17 = .ok (.ishr, 1) := by decide +kernel
theorem V.dX17_puts_18 : decode cX17_puts 18 = .ok (.i2b, 1) := by decide +kernel
theorem V.dX17_puts_19 : decode cX17_puts 19 = .ok (.bastore, 1) := by decide +kernel
theorem V.dX17_puts_20 : decode cX17_puts 20 = .ok (.aload_n 0, 1) := by decide +kernel
theorem V.dX17_puts_21 : decode cX17_puts 21 = .ok (.dup, 1) := by decide +kernel
theorem V.dX17_puts_22 : decode cX17_puts 22 = .ok (.getfield 215, 3) := by decide +kernel
theorem V.dX17_puts_25 : decode cX17_puts 25 = .ok (.iconst 1, 1) := by decide +kernel
theorem V.dX17_puts_26 : decode cX17_puts 26 = .ok (.iadd, 1) := by decide +kernel
theorem V.dX17_puts_27 : decode cX17_puts 27 = .ok (.putfield 215, 3) := by decide +kernel
theorem V.dX17_puts_30 : decode cX17_puts 30 = .ok (.iinc 2 (-8), 3) := by decide +kernel
theorem V.dX17_puts_33 : decode cX17_puts 33 = .ok (.goto (-30), 3) := by decide +kernel
theorem V.dX17_puts_36 : decode cX17_puts 36 = .ok (.return_, 1) := by decide +kernel
theorem V.fdX17_10 : FD RX17 10 17 0 2 := ⟨(RX17, TX17, 101), tyX17, rfl, rfl, in_X17, by decide, Or.inl q3036, rfl⟩
theorem V.fdX17_215 : FD RX17 215 17 1 0 := ⟨(RX17, TX17, 101), tyX17, rfl, rfl, in_X17, by decide, Or.inl q3037, rfl⟩
theorem V.fpX17_215 {nm : String} : FP RX17 nm 215 17 1 (.int) := ⟨(RX17, TX17, 101), tyX17, rfl, rfl, in_X17, by decide, tyX17_ok, nmX17, rfl, Or.inl ⟨rfl, Or.inl q3037⟩⟩
/-! ModuleEngineModel.puts(I)V -/
def V.Mdl_puts_p3  : Nat → HS → Nat → Int32 → Int32 → Option (Unit × HS)
  | 0, _, _, _, _ => none
  | n + 1, σ, x0, x1, x2 =>
    if x2 < 0 then (
      some ((), σ))
    else (
      ck (tg σ x0 = 18) <|
      ck (tg σ x0 = 18) <|
      ck (tg σ (gR σ x0 0) = 102 ∧ inb (gI σ x0 1) (ln σ (gR σ x0 0))) <| bn (sI σ (gR σ x0 0) (ix (gI σ x0 1)) (i2b (i2b (x1 >>> (x2 &&& 31))))) fun σ1 =>
      ck (tg σ1 x0 = 18) <|
      ck (tg σ1 x0 = 18) <| bn (sI σ1 x0 1 ((gI σ1 x0 1) + (1 : Int32))) fun σ2 =>
      bn (x2 + (-8 : Int32)) fun y3 =>
      Mdl_puts_p3 n σ2 x0 x1 y3)
theorem V.gX17_puts_p3 {X : CX}  : ∀ (n : Nat) (σ : HS) (x0 : Nat) (x1 : Int32) (x2 : Int32), G X RX17 "puts" cX17_puts 3 none 0 0 enV 3 [(0, av x0), (1, iv x1), (2, iv x2)] [] σ (Mdl_puts_p3 n σ x0 x1 x2)
  | 0, σ, x0, x1, x2 => by rw [Mdl_puts_p3]; exact G.nul
  | n + 1, σ, x0, x1, x2 => by
    rw [Mdl_puts_p3]
    refine g_iload_n 2 2 dX17_puts_3 rfl rfl ?_
    refine g_if_lt 36 dX17_puts_4 (by decide) ?_ ?_
    · exact g_return rfl dX17_puts_36
    · refine g_aload_n 0 0 dX17_puts_7 rfl rfl ?_
      refine g_getR fdX17_10 dX17_puts_8 ?_
      refine g_aload_n 0 0 dX17_puts_11 rfl rfl ?_
      refine g_getI fdX17_215 dX17_puts_12 ?_
      refine g_iload_n 1 1 dX17_puts_15 rfl rfl ?_
      refine g_iload_n 2 2 dX17_puts_16 rfl rfl ?_
      refine g_ishr dX17_puts_17 ?_
      refine g_i2b dX17_puts_18 ?_
      refine g_bastore dX17_puts_19 (fun σ1 => ?_)
      refine g_aload_n 0 0 dX17_puts_20 rfl rfl ?_
      refine g_dup dX17_puts_21 rfl ?_
      refine g_getI fdX17_215 dX17_puts_22 ?_
      refine g_iconst (v := 1) dX17_puts_25 (by decide) ?_
      refine g_iadd dX17_puts_26 ?_
      refine g_putI fpX17_215 dX17_puts_27 (fun σ2 => ?_)
      refine g_iincB (w := (-8)) 2 dX17_puts_30 rfl (by decide) (by decide) (fun _ => rfl) (fun y3 => ?_)
      refine g_goto 3 dX17_puts_33 (by decide) ?_
      refine G.sub [1, 2, 0] rfl ?_
      exact gX17_puts_p3 n _ _ _ _
def V.Mdl_puts (σ : HS) (x0 : Nat) (x1 : Int32) : Option (Unit × HS) :=
  Mdl_puts_p3 FU σ x0 x1 (24 : Int32)
theorem V.ctX17_puts (x0 : Nat) (x1 : Int32) : Ct yX17_puts  cX17_puts 3 none 0 0 eV [av x0, iv x1] (fun σ => Mdl_puts σ x0 x1) := by
  refine Ct.of (own := RX17) (nm := "puts") (desc := "(I)V") rfl (by decide) (Nat.le_of_ble_eq_true rfl) (by decide) (fun X σ => ?_)
  show G X RX17 "puts" cX17_puts 3 none 0 0 enV 0 [(0, av x0), (1, iv x1)] [] σ (Mdl_puts σ x0 x1)
  unfold Mdl_puts
  refine g_bipush (v := 24) dX17_puts_0 (by decide) ?_
  refine g_istore_n 2 dX17_puts_2 rfl (by decide) rfl ?_
  refine G.sub [1, 2, 0] rfl ?_
  exact gX17_puts_p3 FU _ _ _ _
theorem V.dX17_feed_0 : decode cX17_feed 0 = .ok (.aload_n 0, 1) := by decide +kernel
theorem V.dX17_feed_1 : decode cX17_feed 1 = .ok (.getfield 207, 3) := by decide +kernel
theorem V.dX17_feed_4 : decode cX17_feed 4 = .ok (.bipush 20, 2) := by decide +kernel
theorem V.dX17_feed_6 : decode cX17_feed 6 = .ok (.iadd, 1) := by decide +kernel
theorem V.dX17_feed_7 : decode cX17_feed 7 = .ok (.ldc 210, 2) := by decide +kernel
theorem V.dX17_feed_9 : decode cX17_feed 9 = .ok (.if_icmp .le 5, 3) := by decide +kernel
theorem V.dX17_feed_12 : decode cX17_feed 12 = .ok (.iconst (-1), 1) := by decide +kernel
theorem V.dX17_feed_13 : decode cX17_feed 13 = .ok (.ireturn, 1) := by decide +kernel
theorem V.dX17_feed_14 : decode cX17_feed 14 = .ok (.aload_n 0, 1) := by decide +kernel
theorem V.dX17_feed_15 : decode cX17_feed 15 = .ok (.dup, 1) := by decide +kernel
theorem V.dX17_feed_16 : decode cX17_feed 16 = .ok (.getfield 207, 3) := by decide +kernel
theorem V.dX17_feed_19 : decode cX17_feed 19 = .ok (.bipush 20, 2) := by decide +kernel
theorem V.dX17_feed_21 : decode cX17_feed 21 = .ok (.iadd, 1) := by decide +kernel
theorem V.dX17_feed_22 : decode cX17_feed 22 = .ok (.putfield 207, 3) := by decide +kernel
theorem V.dX17_feed_25 : decode cX17_feed 25 = .ok (.aload_n 0, 1) := by decide +kernel
theorem V.dX17_feed_26 : decode cX17_feed 26 = .ok (.iload_n 1, 1) := by decide +kernel
theorem V.dX17_feed_27 : decode cX17_feed 27 = .ok (.invokevirtual 211, 3) := by decide +kernel
theorem V.dX17_feed_30 : decode cX17_feed 30 = .ok (.aload_n 0, 1) := by decide +kernel
theorem V.dX17_feed_31 : decode cX17_feed 31 = .ok (.iload_n 2, 1) := by decide +kernel
theorem V.dX17_feed_32 : decode cX17_feed 32 = .ok (.invokevirtual 211, 3) := by decide +kernel
theorem V.dX17_feed_35 : decode cX17_feed 35 = .ok (.aload_n 0, 1) := by decide +kernel
theorem V.dX17_feed_36 : decode cX17_feed 36 = .ok (.iload_n 3, 1) := by decide +kernel
theorem V.dX17_feed_37 : decode cX17_feed 37 = .ok (.invokevirtual 211, 3) := by decide +kernel
theorem V.dX17_feed_40 : decode cX17_feed 40 = .ok (.aload_n 0, 1) := by decide +kernel
theorem V.dX17_feed_41 : decode cX17_feed 41 = .ok (.iload 4, 2) := by decide +kernel
theorem V.dX17_feed_43 : decode cX17_feed 43 = .ok (.invokevirtual 211, 3) := by decide +kernel
theorem V.dX17_feed_46 : decode cX17_feed 46 = .ok (.aload_n 0, 1) := by decide +kernel
theorem V.dX17_feed_47 : decode cX17_feed 47 = .ok (.iload 5, 2) := by decide +kernel
theorem V.dX17_feed_49 : decode cX17_feed 49 = .ok (.invokevirtual 211, 3) := by decide +kernel
theorem V.dX17_feed_52 : decode cX17_feed 52 = .ok (.aload_n 0, 1) := by decide +kernel
theorem V.dX17_feed_53 : decode cX17_feed 53 = .ok (.getfield 215, 3) := by decide +kernel
theorem V.dX17_feed_56 : decode cX17_feed 56 = .ok (.ireturn, 1) := by decide +kernel
theorem V.fdX17_207 : FD RX17 207 17 2 0 := ⟨(RX17, TX17, 101), tyX17, rfl, rfl, in_X17, by decide, Or.inl q3038, rfl⟩
theorem V.fpX17_207 {nm : String} : FP RX17 nm 207 17 2 (.int) := ⟨(RX17, TX17, 101), tyX17, rfl, rfl, in_X17, by decide, tyX17_ok, nmX17, rfl, Or.inl ⟨rfl, Or.inl q3038⟩⟩
theorem V.mdX17_211 : MD RX17 211 yX17_puts cX17_puts 3 none 1 := ⟨Or.inl q3345, q377, q3348, by decide, by decide, by decide +kernel⟩
/-! ModuleEngineModel.feed(IIIII)I -/
def V.Mdl_feed (σ : HS) (x0 : Nat) (x1 : Int32) (x2 : Int32) (x3 : Int32) (x4 : Int32) (x5 : Int32) : Option (Int32 × HS) :=
  ck (tg σ x0 = 18) <|
  if ((gI σ x0 2) + (20 : Int32)) ≤ (40960 : Int32) then (
    ck (tg σ x0 = 18) <|
    ck (tg σ x0 = 18) <| bn (sI σ x0 2 ((gI σ x0 2) + (20 : Int32))) fun σ1 =>
    ck (tg σ1 x0 = 18) <| cl (Mdl_puts σ1 x0 x1) fun _ σ2 =>
    ck (tg σ2 x0 = 18) <| cl (Mdl_puts σ2 x0 x2) fun _ σ3 =>
    ck (tg σ3 x0 = 18) <| cl (Mdl_puts σ3 x0 x3) fun _ σ4 =>
    ck (tg σ4 x0 = 18) <| cl (Mdl_puts σ4 x0 x4) fun _ σ5 =>
    ck (tg σ5 x0 = 18) <| cl (Mdl_puts σ5 x0 x5) fun _ σ6 =>
    ck (tg σ6 x0 = 18) <|
    some (gI σ6 x0 1, σ6))
  else (
    some ((-1 : Int32), σ))
theorem V.ctX17_feed (x0 : Nat) (x1 : Int32) (x2 : Int32) (x3 : Int32) (x4 : Int32) (x5 : Int32) : Ct yX17_feed  cX17_feed 6 (some .int) 1 22 eI [av x0, iv x1, iv x2, iv x3, iv x4, iv x5] (fun σ => Mdl_feed σ x0 x1 x2 x3 x4 x5) := by
  refine Ct.of (own := RX17) (nm := "feed") (desc := "(IIIII)I") rfl (by decide) (Nat.le_of_ble_eq_true rfl) (by decide) (fun X σ => ?_)
  show G X RX17 "feed" cX17_feed 6 (some .int) 1 22 enI 0 [(0, av x0), (1, iv x1), (2, iv x2), (3, iv x3), (4, iv x4), (5, iv x5)] [] σ (Mdl_feed σ x0 x1 x2 x3 x4 x5)
  unfold Mdl_feed
  refine g_aload_n 0 0 dX17_feed_0 rfl rfl ?_
  refine g_getI fdX17_207 dX17_feed_1 ?_
  refine g_bipush (v := 20) dX17_feed_4 (by decide) ?_
  refine g_iadd dX17_feed_6 ?_
  refine g_ldc q3344 dX17_feed_7 ?_
  refine g_icmp_le 14 dX17_feed_9 (by decide) ?_ ?_
  · refine g_aload_n 0 0 dX17_feed_14 rfl rfl ?_
    refine g_dup dX17_feed_15 rfl ?_
    refine g_getI fdX17_207 dX17_feed_16 ?_
    refine g_bipush (v := 20) dX17_feed_19 (by decide) ?_
    refine g_iadd dX17_feed_21 ?_
    refine g_putI fpX17_207 dX17_feed_22 (fun σ1 => ?_)
    refine g_aload_n 0 0 dX17_feed_25 rfl rfl ?_
    refine g_iload_n 1 1 dX17_feed_26 rfl rfl ?_
    refine g_callV (fc := fun sς => Mdl_puts sς x0 x1) (ci := 17) (as := [iv x1]) rfl rfl rfl q3347 qs211 mdX17_211 (ctX17_puts x0 x1) rfl (Nat.le_of_ble_eq_true rfl) (Nat.le_of_ble_eq_true rfl) (Nat.le_of_ble_eq_true rfl) pu_V dX17_feed_27 (fun _ σ2 => ?_)
    refine g_aload_n 0 0 dX17_feed_30 rfl rfl ?_
    refine g_iload_n 2 2 dX17_feed_31 rfl rfl ?_
    refine g_callV (fc := fun sς => Mdl_puts sς x0 x2) (ci := 17) (as := [iv x2]) rfl rfl rfl q3347 qs211 mdX17_211 (ctX17_puts x0 x2) rfl (Nat.le_of_ble_eq_true rfl) (Nat.le_of_ble_eq_true rfl) (Nat.le_of_ble_eq_true rfl) pu_V dX17_feed_32 (fun _ σ3 => ?_)
    refine g_aload_n 0 0 dX17_feed_35 rfl rfl ?_
    refine g_iload_n 3 3 dX17_feed_36 rfl rfl ?_
    refine g_callV (fc := fun sς => Mdl_puts sς x0 x3) (ci := 17) (as := [iv x3]) rfl rfl rfl q3347 qs211 mdX17_211 (ctX17_puts x0 x3) rfl (Nat.le_of_ble_eq_true rfl) (Nat.le_of_ble_eq_true rfl) (Nat.le_of_ble_eq_true rfl) pu_V dX17_feed_37 (fun _ σ4 => ?_)
    refine g_aload_n 0 0 dX17_feed_40 rfl rfl ?_
    refine g_iload 4 dX17_feed_41 rfl ?_
    refine g_callV (fc := fun sς => Mdl_puts sς x0 x4) (ci := 17) (as := [iv x4]) rfl rfl rfl q3347 qs211 mdX17_211 (ctX17_puts x0 x4) rfl (Nat.le_of_ble_eq_true rfl) (Nat.le_of_ble_eq_true rfl) (Nat.le_of_ble_eq_true rfl) pu_V dX17_feed_43 (fun _ σ5 => ?_)
    refine g_aload_n 0 0 dX17_feed_46 rfl rfl ?_
    refine g_iload 5 dX17_feed_47 rfl ?_
    refine g_callV (fc := fun sς => Mdl_puts sς x0 x5) (ci := 17) (as := [iv x5]) rfl rfl rfl q3347 qs211 mdX17_211 (ctX17_puts x0 x5) rfl (Nat.le_of_ble_eq_true rfl) (Nat.le_of_ble_eq_true rfl) (Nat.le_of_ble_eq_true rfl) pu_V dX17_feed_49 (fun _ σ6 => ?_)
    refine g_aload_n 0 0 dX17_feed_52 rfl rfl ?_
    refine g_getI fdX17_215 dX17_feed_53 ?_
    exact g_ireturn rfl dX17_feed_56
  · refine g_iconst (v := (-1)) dX17_feed_12 (by decide) ?_
    exact g_ireturn rfl dX17_feed_13
theorem V.dX17_stops_0 : decode cX17_stops 0 = .ok (.aload_n 0, 1) := by decide +kernel
theorem V.dX17_stops_1 : decode cX17_stops 1 = .ok (.iload_n 1, 1) := by decide +kernel
theorem V.dX17_stops_2 : decode cX17_stops 2 = .ok (.putfield 239, 3) := by decide +kernel
theorem V.dX17_stops_5 : decode cX17_stops 5 = .ok (.aload_n 0, 1) := by decide +kernel
theorem V.dX17_stops_6 : decode cX17_stops 6 = .ok (.iload_n 2, 1) := by decide +kernel
theorem V.dX17_stops_7 : decode cX17_stops 7 = .ok (.putfield 242, 3) := by decide +kernel
theorem V.dX17_stops_10 : decode cX17_stops 10 = .ok (.aload_n 0, 1) := by decide +kernel
theorem V.dX17_stops_11 : decode cX17_stops 11 = .ok (.getfield 23, 3) := by decide +kernel
theorem V.dX17_stops_14 : decode cX17_stops 14 = .ok (.athrow, 1) := by decide +kernel
theorem V.fpX17_239 {nm : String} : FP RX17 nm 239 17 7 (.int) := ⟨(RX17, TX17, 101), tyX17, rfl, rfl, in_X17, by decide, tyX17_ok, nmX17, rfl, Or.inl ⟨rfl, Or.inl q3043⟩⟩
theorem V.fpX17_242 {nm : String} : FP RX17 nm 242 17 8 (.int) := ⟨(RX17, TX17, 101), tyX17, rfl, rfl, in_X17, by decide, tyX17_ok, nmX17, rfl, Or.inl ⟨rfl, Or.inl q3044⟩⟩
theorem V.fdX17_23 : FD RX17 23 17 9 2 := ⟨(RX17, TX17, 101), tyX17, rfl, rfl, in_X17, by decide, Or.inl q3045, rfl⟩
/-! ModuleEngineModel.stops(II)V -/
def V.Mdl_stops (σ : HS) (x0 : Nat) (x1 : Int32) (x2 : Int32) : Option ((Nat ⊕ Unit) × HS) :=
  ck (tg σ x0 = 18) <| bn (sI σ x0 7 x1) fun σ1 =>
  ck (tg σ1 x0 = 18) <| bn (sI σ1 x0 8 x2) fun σ2 =>
  ck (tg σ2 x0 = 18) <|
  ck (¬ (gR σ2 x0 9) = 0) (some (.inl (gR σ2 x0 9), σ2))
theorem V.ctX17_stops (x0 : Nat) (x1 : Int32) (x2 : Int32) : Ct yX17_stops  cX17_stops 3 none 0 0 eXV [av x0, iv x1, iv x2] (fun σ => Mdl_stops σ x0 x1 x2) := by
  refine Ct.of (own := RX17) (nm := "stops") (desc := "(II)V") rfl (by decide) (Nat.le_of_ble_eq_true rfl) (by decide) (fun X σ => ?_)
  show G X RX17 "stops" cX17_stops 3 none 0 0 (enX enV (cxz X)) 0 [(0, av x0), (1, iv x1), (2, iv x2)] [] σ (Mdl_stops σ x0 x1 x2)
  unfold Mdl_stops
  refine g_aload_n 0 0 dX17_stops_0 rfl rfl ?_
  refine g_iload_n 1 1 dX17_stops_1 rfl rfl ?_
  refine g_putI fpX17_239 dX17_stops_2 (fun σ1 => ?_)
  refine g_aload_n 0 0 dX17_stops_5 rfl rfl ?_
  refine g_iload_n 2 2 dX17_stops_6 rfl rfl ?_
  refine g_putI fpX17_242 dX17_stops_7 (fun σ2 => ?_)
  refine g_aload_n 0 0 dX17_stops_10 rfl rfl ?_
  refine g_getR fdX17_23 dX17_stops_11 ?_
  exact g_athrow (by decide) dX17_stops_14
theorem V.dX17_next_0 : decode cX17_next 0 = .ok (.aload_n 0, 1) := by decide +kernel
theorem V.dX17_next_1 : decode cX17_next 1 = .ok (.getfield 251, 3) := by decide +kernel
theorem V.dX17_next_4 : decode cX17_next 4 = .ok (.aload_n 0, 1) := by decide +kernel
theorem V.dX17_next_5 : decode cX17_next 5 = .ok (.getfield 254, 3) := by decide +kernel
theorem V.dX17_next_8 : decode cX17_next 8 = .ok (.if_icmp .lt 12, 3) := by decide +kernel
theorem V.dX17_next_11 : decode cX17_next 11 = .ok (.aload_n 0, 1) := by decide +kernel
theorem V.dX17_next_12 : decode cX17_next 12 = .ok (.iconst 1, 1) := by decide +kernel
theorem V.dX17_next_13 : decode cX17_next 13 = .ok (.aload_n 0, 1) := by decide +kernel
theorem V.dX17_next_14 : decode cX17_next 14 = .ok (.getfield 254, 3) := by decide +kernel
theorem V.dX17_next_17 : decode cX17_next 17 = .ok (.invokevirtual 257, 3) := by decide +kernel
theorem V.dX17_next_20 : decode cX17_next 20 = .ok (.aload_n 0, 1) := by decide +kernel
theorem V.dX17_next_21 : decode cX17_next 21 = .ok (.dup, 1) := by decide +kernel
theorem V.dX17_next_22 : decode cX17_next 22 = .ok (.getfield 251, 3) := by decide +kernel
theorem V.dX17_next_25 : decode cX17_next 25 = .ok (.iconst 1, 1) := by decide +kernel
theorem V.dX17_next_26 : decode cX17_next 26 = .ok (.iadd, 1) := by decide +kernel
theorem V.dX17_next_27 : decode cX17_next 27 = .ok (.putfield 251, 3) := by decide +kernel
theorem V.dX17_next_30 : decode cX17_next 30 = .ok (.aload_n 0, 1) := by decide +kernel
theorem V.dX17_next_31 : decode cX17_next 31 = .ok (.getfield 221, 3) := by decide +kernel
theorem V.dX17_next_34 : decode cX17_next 34 = .ok (.aload_n 0, 1) := by decide +kernel
theorem V.dX17_next_35 : decode cX17_next 35 = .ok (.getfield 251, 3) := by decide +kernel
theorem V.dX17_next_38 : decode cX17_next 38 = .ok (.iconst 1, 1) := by decide +kernel
theorem V.dX17_next_39 : decode cX17_next 39 = .ok (.isub, 1) := by decide +kernel
theorem V.dX17_next_40 : decode cX17_next 40 = .ok (.invokevirtual 261, 3) := by decide +kernel
theorem V.dX17_next_43 : decode cX17_next 43 = .ok (.ireturn, 1) := by decide +kernel
theorem V.fdX17_251 : FD RX17 251 17 11 0 := ⟨(RX17, TX17, 101), tyX17, rfl, rfl, in_X17, by decide, Or.inl q3047, rfl⟩
theorem V.fdX17_254 : FD RX17 254 17 12 0 := ⟨(RX17, TX17, 101), tyX17, rfl, rfl, in_X17, by decide, Or.inl q3048, rfl⟩
theorem V.mdX17_257 : MD RX17 257 yX17_stops cX17_stops 3 none 2 := ⟨Or.inl q3604, q377, q3607, by decide, by decide, by decide +kernel⟩
theorem V.fpX17_251 {nm : String} : FP RX17 nm 251 17 11 (.int) := ⟨(RX17, TX17, 101), tyX17, rfl, rfl, in_X17, by decide, tyX17_ok, nmX17, rfl, Or.inl ⟨rfl, Or.inl q3047⟩⟩
theorem V.fdX17_221 : FD RX17 221 17 10 2 := ⟨(RX17, TX17, 101), tyX17, rfl, rfl, in_X17, by decide, Or.inl q3046, rfl⟩
theorem V.mdX17_261 : MD RX17 261 yX20_at cX20_at 2 (some .int) 1 := ⟨Or.inl q3608, q385, q3611, by decide, by decide, by decide +kernel⟩
/-! ModuleEngineModel.next()I -/
def V.Mdl_next_p20  (σ : HS) (x0 : Nat) : Option ((Nat ⊕ Int32) × HS) :=
  ck (tg σ x0 = 18) <|
  ck (tg σ x0 = 18) <| bn (sI σ x0 11 ((gI σ x0 11) + (1 : Int32))) fun σ1 =>
  ck (tg σ1 x0 = 18) <|
  ck (tg σ1 x0 = 18) <|
  ck (tg σ1 (gR σ1 x0 10) = 21) <| cl (Pln_at σ1 (gR σ1 x0 10) ((gI σ1 x0 11) - (1 : Int32))) fun r3 σ2 =>
  some (.inr r3, σ2)
theorem V.gX17_next_p20 {X : CX}  (σ : HS) (x0 : Nat) : G X RX17 "next" cX17_next 1 (some .int) 1 22 (enX enI (cxz X)) 20 [(0, av x0)] [] σ (Mdl_next_p20 σ x0) := by
  unfold Mdl_next_p20
  refine g_aload_n 0 0 dX17_next_20 rfl rfl ?_
  refine g_dup dX17_next_21 rfl ?_
  refine g_getI fdX17_251 dX17_next_22 ?_
  refine g_iconst (v := 1) dX17_next_25 (by decide) ?_
  refine g_iadd dX17_next_26 ?_
  refine g_putI fpX17_251 dX17_next_27 (fun σ1 => ?_)
  refine g_aload_n 0 0 dX17_next_30 rfl rfl ?_
  refine g_getR fdX17_221 dX17_next_31 ?_
  refine g_aload_n 0 0 dX17_next_34 rfl rfl ?_
  refine g_getI fdX17_251 dX17_next_35 ?_
  refine g_iconst (v := 1) dX17_next_38 (by decide) ?_
  refine g_isub dX17_next_39 ?_
  refine g_callV (fc := fun sς => Pln_at sς (gR σ1 x0 10) ((gI σ1 x0 11) - (1 : Int32))) (ci := 20) (as := [iv ((gI σ1 x0 11) - (1 : Int32))]) rfl rfl rfl q3609 q3610 mdX17_261 (ctX20_at (gR σ1 x0 10) ((gI σ1 x0 11) - (1 : Int32))) rfl (Nat.le_of_ble_eq_true rfl) (Nat.le_of_ble_eq_true rfl) (Nat.le_of_ble_eq_true rfl) pu_I dX17_next_40 (fun r3 σ2 => ?_)
  exact g_ireturn rfl dX17_next_43
def V.Mdl_next (σ : HS) (x0 : Nat) : Option ((Nat ⊕ Int32) × HS) :=
  ck (tg σ x0 = 18) <|
  ck (tg σ x0 = 18) <|
  if (gI σ x0 11) < (gI σ x0 12) then (
    Mdl_next_p20 σ x0)
  else (
    ck (tg σ x0 = 18) <|
    ck (tg σ x0 = 18) <| clT (Mdl_stops σ x0 (1 : Int32) (gI σ x0 12)) fun _ σ1 =>
    Mdl_next_p20 σ1 x0)
theorem V.ctX17_next (x0 : Nat) : Ct yX17_next  cX17_next 1 (some .int) 1 22 eXI [av x0] (fun σ => Mdl_next σ x0) := by
  refine Ct.of (own := RX17) (nm := "next") (desc := "()I") rfl (by decide) (Nat.le_of_ble_eq_true rfl) (by decide) (fun X σ => ?_)
  show G X RX17 "next" cX17_next 1 (some .int) 1 22 (enX enI (cxz X)) 0 [(0, av x0)] [] σ (Mdl_next σ x0)
  unfold Mdl_next
  refine g_aload_n 0 0 dX17_next_0 rfl rfl ?_
  refine g_getI fdX17_251 dX17_next_1 ?_
  refine g_aload_n 0 0 dX17_next_4 rfl rfl ?_
  refine g_getI fdX17_254 dX17_next_5 ?_
  refine g_icmp_lt 20 dX17_next_8 (by decide) ?_ ?_
  · exact gX17_next_p20 _ _
  · refine g_aload_n 0 0 dX17_next_11 rfl rfl ?_
    refine g_iconst (v := 1) dX17_next_12 (by decide) ?_
    refine g_aload_n 0 0 dX17_next_13 rfl rfl ?_
    refine g_getI fdX17_254 dX17_next_14 ?_
    refine g_callVT (fc := fun sς => Mdl_stops sς x0 (1 : Int32) (gI σ x0 12)) (ci := 17) (as := [iv (1 : Int32), iv (gI σ x0 12)]) rfl rfl rfl q3606 qs214 q3604 mdX17_257 (ctX17_stops x0 (1 : Int32) (gI σ x0 12)) rfl (Nat.le_of_ble_eq_true rfl) (Nat.le_of_ble_eq_true rfl) (Nat.le_of_ble_eq_true rfl) pu_V (by decide) dX17_next_17 (fun _ σ1 => ?_)
    exact gX17_next_p20 _ _
theorem V.dX17_rank_0 : decode cX17_rank 0 = .ok (.iload_n 0, 1) := by decide +kernel
theorem V.dX17_rank_1 : decode cX17_rank 1 = .ok (.bipush 12, 2) := by decide +kernel
theorem V.dX17_rank_3 : decode cX17_rank 3 = .ok (.if_icmp .ne 8, 3) := by decide +kernel
theorem V.dX17_rank_6 : decode cX17_rank 6 = .ok (.bipush 10, 2) := by decide +kernel
theorem V.dX17_rank_8 : decode cX17_rank 8 = .ok (.goto 26, 3) := by decide +kernel
theorem V.dX17_rank_11 : decode cX17_rank 11 = .ok (.iload_n 0, 1) := by decide +kernel
theorem V.dX17_rank_12 : decode cX17_rank 12 = .ok (.bipush 10, 2) := by decide +kernel
theorem V.dX17_rank_14 : decode cX17_rank 14 = .ok (.if_icmp .ne 8, 3) := by decide +kernel
theorem V.dX17_rank_17 : decode cX17_rank 17 = .ok (.bipush 11, 2) := by decide +kernel
theorem V.dX17_rank_19 : decode cX17_rank 19 = .ok (.goto 15, 3) := by decide +kernel
theorem V.dX17_rank_22 : decode cX17_rank 22 = .ok (.iload_n 0, 1) := by decide +kernel
theorem V.dX17_rank_23 : decode cX17_rank 23 = .ok (.bipush 11, 2) := by decide +kernel
theorem V.dX17_rank_25 : decode cX17_rank 25 = .ok (.if_icmp .ne 8, 3) := by decide +kernel
theorem V.dX17_rank_28 : decode cX17_rank 28 = .ok (.bipush 12, 2) := by decide +kernel
theorem V.dX17_rank_30 : decode cX17_rank 30 = .ok (.goto 4, 3) := by decide +kernel
theorem V.dX17_rank_33 : decode cX17_rank 33 = .ok (.iload_n 0, 1) := by decide +kernel
theorem V.dX17_rank_34 : decode cX17_rank 34 = .ok (.ireturn, 1) := by decide +kernel
/-! ModuleEngineModel.rank(I)I -/
def V.Mdl_rank (σ : HS) (x0 : Int32) : Option (Int32 × HS) :=
  if x0 = (12 : Int32) then (
    some ((10 : Int32), σ))
  else (
    if x0 = (10 : Int32) then (
      some ((11 : Int32), σ))
    else (
      if x0 = (11 : Int32) then (
        some ((12 : Int32), σ))
      else (
        some (x0, σ))))
theorem V.ctX17_rank (x0 : Int32) : Ct yX17_rank  cX17_rank 1 (some .int) 0 0 eI [iv x0] (fun σ => Mdl_rank σ x0) := by
  refine Ct.of (own := RX17) (nm := "rank") (desc := "(I)I") rfl (by decide) (Nat.le_of_ble_eq_true rfl) (by decide) (fun X σ => ?_)
  show G X RX17 "rank" cX17_rank 1 (some .int) 0 0 enI 0 [(0, iv x0)] [] σ (Mdl_rank σ x0)
  unfold Mdl_rank
  refine g_iload_n 0 0 dX17_rank_0 rfl rfl ?_
  refine g_bipush (v := 12) dX17_rank_1 (by decide) ?_
  refine g_icmp_ne 11 dX17_rank_3 (by decide) ?_ ?_
  · refine g_iload_n 0 0 dX17_rank_11 rfl rfl ?_
    refine g_bipush (v := 10) dX17_rank_12 (by decide) ?_
    refine g_icmp_ne 22 dX17_rank_14 (by decide) ?_ ?_
    · refine g_iload_n 0 0 dX17_rank_22 rfl rfl ?_
      refine g_bipush (v := 11) dX17_rank_23 (by decide) ?_
      refine g_icmp_ne 33 dX17_rank_25 (by decide) ?_ ?_
      · refine g_iload_n 0 0 dX17_rank_33 rfl rfl ?_
        exact g_ireturn rfl dX17_rank_34
      · refine g_bipush (v := 12) dX17_rank_28 (by decide) ?_
        refine g_goto 34 dX17_rank_30 (by decide) ?_
        exact g_ireturn rfl dX17_rank_34
    · refine g_bipush (v := 11) dX17_rank_17 (by decide) ?_
      refine g_goto 34 dX17_rank_19 (by decide) ?_
      exact g_ireturn rfl dX17_rank_34
  · refine g_bipush (v := 10) dX17_rank_6 (by decide) ?_
    refine g_goto 34 dX17_rank_8 (by decide) ?_
    exact g_ireturn rfl dX17_rank_34
theorem V.dX17_number_0 : decode cX17_number 0 = .ok (.lconst 0, 1) := by decide +kernel
theorem V.dX17_number_1 : decode cX17_number 1 = .ok (.lstore_n 1, 1) := by decide +kernel
theorem V.dX17_number_2 : decode cX17_number 2 = .ok (.iconst 0, 1) := by decide +kernel
theorem V.dX17_number_3 : decode cX17_number 3 = .ok (.istore_n 3, 1) := by decide +kernel
theorem V.dX17_number_4 : decode cX17_number 4 = .ok (.iload_n 3, 1) := by decide +kernel
theorem V.dX17_number_5 : decode cX17_number 5 = .ok (.iconst 5, 1) := by decide +kernel
theorem V.dX17_number_6 : decode cX17_number 6 = .ok (.if_icmp .ge 62, 3) := by decide +kernel
theorem V.dX17_number_9 : decode cX17_number 9 = .ok (.aload_n 0, 1) := by decide +kernel
theorem V.dX17_number_10 : decode cX17_number 10 = .ok (.invokevirtual 264, 3) := by decide +kernel
theorem V.dX17_number_13 : decode cX17_number 13 = .ok (.istore 4, 2) := by decide +kernel
theorem V.dX17_number_15 : decode cX17_number 15 = .ok (.iload_n 3, 1) := by decide +kernel
theorem V.dX17_number_16 : decode cX17_number 16 = .ok (.iconst 4, 1) := by decide +kernel
theorem V.dX17_number_17 : decode cX17_number 17 = .ok (.if_icmp .ne 21, 3) := by decide +kernel
theorem V.dX17_number_20 : decode cX17_number 20 = .ok (.iload 4, 2) := by decide +kernel
theorem V.dX17_number_22 : decode cX17_number 22 = .ok (.bipush 15, 2) := by decide +kernel
theorem V.dX17_number_24 : decode cX17_number 24 = .ok (.if_icmp .le 14, 3) := by decide +kernel
theorem V.dX17_number_27 : decode cX17_number 27 = .ok (.aload_n 0, 1) := by decide +kernel
theorem V.dX17_number_28 : decode cX17_number 28 = .ok (.iconst 4, 1) := by decide +kernel
theorem V.dX17_number_29 : decode cX17_number 29 = .ok (.aload_n 0, 1) := by decide +kernel
theorem V.dX17_number_30 : decode cX17_number 30 = .ok (.getfield 251, 3) := by decide +kernel
theorem V.dX17_number_33 : decode cX17_number 33 = .ok (.iconst 1, 1) := by decide +kernel
theorem V.dX17_number_34 : decode cX17_number 34 = .ok (.isub, 1) := by decide +kernel
theorem V.dX17_number_35 : decode cX17_number 35 = .ok (.invokevirtual 257, 3) := by decide +kernel
theorem V.dX17_number_38 : decode cX17_number 38 = .ok (.lload_n 1, 1) := by decide +kernel
theorem V.dX17_number_39 : decode cX17_number 39 = .ok (.iload 4, 2) := by decide +kernel
theorem V.dX17_number_41 : decode cX17_number 41 = .ok (.bipush 127, 2) := by decide +kernel
theorem V.dX17_number_43 : decode cX17_number 43 = .ok (.iand, 1) := by decide +kernel
theorem V.dX17_number_44 : decode cX17_number 44 = .ok (.i2l, 1) := by decide +kernel
theorem V.dX17_number_45 : decode cX17_number 45 = .ok (.bipush 7, 2) := by decide +kernel
theorem V.dX17_number_47 : decode cX17_number 47 = .ok (.iload_n 3, 1) := by decide +kernel
theorem V.dX17_number_48 : decode cX17_number 48 = .ok (.imul, 1) := by decide +kernel
theorem V.dX17_number_49 : decode cX17_number 49 = .ok (.lshl, 1) := by decide +kernel
theorem V.dX17_number_50 : decode cX17_number 50 = .ok (.lor, 1) := by decide +kernel
theorem V.dX17_number_51 : decode cX17_number 51 = .ok (.lstore_n 1, 1) := by decide +kernel
theorem V.dX17_number_52 : decode cX17_number 52 = .ok (.iload 4, 2) := by decide +kernel
theorem V.dX17_number_54 : decode cX17_number 54 = .ok (.sipush 128, 3) := by decide +kernel
theorem V.dX17_number_57 : decode cX17_number 57 = .ok (.if_icmp .ge 5, 3) := by decide +kernel
theorem V.dX17_number_60 : decode cX17_number 60 = .ok (.lload_n 1, 1) := by decide +kernel
theorem V.dX17_number_61 : decode cX17_number 61 = .ok (.lreturn, 1) := by decide +kernel
theorem V.dX17_number_62 : decode cX17_number 62 = .ok (.iinc 3 1, 3) := by decide +kernel
theorem V.dX17_number_65 : decode cX17_number 65 = .ok (.goto (-61), 3) := by decide +kernel
theorem V.dX17_number_68 : decode cX17_number 68 = .ok (.lload_n 1, 1) := by decide +kernel
theorem V.dX17_number_69 : decode cX17_number 69 = .ok (.lreturn, 1) := by decide +kernel
theorem V.mdX17_264 : MD RX17 264 yX17_next cX17_next 1 (some .int) 0 := ⟨Or.inl q3600, q377, q3603, by decide, by decide, by decide +kernel⟩
/-! ModuleEngineModel.number()J -/
def V.Mdl_number_p38 (rec4 : HS → Nat → Int64 → Int32 → Option ((Nat ⊕ Int64) × HS)) (σ : HS) (x0 : Nat) (x1 : Int64) (x3 : Int32) (x4 : Int32) : Option ((Nat ⊕ Int64) × HS) :=
  bn (x1 ||| (lshl ((x4 &&& (127 : Int32)).toInt64) ((7 : Int32) * x3))) fun y1 =>
  if (128 : Int32) ≤ x4 then (
    bn (x3 + (1 : Int32)) fun y2 =>
    rec4 σ x0 y1 y2)
  else (
    some (.inr y1, σ))
theorem V.gX17_number_p38 {X : CX} (rec4 : HS → Nat → Int64 → Int32 → Option ((Nat ⊕ Int64) × HS)) (hrec4 : ∀ (σ : HS) (x0 : Nat) (x1 : Int64) (x3 : Int32), G X RX17 "number" cX17_number 5 (some .long) 2 42 (enX enJ (cxz X)) 4 [(0, av x0), (1, jv x1), (3, iv x3)] [] σ (rec4 σ x0 x1 x3)) (σ : HS) (x0 : Nat) (x1 : Int64) (x3 : Int32) (x4 : Int32) : G X RX17 "number" cX17_number 5 (some .long) 2 42 (enX enJ (cxz X)) 38 [(0, av x0), (1, jv x1), (3, iv x3), (4, iv x4)] [] σ (Mdl_number_p38 rec4 σ x0 x1 x3 x4) := by
  unfold Mdl_number_p38
  refine g_lload_n 1 1 dX17_number_38 rfl rfl ?_
  refine g_iload 3 dX17_number_39 rfl ?_
  refine g_bipush (v := 127) dX17_number_41 (by decide) ?_
  refine g_iand dX17_number_43 ?_
  refine g_i2l dX17_number_44 ?_
  refine g_bipush (v := 7) dX17_number_45 (by decide) ?_
  refine g_iload_n 3 2 dX17_number_47 rfl rfl ?_
  refine g_imul dX17_number_48 ?_
  refine g_lshl dX17_number_49 ?_
  refine g_lor dX17_number_50 ?_
  refine g_nmJ (fun y1 => ?_)
  refine g_lstore_n 1 dX17_number_51 rfl (by decide) rfl ?_
  refine g_iload 3 dX17_number_52 rfl ?_
  refine g_sipush (v := 128) dX17_number_54 (by decide) ?_
  refine g_icmp_ge 62 dX17_number_57 (by decide) ?_ ?_
  · refine g_iincB (w := 1) 2 dX17_number_62 rfl (by decide) (by decide) (fun _ => rfl) (fun y2 => ?_)
    refine g_goto 4 dX17_number_65 (by decide) ?_
    refine G.sub [2, 1, 0] rfl ?_
    exact hrec4 _ _ _ _
  · refine g_lload_n 1 0 dX17_number_60 rfl rfl ?_
    exact g_lreturn rfl dX17_number_61
def V.Mdl_number_p4  : Nat → HS → Nat → Int64 → Int32 → Option ((Nat ⊕ Int64) × HS)
  | 0, _, _, _, _ => none
  | n + 1, σ, x0, x1, x3 =>
    if (5 : Int32) ≤ x3 then (
      some (.inr x1, σ))
    else (
      ck (tg σ x0 = 18) <| clT (Mdl_next σ x0 ) fun r2 σ1 =>
      if x3 = (4 : Int32) then (
        if r2 ≤ (15 : Int32) then (
          Mdl_number_p38 (Mdl_number_p4 n) σ1 x0 x1 x3 r2)
        else (
          ck (tg σ1 x0 = 18) <|
          ck (tg σ1 x0 = 18) <| clT (Mdl_stops σ1 x0 (4 : Int32) ((gI σ1 x0 11) - (1 : Int32))) fun _ σ3 =>
          Mdl_number_p38 (Mdl_number_p4 n) σ3 x0 x1 x3 r2))
      else (
        Mdl_number_p38 (Mdl_number_p4 n) σ1 x0 x1 x3 r2))
theorem V.gX17_number_p4 {X : CX}  : ∀ (n : Nat) (σ : HS) (x0 : Nat) (x1 : Int64) (x3 : Int32), G X RX17 "number" cX17_number 5 (some .long) 2 42 (enX enJ (cxz X)) 4 [(0, av x0), (1, jv x1), (3, iv x3)] [] σ (Mdl_number_p4 n σ x0 x1 x3)
  | 0, σ, x0, x1, x3 => by rw [Mdl_number_p4]; exact G.nul
  | n + 1, σ, x0, x1, x3 => by
    rw [Mdl_number_p4]
    refine g_iload_n 3 2 dX17_number_4 rfl rfl ?_
    refine g_iconst (v := 5) dX17_number_5 (by decide) ?_
    refine g_icmp_ge 68 dX17_number_6 (by decide) ?_ ?_
    · refine g_lload_n 1 1 dX17_number_68 rfl rfl ?_
      exact g_lreturn rfl dX17_number_69
    · refine g_aload_n 0 0 dX17_number_9 rfl rfl ?_
      refine g_callVT (fc := fun sς => Mdl_next sς x0 ) (ci := 17) (as := []) rfl rfl rfl q3602 qs213 q3600 mdX17_264 (ctX17_next x0 ) rfl (Nat.le_of_ble_eq_true rfl) (Nat.le_of_ble_eq_true rfl) (Nat.le_of_ble_eq_true rfl) pu_I (by decide) dX17_number_10 (fun r2 σ1 => ?_)
      refine g_istore dX17_number_13 (by decide) rfl ?_
      refine g_iload_n 3 3 dX17_number_15 rfl rfl ?_
      refine g_iconst (v := 4) dX17_number_16 (by decide) ?_
      refine g_icmp_ne 38 dX17_number_17 (by decide) ?_ ?_
      · refine G.sub [1, 2, 3, 0] rfl ?_
        exact gX17_number_p38 (Mdl_number_p4 n) (gX17_number_p4 n) _ _ _ _ _
      · refine g_iload 0 dX17_number_20 rfl ?_
        refine g_bipush (v := 15) dX17_number_22 (by decide) ?_
        refine g_icmp_le 38 dX17_number_24 (by decide) ?_ ?_
        · refine G.sub [1, 2, 3, 0] rfl ?_
          exact gX17_number_p38 (Mdl_number_p4 n) (gX17_number_p4 n) _ _ _ _ _
        · refine g_aload_n 0 1 dX17_number_27 rfl rfl ?_
          refine g_iconst (v := 4) dX17_number_28 (by decide) ?_
          refine g_aload_n 0 1 dX17_number_29 rfl rfl ?_
          refine g_getI fdX17_251 dX17_number_30 ?_
          refine g_iconst (v := 1) dX17_number_33 (by decide) ?_
          refine g_isub dX17_number_34 ?_
          refine g_callVT (fc := fun sς => Mdl_stops sς x0 (4 : Int32) ((gI σ1 x0 11) - (1 : Int32))) (ci := 17) (as := [iv (4 : Int32), iv ((gI σ1 x0 11) - (1 : Int32))]) rfl rfl rfl q3606 qs214 q3604 mdX17_257 (ctX17_stops x0 (4 : Int32) ((gI σ1 x0 11) - (1 : Int32))) rfl (Nat.le_of_ble_eq_true rfl) (Nat.le_of_ble_eq_true rfl) (Nat.le_of_ble_eq_true rfl) pu_V (by decide) dX17_number_35 (fun _ σ3 => ?_)
          refine G.sub [1, 2, 3, 0] rfl ?_
          exact gX17_number_p38 (Mdl_number_p4 n) (gX17_number_p4 n) _ _ _ _ _
def V.Mdl_number (σ : HS) (x0 : Nat) : Option ((Nat ⊕ Int64) × HS) :=
  Mdl_number_p4 FU σ x0 (0 : Int64) (0 : Int32)
theorem V.ctX17_number (x0 : Nat) : Ct yX17_number  cX17_number 5 (some .long) 2 42 eXJ [av x0] (fun σ => Mdl_number σ x0) := by
  refine Ct.of (own := RX17) (nm := "number") (desc := "()J") rfl (by decide) (Nat.le_of_ble_eq_true rfl) (by decide) (fun X σ => ?_)
  show G X RX17 "number" cX17_number 5 (some .long) 2 42 (enX enJ (cxz X)) 0 [(0, av x0)] [] σ (Mdl_number σ x0)
  unfold Mdl_number
  refine g_lconst (v := 0) dX17_number_0 (by decide) ?_
  refine g_lstore_n 1 dX17_number_1 rfl (by decide) rfl ?_
  refine g_iconst (v := 0) dX17_number_2 (by decide) ?_
  refine g_istore_n 3 dX17_number_3 rfl (by decide) rfl ?_
  refine G.sub [2, 1, 0] rfl ?_
  exact gX17_number_p4 FU _ _ _ _
theorem V.dX17_character_0 : decode cX17_character 0 = .ok (.aload_n 0, 1) := by decide +kernel
theorem V.dX17_character_1 : decode cX17_character 1 = .ok (.getfield 221, 3) := by decide +kernel
theorem V.dX17_character_4 : decode cX17_character 4 = .ok (.iload_n 1, 1) := by decide +kernel
theorem V.dX17_character_5 : decode cX17_character 5 = .ok (.invokevirtual 261, 3) := by decide +kernel
theorem V.dX17_character_8 : decode cX17_character 8 = .ok (.istore_n 3, 1) := by decide +kernel
theorem V.dX17_character_9 : decode cX17_character 9 = .ok (.iload_n 3, 1) := by decide +kernel
theorem V.dX17_character_10 : decode cX17_character 10 = .ok (.sipush 128, 3) := by decide +kernel
theorem V.dX17_character_13 : decode cX17_character 13 = .ok (.if_icmp .ge 7, 3) := by decide +kernel
theorem V.dX17_character_16 : decode cX17_character 16 = .ok (.iconst 0, 1) := by decide +kernel
theorem V.dX17_character_17 : decode cX17_character 17 = .ok (.goto 59, 3) := by decide +kernel
theorem V.dX17_character_20 : decode cX17_character 20 = .ok (.iload_n 3, 1) := by decide +kernel
theorem V.dX17_character_21 : decode cX17_character 21 = .ok (.sipush 192, 3) := by decide +kernel
theorem V.dX17_character_24 : decode cX17_character 24 = .ok (.if_icmp .lt 14, 3) := by decide +kernel
theorem V.dX17_character_27 : decode cX17_character 27 = .ok (.iload_n 3, 1) := by decide +kernel
theorem V.dX17_character_28 : decode cX17_character 28 = .ok (.sipush 224, 3) := by decide +kernel
theorem V.dX17_character_31 : decode cX17_character 31 = .ok (.if_icmp .ge 7, 3) := by decide +kernel
theorem V.dX17_character_34 : decode cX17_character 34 = .ok (.iconst 1, 1) := by decide +kernel
theorem V.dX17_character_35 : decode cX17_character 35 = .ok (.goto 41, 3) := by decide +kernel
theorem V.dX17_character_38 : decode cX17_character 38 = .ok (.iload_n 3, 1) := by decide +kernel
theorem V.dX17_character_39 : decode cX17_character 39 = .ok (.sipush 224, 3) := by decide +kernel
theorem V.dX17_character_42 : decode cX17_character 42 = .ok (.if_icmp .lt 14, 3) := by decide +kernel
theorem V.dX17_character_45 : decode cX17_character 45 = .ok (.iload_n 3, 1) := by decide +kernel
theorem V.dX17_character_46 : decode cX17_character 46 = .ok (.sipush 240, 3) := by decide +kernel
theorem V.dX17_character_49 : decode cX17_character 49 = .ok (.if_icmp .ge 7, 3) := by decide +kernel
theorem V.dX17_character_52 : decode cX17_character 52 = .ok (.iconst 2, 1) := by decide +kernel
theorem V.dX17_character_53 : decode cX17_character 53 = .ok (.goto 23, 3) := by decide +kernel
theorem V.dX17_character_56 : decode cX17_character 56 = .ok (.iload_n 3, 1) := by decide +kernel
theorem V.dX17_character_57 : decode cX17_character 57 = .ok (.sipush 240, 3) := by decide +kernel
theorem V.dX17_character_60 : decode cX17_character 60 = .ok (.if_icmp .lt 14, 3) := by decide +kernel
theorem V.dX17_character_63 : decode cX17_character 63 = .ok (.iload_n 3, 1) := by decide +kernel
theorem V.dX17_character_64 : decode cX17_character 64 = .ok (.sipush 248, 3) := by decide +kernel
theorem V.dX17_character_67 : decode cX17_character 67 = .ok (.if_icmp .ge 7, 3) := by decide +kernel
theorem V.dX17_character_70 : decode cX17_character 70 = .ok (.iconst 3, 1) := by decide +kernel
theorem V.dX17_character_71 : decode cX17_character 71 = .ok (.goto 5, 3) := by decide +kernel
theorem V.dX17_character_74 : decode cX17_character 74 = .ok (.bipush 9, 2) := by decide +kernel
theorem V.dX17_character_76 : decode cX17_character 76 = .ok (.istore 4, 2) := by decide +kernel
theorem V.dX17_character_78 : decode cX17_character 78 = .ok (.iload_n 1, 1) := by decide +kernel
theorem V.dX17_character_79 : decode cX17_character 79 = .ok (.iload 4, 2) := by decide +kernel
theorem V.dX17_character_81 : decode cX17_character 81 = .ok (.iadd, 1) := by decide +kernel
theorem V.dX17_character_82 : decode cX17_character 82 = .ok (.iload_n 2, 1) := by decide +kernel
theorem V.dX17_character_83 : decode cX17_character 83 = .ok (.if_icmp .lt 10, 3) := by decide +kernel
theorem V.dX17_character_86 : decode cX17_character 86 = .ok (.aload_n 0, 1) := by decide +kernel
theorem V.dX17_character_87 : decode cX17_character 87 = .ok (.bipush 9, 2) := by decide +kernel
theorem V.dX17_character_89 : decode cX17_character 89 = .ok (.iload_n 1, 1) := by decide +kernel
theorem V.dX17_character_90 : decode cX17_character 90 = .ok (.invokevirtual 257, 3) := by decide +kernel
theorem V.dX17_character_93 : decode cX17_character 93 = .ok (.iload 4, 2) := by decide +kernel
theorem V.dX17_character_95 : decode cX17_character 95 = .ok (.ifCond .ne 7, 3) := by decide +kernel
theorem V.dX17_character_98 : decode cX17_character 98 = .ok (.iload_n 3, 1) := by decide +kernel
theorem V.dX17_character_99 : decode cX17_character 99 = .ok (.goto 33, 3) := by decide +kernel
theorem V.dX17_character_102 : decode cX17_character 102 = .ok (.iload 4, 2) := by decide +kernel
theorem V.dX17_character_104 : decode cX17_character 104 = .ok (.iconst 1, 1) := by decide +kernel
theorem V.dX17_character_105 : decode cX17_character 105 = .ok (.if_icmp .ne 10, 3) := by decide +kernel
theorem V.dX17_character_108 : decode cX17_character 108 = .ok (.iload_n 3, 1) := by decide +kernel
theorem V.dX17_character_109 : decode cX17_character 109 = .ok (.bipush 31, 2) := by decide +kernel
theorem V.dX17_character_111 : decode cX17_character 111 = .ok (.iand, 1) := by decide +kernel
theorem V.dX17_character_112 : decode cX17_character 112 = .ok (.goto 20, 3) := by decide +kernel
theorem V.dX17_character_115 : decode cX17_character 115 = .ok (.iload 4, 2) := by decide +kernel
theorem V.dX17_character_117 : decode cX17_character 117 = .ok (.iconst 2, 1) := by decide +kernel
theorem V.dX17_character_118 : decode cX17_character 118 = .ok (.if_icmp .ne 10, 3) := by decide +kernel
theorem V.dX17_character_121 : decode cX17_character 121 = .ok (.iload_n 3, 1) := by decide +kernel
theorem V.dX17_character_122 : decode cX17_character 122 = .ok (.bipush 15, 2) := by decide +kernel
theorem V.dX17_character_124 : decode cX17_character 124 = .ok (.iand, 1) := by decide +kernel
theorem V.dX17_character_125 : decode cX17_character 125 = .ok (.goto 7, 3) := by decide +kernel
theorem V.dX17_character_128 : decode cX17_character 128 = .ok (.iload_n 3, 1) := by decide +kernel
theorem V.dX17_character_129 : decode cX17_character 129 = .ok (.bipush 7, 2) := by decide +kernel
theorem V.dX17_character_131 : decode cX17_character 131 = .ok (.iand, 1) := by decide +kernel
theorem V.dX17_character_132 : decode cX17_character 132 = .ok (.istore 5, 2) := by decide +kernel
theorem V.dX17_character_134 : decode cX17_character 134 = .ok (.iconst 1, 1) := by decide +kernel
theorem V.dX17_character_135 : decode cX17_character 135 = .ok (.istore 6, 2) := by decide +kernel
theorem V.dX17_character_137 : decode cX17_character 137 = .ok (.iload 6, 2) := by decide +kernel
theorem V.dX17_character_139 : decode cX17_character 139 = .ok (.iload 4, 2) := by decide +kernel
theorem V.dX17_character_141 : decode cX17_character 141 = .ok (.if_icmp .gt 51, 3) := by decide +kernel
theorem V.dX17_character_144 : decode cX17_character 144 = .ok (.aload_n 0, 1) := by decide +kernel
theorem V.dX17_character_145 : decode cX17_character 145 = .ok (.getfield 221, 3) := by decide +kernel
theorem V.dX17_character_148 : decode cX17_character 148 = .ok (.iload_n 1, 1) := by decide +kernel
theorem V.dX17_character_149 : decode cX17_character 149 = .ok (.iload 6, 2) := by decide +kernel
theorem V.dX17_character_151 : decode cX17_character 151 = .ok (.iadd, 1) := by decide +kernel
theorem V.dX17_character_152 : decode cX17_character 152 = .ok (.invokevirtual 261, 3) := by decide +kernel
theorem V.dX17_character_155 : decode cX17_character 155 = .ok (.istore 7, 2) := by decide +kernel
theorem V.dX17_character_157 : decode cX17_character 157 = .ok (.iload 7, 2) := by decide +kernel
theorem V.dX17_character_159 : decode cX17_character 159 = .ok (.bipush 6, 2) := by decide +kernel
theorem V.dX17_character_161 : decode cX17_character 161 = .ok (.ishr, 1) := by decide +kernel
theorem V.dX17_character_162 : decode cX17_character 162 = .ok (.iconst 2, 1) := by decide +kernel
theorem V.dX17_character_163 : decode cX17_character 163 = .ok (.if_icmp .eq 10, 3) := by decide +kernel
theorem V.dX17_character_166 : decode cX17_character 166 = .ok (.aload_n 0, 1) := by decide +kernel
theorem V.dX17_character_167 : decode cX17_character 167 = .ok (.bipush 9, 2) := by decide +kernel
theorem V.dX17_character_169 : decode cX17_character 169 = .ok (.iload_n 1, 1) := by decide +kernel
theorem V.dX17_character_170 : decode cX17_character 170 = .ok (.invokevirtual 257, 3) := by decide +kernel
theorem V.dX17_character_173 : decode cX17_character 173 = .ok (.iload 5, 2) := by decide +kernel
theorem V.dX17_character_175 : decode cX17_character 175 = .ok (.bipush 6, 2) := by decide +kernel
theorem V.dX17_character_177 : decode cX17_character 177 = .ok (.ishl, 1) := by decide +kernel
theorem V.dX17_character_178 : decode cX17_character 178 = .ok (.iload 7, 2) := by decide +kernel
theorem V.dX17_character_180 : decode cX17_character 180 = .ok (.bipush 63, 2) := by decide +kernel
theorem V.dX17_character_182 : decode cX17_character 182 = .ok (.iand, 1) := by decide +kernel
theorem V.dX17_character_183 : decode cX17_character 183 = .ok (.ior, 1) := by decide +kernel
theorem V.dX17_character_184 : decode cX17_character 184 = .ok (.istore 5, 2) := by decide +kernel
theorem V.dX17_character_186 : decode cX17_character 186 = .ok (.iinc 6 1, 3) := by decide +kernel
theorem V.dX17_character_189 : decode cX17_character 189 = .ok (.goto (-52), 3) := by decide +kernel
theorem V.dX17_character_192 : decode cX17_character 192 = .ok (.iload 4, 2) := by decide +kernel
theorem V.dX17_character_194 : decode cX17_character 194 = .ok (.ifCond .eq 69, 3) := by decide +kernel
theorem V.dX17_character_197 : decode cX17_character 197 = .ok (.iload 4, 2) := by decide +kernel
theorem V.dX17_character_199 : decode cX17_character 199 = .ok (.iconst 1, 1) := by decide +kernel
theorem V.dX17_character_200 : decode cX17_character 200 = .ok (.if_icmp .ne 11, 3) := by decide +kernel
theorem V.dX17_character_203 : decode cX17_character 203 = .ok (.iload 5, 2) := by decide +kernel
theorem V.dX17_character_205 : decode cX17_character 205 = .ok (.sipush 128, 3) := by decide +kernel
theorem V.dX17_character_208 : decode cX17_character 208 = .ok (.if_icmp .ge 55, 3) := by decide +kernel
theorem V.dX17_character_211 : decode cX17_character 211 = .ok (.iload 4, 2) := by decide +kernel
theorem V.dX17_character_213 : decode cX17_character 213 = .ok (.iconst 2, 1) := by decide +kernel
theorem V.dX17_character_214 : decode cX17_character 214 = .ok (.if_icmp .ne 27, 3) := by decide +kernel
theorem V.dX17_character_217 : decode cX17_character 217 = .ok (.iload 5, 2) := by decide +kernel
theorem V.dX17_character_219 : decode cX17_character 219 = .ok (.sipush 2048, 3) := by decide +kernel
theorem V.dX17_character_222 : decode cX17_character 222 = .ok (.if_icmp .lt 19, 3) := by decide +kernel
theorem V.dX17_character_225 : decode cX17_character 225 = .ok (.iload 5, 2) := by decide +kernel
theorem V.dX17_character_227 : decode cX17_character 227 = .ok (.ldc_w 288, 3) := by decide +kernel
theorem V.dX17_character_230 : decode cX17_character 230 = .ok (.if_icmp .lt 33, 3) := by decide +kernel
theorem V.dX17_character_233 : decode cX17_character 233 = .ok (.iload 5, 2) := by decide +kernel
theorem V.dX17_character_235 : decode cX17_character 235 = .ok (.ldc_w 289, 3) := by decide +kernel
theorem V.dX17_character_238 : decode cX17_character 238 = .ok (.if_icmp .gt 25, 3) := by decide +kernel
theorem V.dX17_character_241 : decode cX17_character 241 = .ok (.iload 4, 2) := by decide +kernel
theorem V.dX17_character_243 : decode cX17_character 243 = .ok (.iconst 3, 1) := by decide +kernel
theorem V.dX17_character_244 : decode cX17_character 244 = .ok (.if_icmp .ne 23, 3) := by decide +kernel
theorem V.dX17_character_247 : decode cX17_character 247 = .ok (.iload 5, 2) := by decide +kernel
theorem V.dX17_character_249 : decode cX17_character 249 = .ok (.ldc_w 290, 3) := by decide +kernel
theorem V.dX17_character_252 : decode cX17_character 252 = .ok (.if_icmp .lt 15, 3) := by decide +kernel
theorem V.dX17_character_255 : decode cX17_character 255 = .ok (.iload 5, 2) := by decide +kernel
theorem V.dX17_character_257 : decode cX17_character 257 = .ok (.ldc_w 291, 3) := by decide +kernel
theorem V.dX17_character_260 : decode cX17_character 260 = .ok (.if_icmp .gt 7, 3) := by decide +kernel
theorem V.dX17_character_263 : decode cX17_character 263 = .ok (.iconst 1, 1) := by decide +kernel
theorem V.dX17_character_264 : decode cX17_character 264 = .ok (.goto 4, 3) := by decide +kernel
theorem V.dX17_character_267 : decode cX17_character 267 = .ok (.iconst 0, 1) := by decide +kernel
theorem V.dX17_character_268 : decode cX17_character 268 = .ok (.istore 6, 2) := by decide +kernel
theorem V.dX17_character_270 : decode cX17_character 270 = .ok (.iload 6, 2) := by decide +kernel
theorem V.dX17_character_272 : decode cX17_character 272 = .ok (.ifCond .ne 10, 3) := by decide +kernel
theorem V.dX17_character_275 : decode cX17_character 275 = .ok (.aload_n 0, 1) := by decide +kernel
theorem V.dX17_character_276 : decode cX17_character 276 = .ok (.bipush 9, 2) := by decide +kernel
theorem V.dX17_character_278 : decode cX17_character 278 = .ok (.iload_n 1, 1) := by decide +kernel
theorem V.dX17_character_279 : decode cX17_character 279 = .ok (.invokevirtual 257, 3) := by decide +kernel
theorem V.dX17_character_282 : decode cX17_character 282 = .ok (.iload 4, 2) := by decide +kernel
theorem V.dX17_character_284 : decode cX17_character 284 = .ok (.iconst 1, 1) := by decide +kernel
theorem V.dX17_character_285 : decode cX17_character 285 = .ok (.iadd, 1) := by decide +kernel
theorem V.dX17_character_286 : decode cX17_character 286 = .ok (.ireturn, 1) := by decide +kernel
/-! ModuleEngineModel.character(II)I -/
def V.Mdl_character_p282  (σ : HS) (x4 : Int32) : Option ((Nat ⊕ Int32) × HS) :=
  some (.inr (x4 + (1 : Int32)), σ)
theorem V.gX17_character_p282 {X : CX}  (σ : HS) (x4 : Int32) : G X RX17 "character" cX17_character 8 (some .int) 1 22 (enX enI (cxz X)) 282 [(4, iv x4)] [] σ (Mdl_character_p282 σ x4) := by
  unfold Mdl_character_p282
  refine g_iload 0 dX17_character_282 rfl ?_
  refine g_iconst (v := 1) dX17_character_284 (by decide) ?_
  refine g_iadd dX17_character_285 ?_
  exact g_ireturn rfl dX17_character_286
def V.Mdl_character_p268  (σ : HS) (x0 : Nat) (x1 : Int32) (x4 : Int32) (s0 : Int32) : Option ((Nat ⊕ Int32) × HS) :=
  if s0 = 0 then (
    ck (tg σ x0 = 18) <| clT (Mdl_stops σ x0 (9 : Int32) x1) fun _ σ1 =>
    Mdl_character_p282 σ1 x4)
  else (
    Mdl_character_p282 σ x4)
theorem V.gX17_character_p268 {X : CX}  (σ : HS) (x0 : Nat) (x1 : Int32) (x4 : Int32) (s0 : Int32) : G X RX17 "character" cX17_character 8 (some .int) 1 22 (enX enI (cxz X)) 268 [(0, av x0), (1, iv x1), (4, iv x4)] [iv s0] σ (Mdl_character_p268 σ x0 x1 x4 s0) := by
  unfold Mdl_character_p268
  refine g_istore dX17_character_268 (by decide) rfl ?_
  refine g_iload 0 dX17_character_270 rfl ?_
  refine g_if_ne 282 dX17_character_272 (by decide) ?_ ?_
  · refine G.sub [3] rfl ?_
    exact gX17_character_p282 _ _
  · refine g_aload_n 0 1 dX17_character_275 rfl rfl ?_
    refine g_bipush (v := 9) dX17_character_276 (by decide) ?_
    refine g_iload_n 1 2 dX17_character_278 rfl rfl ?_
    refine g_callVT (fc := fun sς => Mdl_stops sς x0 (9 : Int32) x1) (ci := 17) (as := [iv (9 : Int32), iv x1]) rfl rfl rfl q3606 qs214 q3604 mdX17_257 (ctX17_stops x0 (9 : Int32) x1) rfl (Nat.le_of_ble_eq_true rfl) (Nat.le_of_ble_eq_true rfl) (Nat.le_of_ble_eq_true rfl) pu_V (by decide) dX17_character_279 (fun _ σ1 => ?_)
    refine G.sub [3] rfl ?_
    exact gX17_character_p282 _ _
def V.Mdl_character_p263  (σ : HS) (x0 : Nat) (x1 : Int32) (x4 : Int32) : Option ((Nat ⊕ Int32) × HS) :=
  Mdl_character_p268 σ x0 x1 x4 (1 : Int32)
theorem V.gX17_character_p263 {X : CX}  (σ : HS) (x0 : Nat) (x1 : Int32) (x4 : Int32) : G X RX17 "character" cX17_character 8 (some .int) 1 22 (enX enI (cxz X)) 263 [(0, av x0), (1, iv x1), (4, iv x4)] [] σ (Mdl_character_p263 σ x0 x1 x4) := by
  unfold Mdl_character_p263
  refine g_iconst (v := 1) dX17_character_263 (by decide) ?_
  refine g_goto 268 dX17_character_264 (by decide) ?_
  exact gX17_character_p268 _ _ _ _ _
def V.Mdl_character_p267  (σ : HS) (x0 : Nat) (x1 : Int32) (x4 : Int32) : Option ((Nat ⊕ Int32) × HS) :=
  Mdl_character_p268 σ x0 x1 x4 (0 : Int32)
theorem V.gX17_character_p267 {X : CX}  (σ : HS) (x0 : Nat) (x1 : Int32) (x4 : Int32) : G X RX17 "character" cX17_character 8 (some .int) 1 22 (enX enI (cxz X)) 267 [(0, av x0), (1, iv x1), (4, iv x4)] [] σ (Mdl_character_p267 σ x0 x1 x4) := by
  unfold Mdl_character_p267
  refine g_iconst (v := 0) dX17_character_267 (by decide) ?_
  exact gX17_character_p268 _ _ _ _ _
def V.Mdl_character_p241  (σ : HS) (x0 : Nat) (x1 : Int32) (x4 : Int32) (x5 : Int32) : Option ((Nat ⊕ Int32) × HS) :=
  if x4 = (3 : Int32) then (
    if x5 < (65536 : Int32) then (
      Mdl_character_p267 σ x0 x1 x4)
    else (
      if (1114111 : Int32) < x5 then (
        Mdl_character_p267 σ x0 x1 x4)
      else (
        Mdl_character_p263 σ x0 x1 x4)))
  else (
    Mdl_character_p267 σ x0 x1 x4)
theorem V.gX17_character_p241 {X : CX}  (σ : HS) (x0 : Nat) (x1 : Int32) (x4 : Int32) (x5 : Int32) : G X RX17 "character" cX17_character 8 (some .int) 1 22 (enX enI (cxz X)) 241 [(0, av x0), (1, iv x1), (4, iv x4), (5, iv x5)] [] σ (Mdl_character_p241 σ x0 x1 x4 x5) := by
  unfold Mdl_character_p241
  refine g_iload 2 dX17_character_241 rfl ?_
  refine g_iconst (v := 3) dX17_character_243 (by decide) ?_
  refine g_icmp_ne 267 dX17_character_244 (by decide) ?_ ?_
  · refine G.sub [0, 1, 2] rfl ?_
    exact gX17_character_p267 _ _ _ _
  · refine g_iload 3 dX17_character_247 rfl ?_
    refine g_ldcw q3635 dX17_character_249 ?_
    refine g_icmp_lt 267 dX17_character_252 (by decide) ?_ ?_
    · refine G.sub [0, 1, 2] rfl ?_
      exact gX17_character_p267 _ _ _ _
    · refine g_iload 3 dX17_character_255 rfl ?_
      refine g_ldcw q3636 dX17_character_257 ?_
      refine g_icmp_gt 267 dX17_character_260 (by decide) ?_ ?_
      · refine G.sub [0, 1, 2] rfl ?_
        exact gX17_character_p267 _ _ _ _
      · refine G.sub [0, 1, 2] rfl ?_
        exact gX17_character_p263 _ _ _ _
def V.Mdl_character_p211  (σ : HS) (x0 : Nat) (x1 : Int32) (x4 : Int32) (x5 : Int32) : Option ((Nat ⊕ Int32) × HS) :=
  if x4 = (2 : Int32) then (
    if x5 < (2048 : Int32) then (
      Mdl_character_p241 σ x0 x1 x4 x5)
    else (
      if x5 < (55296 : Int32) then (
        Mdl_character_p263 σ x0 x1 x4)
      else (
        if (57343 : Int32) < x5 then (
          Mdl_character_p263 σ x0 x1 x4)
        else (
          Mdl_character_p241 σ x0 x1 x4 x5))))
  else (
    Mdl_character_p241 σ x0 x1 x4 x5)
theorem V.gX17_character_p211 {X : CX}  (σ : HS) (x0 : Nat) (x1 : Int32) (x4 : Int32) (x5 : Int32) : G X RX17 "character" cX17_character 8 (some .int) 1 22 (enX enI (cxz X)) 211 [(0, av x0), (1, iv x1), (4, iv x4), (5, iv x5)] [] σ (Mdl_character_p211 σ x0 x1 x4 x5) := by
  unfold Mdl_character_p211
  refine g_iload 2 dX17_character_211 rfl ?_
  refine g_iconst (v := 2) dX17_character_213 (by decide) ?_
  refine g_icmp_ne 241 dX17_character_214 (by decide) ?_ ?_
  · exact gX17_character_p241 _ _ _ _ _
  · refine g_iload 3 dX17_character_217 rfl ?_
    refine g_sipush (v := 2048) dX17_character_219 (by decide) ?_
    refine g_icmp_lt 241 dX17_character_222 (by decide) ?_ ?_
    · exact gX17_character_p241 _ _ _ _ _
    · refine g_iload 3 dX17_character_225 rfl ?_
      refine g_ldcw q3633 dX17_character_227 ?_
      refine g_icmp_lt 263 dX17_character_230 (by decide) ?_ ?_
      · refine G.sub [0, 1, 2] rfl ?_
        exact gX17_character_p263 _ _ _ _
      · refine g_iload 3 dX17_character_233 rfl ?_
        refine g_ldcw q3634 dX17_character_235 ?_
        refine g_icmp_gt 263 dX17_character_238 (by decide) ?_ ?_
        · refine G.sub [0, 1, 2] rfl ?_
          exact gX17_character_p263 _ _ _ _
        · exact gX17_character_p241 _ _ _ _ _
def V.Mdl_character_p173 (rec137 : HS → Nat → Int32 → Int32 → Int32 → Int32 → Option ((Nat ⊕ Int32) × HS)) (σ : HS) (x0 : Nat) (x1 : Int32) (x4 : Int32) (x5 : Int32) (x6 : Int32) (x7 : Int32) : Option ((Nat ⊕ Int32) × HS) :=
  bn ((x5 <<< ((6 : Int32) &&& 31)) ||| (x7 &&& (63 : Int32))) fun y1 =>
  bn (x6 + (1 : Int32)) fun y2 =>
  rec137 σ x0 x1 x4 y1 y2
theorem V.gX17_character_p173 {X : CX} (rec137 : HS → Nat → Int32 → Int32 → Int32 → Int32 → Option ((Nat ⊕ Int32) × HS)) (hrec137 : ∀ (σ : HS) (x0 : Nat) (x1 : Int32) (x4 : Int32) (x5 : Int32) (x6 : Int32), G X RX17 "character" cX17_character 8 (some .int) 1 22 (enX enI (cxz X)) 137 [(0, av x0), (1, iv x1), (4, iv x4), (5, iv x5), (6, iv x6)] [] σ (rec137 σ x0 x1 x4 x5 x6)) (σ : HS) (x0 : Nat) (x1 : Int32) (x4 : Int32) (x5 : Int32) (x6 : Int32) (x7 : Int32) : G X RX17 "character" cX17_character 8 (some .int) 1 22 (enX enI (cxz X)) 173 [(0, av x0), (1, iv x1), (4, iv x4), (5, iv x5), (6, iv x6), (7, iv x7)] [] σ (Mdl_character_p173 rec137 σ x0 x1 x4 x5 x6 x7) := by
  unfold Mdl_character_p173
  refine g_iload 3 dX17_character_173 rfl ?_
  refine g_bipush (v := 6) dX17_character_175 (by decide) ?_
  refine g_ishl dX17_character_177 ?_
  refine g_iload 5 dX17_character_178 rfl ?_
  refine g_bipush (v := 63) dX17_character_180 (by decide) ?_
  refine g_iand dX17_character_182 ?_
  refine g_ior dX17_character_183 ?_
  refine g_nmI (fun y1 => ?_)
  refine g_istore dX17_character_184 (by decide) rfl ?_
  refine g_iincB (w := 1) 4 dX17_character_186 rfl (by decide) (by decide) (fun _ => rfl) (fun y2 => ?_)
  refine g_goto 137 dX17_character_189 (by decide) ?_
  refine G.sub [2, 3, 4, 1, 0] rfl ?_
  exact hrec137 _ _ _ _ _ _
def V.Mdl_character_p137  : Nat → HS → Nat → Int32 → Int32 → Int32 → Int32 → Option ((Nat ⊕ Int32) × HS)
  | 0, _, _, _, _, _, _ => none
  | n + 1, σ, x0, x1, x4, x5, x6 =>
    if x4 < x6 then (
      if x4 = 0 then (
        Mdl_character_p263 σ x0 x1 x4)
      else (
        if x4 = (1 : Int32) then (
          if (128 : Int32) ≤ x5 then (
            Mdl_character_p263 σ x0 x1 x4)
          else (
            Mdl_character_p211 σ x0 x1 x4 x5))
        else (
          Mdl_character_p211 σ x0 x1 x4 x5)))
    else (
      ck (tg σ x0 = 18) <|
      ck (tg σ (gR σ x0 10) = 21) <| cl (Pln_at σ (gR σ x0 10) (x1 + x6)) fun r2 σ1 =>
      if (r2 >>> ((6 : Int32) &&& 31)) = (2 : Int32) then (
        Mdl_character_p173 (Mdl_character_p137 n) σ1 x0 x1 x4 x5 x6 r2)
      else (
        ck (tg σ1 x0 = 18) <| clT (Mdl_stops σ1 x0 (9 : Int32) x1) fun _ σ3 =>
        Mdl_character_p173 (Mdl_character_p137 n) σ3 x0 x1 x4 x5 x6 r2))
theorem V.gX17_character_p137 {X : CX}  : ∀ (n : Nat) (σ : HS) (x0 : Nat) (x1 : Int32) (x4 : Int32) (x5 : Int32) (x6 : Int32), G X RX17 "character" cX17_character 8 (some .int) 1 22 (enX enI (cxz X)) 137 [(0, av x0), (1, iv x1), (4, iv x4), (5, iv x5), (6, iv x6)] [] σ (Mdl_character_p137 n σ x0 x1 x4 x5 x6)
  | 0, σ, x0, x1, x4, x5, x6 => by rw [Mdl_character_p137]; exact G.nul
  | n + 1, σ, x0, x1, x4, x5, x6 => by
    rw [Mdl_character_p137]
    refine g_iload 4 dX17_character_137 rfl ?_
    refine g_iload 2 dX17_character_139 rfl ?_
    refine g_icmp_gt 192 dX17_character_141 (by decide) ?_ ?_
    · refine g_iload 2 dX17_character_192 rfl ?_
      refine g_if_eq 263 dX17_character_194 (by decide) ?_ ?_
      · refine G.sub [0, 1, 2] rfl ?_
        exact gX17_character_p263 _ _ _ _
      · refine g_iload 2 dX17_character_197 rfl ?_
        refine g_iconst (v := 1) dX17_character_199 (by decide) ?_
        refine g_icmp_ne 211 dX17_character_200 (by decide) ?_ ?_
        · refine G.sub [0, 1, 2, 3] rfl ?_
          exact gX17_character_p211 _ _ _ _ _
        · refine g_iload 3 dX17_character_203 rfl ?_
          refine g_sipush (v := 128) dX17_character_205 (by decide) ?_
          refine g_icmp_ge 263 dX17_character_208 (by decide) ?_ ?_
          · refine G.sub [0, 1, 2] rfl ?_
            exact gX17_character_p263 _ _ _ _
          · refine G.sub [0, 1, 2, 3] rfl ?_
            exact gX17_character_p211 _ _ _ _ _
    · refine g_aload_n 0 0 dX17_character_144 rfl rfl ?_
      refine g_getR fdX17_221 dX17_character_145 ?_
      refine g_iload_n 1 1 dX17_character_148 rfl rfl ?_
      refine g_iload 4 dX17_character_149 rfl ?_
      refine g_iadd dX17_character_151 ?_
      refine g_callV (fc := fun sς => Pln_at sς (gR σ x0 10) (x1 + x6)) (ci := 20) (as := [iv (x1 + x6)]) rfl rfl rfl q3609 q3610 mdX17_261 (ctX20_at (gR σ x0 10) (x1 + x6)) rfl (Nat.le_of_ble_eq_true rfl) (Nat.le_of_ble_eq_true rfl) (Nat.le_of_ble_eq_true rfl) pu_I dX17_character_152 (fun r2 σ1 => ?_)
      refine g_istore dX17_character_155 (by decide) rfl ?_
      refine g_iload 0 dX17_character_157 rfl ?_
      refine g_bipush (v := 6) dX17_character_159 (by decide) ?_
      refine g_ishr dX17_character_161 ?_
      refine g_iconst (v := 2) dX17_character_162 (by decide) ?_
      refine g_icmp_eq 173 dX17_character_163 (by decide) ?_ ?_
      · refine G.sub [1, 2, 3, 4, 5, 0] rfl ?_
        exact gX17_character_p173 (Mdl_character_p137 n) (gX17_character_p137 n) _ _ _ _ _ _ _
      · refine g_aload_n 0 1 dX17_character_166 rfl rfl ?_
        refine g_bipush (v := 9) dX17_character_167 (by decide) ?_
        refine g_iload_n 1 2 dX17_character_169 rfl rfl ?_
        refine g_callVT (fc := fun sς => Mdl_stops sς x0 (9 : Int32) x1) (ci := 17) (as := [iv (9 : Int32), iv x1]) rfl rfl rfl q3606 qs214 q3604 mdX17_257 (ctX17_stops x0 (9 : Int32) x1) rfl (Nat.le_of_ble_eq_true rfl) (Nat.le_of_ble_eq_true rfl) (Nat.le_of_ble_eq_true rfl) pu_V (by decide) dX17_character_170 (fun _ σ3 => ?_)
        refine G.sub [1, 2, 3, 4, 5, 0] rfl ?_
        exact gX17_character_p173 (Mdl_character_p137 n) (gX17_character_p137 n) _ _ _ _ _ _ _
def V.Mdl_character_p132  (σ : HS) (x0 : Nat) (x1 : Int32) (x4 : Int32) (s0 : Int32) : Option ((Nat ⊕ Int32) × HS) :=
  Mdl_character_p137 FU σ x0 x1 x4 s0 (1 : Int32)
theorem V.gX17_character_p132 {X : CX}  (σ : HS) (x0 : Nat) (x1 : Int32) (x4 : Int32) (s0 : Int32) : G X RX17 "character" cX17_character 8 (some .int) 1 22 (enX enI (cxz X)) 132 [(0, av x0), (1, iv x1), (4, iv x4)] [iv s0] σ (Mdl_character_p132 σ x0 x1 x4 s0) := by
  unfold Mdl_character_p132
  refine g_istore dX17_character_132 (by decide) rfl ?_
  refine g_iconst (v := 1) dX17_character_134 (by decide) ?_
  refine g_istore dX17_character_135 (by decide) rfl ?_
  refine G.sub [2, 3, 4, 1, 0] rfl ?_
  exact gX17_character_p137 FU _ _ _ _ _ _
def V.Mdl_character_p93  (σ : HS) (x0 : Nat) (x1 : Int32) (x3 : Int32) (x4 : Int32) : Option ((Nat ⊕ Int32) × HS) :=
  if x4 = 0 then (
    Mdl_character_p132 σ x0 x1 x4 x3)
  else (
    if x4 = (1 : Int32) then (
      Mdl_character_p132 σ x0 x1 x4 (x3 &&& (31 : Int32)))
    else (
      if x4 = (2 : Int32) then (
        Mdl_character_p132 σ x0 x1 x4 (x3 &&& (15 : Int32)))
      else (
        Mdl_character_p132 σ x0 x1 x4 (x3 &&& (7 : Int32)))))
theorem V.gX17_character_p93 {X : CX}  (σ : HS) (x0 : Nat) (x1 : Int32) (x3 : Int32) (x4 : Int32) : G X RX17 "character" cX17_character 8 (some .int) 1 22 (enX enI (cxz X)) 93 [(0, av x0), (1, iv x1), (3, iv x3), (4, iv x4)] [] σ (Mdl_character_p93 σ x0 x1 x3 x4) := by
  unfold Mdl_character_p93
  refine g_iload 3 dX17_character_93 rfl ?_
  refine g_if_ne 102 dX17_character_95 (by decide) ?_ ?_
  · refine g_iload 3 dX17_character_102 rfl ?_
    refine g_iconst (v := 1) dX17_character_104 (by decide) ?_
    refine g_icmp_ne 115 dX17_character_105 (by decide) ?_ ?_
    · refine g_iload 3 dX17_character_115 rfl ?_
      refine g_iconst (v := 2) dX17_character_117 (by decide) ?_
      refine g_icmp_ne 128 dX17_character_118 (by decide) ?_ ?_
      · refine g_iload_n 3 2 dX17_character_128 rfl rfl ?_
        refine g_bipush (v := 7) dX17_character_129 (by decide) ?_
        refine g_iand dX17_character_131 ?_
        refine G.sub [0, 1, 3] rfl ?_
        exact gX17_character_p132 _ _ _ _ _
      · refine g_iload_n 3 2 dX17_character_121 rfl rfl ?_
        refine g_bipush (v := 15) dX17_character_122 (by decide) ?_
        refine g_iand dX17_character_124 ?_
        refine g_goto 132 dX17_character_125 (by decide) ?_
        refine G.sub [0, 1, 3] rfl ?_
        exact gX17_character_p132 _ _ _ _ _
    · refine g_iload_n 3 2 dX17_character_108 rfl rfl ?_
      refine g_bipush (v := 31) dX17_character_109 (by decide) ?_
      refine g_iand dX17_character_111 ?_
      refine g_goto 132 dX17_character_112 (by decide) ?_
      refine G.sub [0, 1, 3] rfl ?_
      exact gX17_character_p132 _ _ _ _ _
  · refine g_iload_n 3 2 dX17_character_98 rfl rfl ?_
    refine g_goto 132 dX17_character_99 (by decide) ?_
    refine G.sub [0, 1, 3] rfl ?_
    exact gX17_character_p132 _ _ _ _ _
def V.Mdl_character_p76  (σ : HS) (x0 : Nat) (x1 : Int32) (x2 : Int32) (x3 : Int32) (s0 : Int32) : Option ((Nat ⊕ Int32) × HS) :=
  if (x1 + s0) < x2 then (
    Mdl_character_p93 σ x0 x1 x3 s0)
  else (
    ck (tg σ x0 = 18) <| clT (Mdl_stops σ x0 (9 : Int32) x1) fun _ σ1 =>
    Mdl_character_p93 σ1 x0 x1 x3 s0)
theorem V.gX17_character_p76 {X : CX}  (σ : HS) (x0 : Nat) (x1 : Int32) (x2 : Int32) (x3 : Int32) (s0 : Int32) : G X RX17 "character" cX17_character 8 (some .int) 1 22 (enX enI (cxz X)) 76 [(0, av x0), (1, iv x1), (2, iv x2), (3, iv x3)] [iv s0] σ (Mdl_character_p76 σ x0 x1 x2 x3 s0) := by
  unfold Mdl_character_p76
  refine g_istore dX17_character_76 (by decide) rfl ?_
  refine g_iload_n 1 2 dX17_character_78 rfl rfl ?_
  refine g_iload 0 dX17_character_79 rfl ?_
  refine g_iadd dX17_character_81 ?_
  refine g_iload_n 2 3 dX17_character_82 rfl rfl ?_
  refine g_icmp_lt 93 dX17_character_83 (by decide) ?_ ?_
  · refine G.sub [1, 2, 4, 0] rfl ?_
    exact gX17_character_p93 _ _ _ _ _
  · refine g_aload_n 0 1 dX17_character_86 rfl rfl ?_
    refine g_bipush (v := 9) dX17_character_87 (by decide) ?_
    refine g_iload_n 1 2 dX17_character_89 rfl rfl ?_
    refine g_callVT (fc := fun sς => Mdl_stops sς x0 (9 : Int32) x1) (ci := 17) (as := [iv (9 : Int32), iv x1]) rfl rfl rfl q3606 qs214 q3604 mdX17_257 (ctX17_stops x0 (9 : Int32) x1) rfl (Nat.le_of_ble_eq_true rfl) (Nat.le_of_ble_eq_true rfl) (Nat.le_of_ble_eq_true rfl) pu_V (by decide) dX17_character_90 (fun _ σ1 => ?_)
    refine G.sub [1, 2, 4, 0] rfl ?_
    exact gX17_character_p93 _ _ _ _ _
def V.Mdl_character_p74  (σ : HS) (x0 : Nat) (x1 : Int32) (x2 : Int32) (x3 : Int32) : Option ((Nat ⊕ Int32) × HS) :=
  Mdl_character_p76 σ x0 x1 x2 x3 (9 : Int32)
theorem V.gX17_character_p74 {X : CX}  (σ : HS) (x0 : Nat) (x1 : Int32) (x2 : Int32) (x3 : Int32) : G X RX17 "character" cX17_character 8 (some .int) 1 22 (enX enI (cxz X)) 74 [(0, av x0), (1, iv x1), (2, iv x2), (3, iv x3)] [] σ (Mdl_character_p74 σ x0 x1 x2 x3) := by
  unfold Mdl_character_p74
  refine g_bipush (v := 9) dX17_character_74 (by decide) ?_
  exact gX17_character_p76 _ _ _ _ _ _
def V.Mdl_character_p56  (σ : HS) (x0 : Nat) (x1 : Int32) (x2 : Int32) (x3 : Int32) : Option ((Nat ⊕ Int32) × HS) :=
  if x3 < (240 : Int32) then (
    Mdl_character_p74 σ x0 x1 x2 x3)
  else (
    if (248 : Int32) ≤ x3 then (
      Mdl_character_p74 σ x0 x1 x2 x3)
    else (
      Mdl_character_p76 σ x0 x1 x2 x3 (3 : Int32)))
theorem V.gX17_character_p56 {X : CX}  (σ : HS) (x0 : Nat) (x1 : Int32) (x2 : Int32) (x3 : Int32) : G X RX17 "character" cX17_character 8 (some .int) 1 22 (enX enI (cxz X)) 56 [(0, av x0), (1, iv x1), (2, iv x2), (3, iv x3)] [] σ (Mdl_character_p56 σ x0 x1 x2 x3) := by
  unfold Mdl_character_p56
  refine g_iload_n 3 3 dX17_character_56 rfl rfl ?_
  refine g_sipush (v := 240) dX17_character_57 (by decide) ?_
  refine g_icmp_lt 74 dX17_character_60 (by decide) ?_ ?_
  · exact gX17_character_p74 _ _ _ _ _
  · refine g_iload_n 3 3 dX17_character_63 rfl rfl ?_
    refine g_sipush (v := 248) dX17_character_64 (by decide) ?_
    refine g_icmp_ge 74 dX17_character_67 (by decide) ?_ ?_
    · exact gX17_character_p74 _ _ _ _ _
    · refine g_iconst (v := 3) dX17_character_70 (by decide) ?_
      refine g_goto 76 dX17_character_71 (by decide) ?_
      exact gX17_character_p76 _ _ _ _ _ _
def V.Mdl_character_p38  (σ : HS) (x0 : Nat) (x1 : Int32) (x2 : Int32) (x3 : Int32) : Option ((Nat ⊕ Int32) × HS) :=
  if x3 < (224 : Int32) then (
    Mdl_character_p56 σ x0 x1 x2 x3)
  else (
    if (240 : Int32) ≤ x3 then (
      Mdl_character_p56 σ x0 x1 x2 x3)
    else (
      Mdl_character_p76 σ x0 x1 x2 x3 (2 : Int32)))
theorem V.gX17_character_p38 {X : CX}  (σ : HS) (x0 : Nat) (x1 : Int32) (x2 : Int32) (x3 : Int32) : G X RX17 "character" cX17_character 8 (some .int) 1 22 (enX enI (cxz X)) 38 [(0, av x0), (1, iv x1), (2, iv x2), (3, iv x3)] [] σ (Mdl_character_p38 σ x0 x1 x2 x3) := by
  unfold Mdl_character_p38
  refine g_iload_n 3 3 dX17_character_38 rfl rfl ?_
  refine g_sipush (v := 224) dX17_character_39 (by decide) ?_
  refine g_icmp_lt 56 dX17_character_42 (by decide) ?_ ?_
  · exact gX17_character_p56 _ _ _ _ _
  · refine g_iload_n 3 3 dX17_character_45 rfl rfl ?_
    refine g_sipush (v := 240) dX17_character_46 (by decide) ?_
    refine g_icmp_ge 56 dX17_character_49 (by decide) ?_ ?_
    · exact gX17_character_p56 _ _ _ _ _
    · refine g_iconst (v := 2) dX17_character_52 (by decide) ?_
      refine g_goto 76 dX17_character_53 (by decide) ?_
      exact gX17_character_p76 _ _ _ _ _ _
def V.Mdl_character (σ : HS) (x0 : Nat) (x1 : Int32) (x2 : Int32) : Option ((Nat ⊕ Int32) × HS) :=
  ck (tg σ x0 = 18) <|
  ck (tg σ (gR σ x0 10) = 21) <| cl (Pln_at σ (gR σ x0 10) x1) fun r2 σ1 =>
  if (128 : Int32) ≤ r2 then (
    if r2 < (192 : Int32) then (
      Mdl_character_p38 σ1 x0 x1 x2 r2)
    else (
      if (224 : Int32) ≤ r2 then (
        Mdl_character_p38 σ1 x0 x1 x2 r2)
      else (
        Mdl_character_p76 σ1 x0 x1 x2 r2 (1 : Int32))))
  else (
    Mdl_character_p76 σ1 x0 x1 x2 r2 (0 : Int32))
theorem V.ctX17_character (x0 : Nat) (x1 : Int32) (x2 : Int32) : Ct yX17_character  cX17_character 8 (some .int) 1 22 eXI [av x0, iv x1, iv x2] (fun σ => Mdl_character σ x0 x1 x2) := by
  refine Ct.of (own := RX17) (nm := "character") (desc := "(II)I") rfl (by decide) (Nat.le_of_ble_eq_true rfl) (by decide) (fun X σ => ?_)
  show G X RX17 "character" cX17_character 8 (some .int) 1 22 (enX enI (cxz X)) 0 [(0, av x0), (1, iv x1), (2, iv x2)] [] σ (Mdl_character σ x0 x1 x2)
  unfold Mdl_character
  refine g_aload_n 0 0 dX17_character_0 rfl rfl ?_
  refine g_getR fdX17_221 dX17_character_1 ?_
  refine g_iload_n 1 1 dX17_character_4 rfl rfl ?_
  refine g_callV (fc := fun sς => Pln_at sς (gR σ x0 10) x1) (ci := 20) (as := [iv x1]) rfl rfl rfl q3609 q3610 mdX17_261 (ctX20_at (gR σ x0 10) x1) rfl (Nat.le_of_ble_eq_true rfl) (Nat.le_of_ble_eq_true rfl) (Nat.le_of_ble_eq_true rfl) pu_I dX17_character_5 (fun r2 σ1 => ?_)
  refine g_istore_n 3 dX17_character_8 rfl (by decide) rfl ?_
  refine g_iload_n 3 0 dX17_character_9 rfl rfl ?_
  refine g_sipush (v := 128) dX17_character_10 (by decide) ?_
  refine g_icmp_ge 20 dX17_character_13 (by decide) ?_ ?_
  · refine g_iload_n 3 0 dX17_character_20 rfl rfl ?_
    refine g_sipush (v := 192) dX17_character_21 (by decide) ?_
    refine g_icmp_lt 38 dX17_character_24 (by decide) ?_ ?_
    · refine G.sub [1, 2, 3, 0] rfl ?_
      exact gX17_character_p38 _ _ _ _ _
    · refine g_iload_n 3 0 dX17_character_27 rfl rfl ?_
      refine g_sipush (v := 224) dX17_character_28 (by decide) ?_
      refine g_icmp_ge 38 dX17_character_31 (by decide) ?_ ?_
      · refine G.sub [1, 2, 3, 0] rfl ?_
        exact gX17_character_p38 _ _ _ _ _
      · refine g_iconst (v := 1) dX17_character_34 (by decide) ?_
        refine g_goto 76 dX17_character_35 (by decide) ?_
        refine G.sub [1, 2, 3, 0] rfl ?_
        exact gX17_character_p76 _ _ _ _ _ _
  · refine g_iconst (v := 0) dX17_character_16 (by decide) ?_
    refine g_goto 76 dX17_character_17 (by decide) ?_
    refine G.sub [1, 2, 3, 0] rfl ?_
    exact gX17_character_p76 _ _ _ _ _ _
theorem V.dX17_name_0 : decode cX17_name 0 = .ok (.aload_n 0, 1) := by decide +kernel
theorem V.dX17_name_1 : decode cX17_name 1 = .ok (.invokevirtual 277, 3) := by decide +kernel
theorem V.dX17_name_4 : decode cX17_name 4 = .ok (.lstore_n 1, 1) := by decide +kernel
theorem V.dX17_name_5 : decode cX17_name 5 = .ok (.aload_n 0, 1) := by decide +kernel
theorem V.dX17_name_6 : decode cX17_name 6 = .ok (.aload_n 0, 1) := by decide +kernel
theorem V.dX17_name_7 : decode cX17_name 7 = .ok (.getfield 251, 3) := by decide +kernel
theorem V.dX17_name_10 : decode cX17_name 10 = .ok (.putfield 281, 3) := by decide +kernel
theorem V.dX17_name_13 : decode cX17_name 13 = .ok (.lconst 0, 1) := by decide +kernel
theorem V.dX17_name_14 : decode cX17_name 14 = .ok (.lstore_n 3, 1) := by decide +kernel
theorem V.dX17_name_15 : decode cX17_name 15 = .ok (.lload_n 3, 1) := by decide +kernel
theorem V.dX17_name_16 : decode cX17_name 16 = .ok (.lload_n 1, 1) := by decide +kernel
theorem V.dX17_name_17 : decode cX17_name 17 = .ok (.lcmp, 1) := by decide +kernel
theorem V.dX17_name_18 : decode cX17_name 18 = .ok (.ifCond .ge 16, 3) := by decide +kernel
theorem V.dX17_name_21 : decode cX17_name 21 = .ok (.aload_n 0, 1) := by decide +kernel
theorem V.dX17_name_22 : decode cX17_name 22 = .ok (.invokevirtual 264, 3) := by decide +kernel
theorem V.dX17_name_25 : decode cX17_name 25 = .ok (.istore 5, 2) := by decide +kernel
theorem V.dX17_name_27 : decode cX17_name 27 = .ok (.lload_n 3, 1) := by decide +kernel
theorem V.dX17_name_28 : decode cX17_name 28 = .ok (.lconst 1, 1) := by decide +kernel
theorem V.dX17_name_29 : decode cX17_name 29 = .ok (.ladd, 1) := by decide +kernel
theorem V.dX17_name_30 : decode cX17_name 30 = .ok (.lstore_n 3, 1) := by decide +kernel
theorem V.dX17_name_31 : decode cX17_name 31 = .ok (.goto (-16), 3) := by decide +kernel
theorem V.dX17_name_34 : decode cX17_name 34 = .ok (.aload_n 0, 1) := by decide +kernel
theorem V.dX17_name_35 : decode cX17_name 35 = .ok (.getfield 281, 3) := by decide +kernel
theorem V.dX17_name_38 : decode cX17_name 38 = .ok (.istore_n 3, 1) := by decide +kernel
theorem V.dX17_name_39 : decode cX17_name 39 = .ok (.iload_n 3, 1) := by decide +kernel
theorem V.dX17_name_40 : decode cX17_name 40 = .ok (.aload_n 0, 1) := by decide +kernel
theorem V.dX17_name_41 : decode cX17_name 41 = .ok (.getfield 251, 3) := by decide +kernel
theorem V.dX17_name_44 : decode cX17_name 44 = .ok (.if_icmp .ge 18, 3) := by decide +kernel
theorem V.dX17_name_47 : decode cX17_name 47 = .ok (.iload_n 3, 1) := by decide +kernel
theorem V.dX17_name_48 : decode cX17_name 48 = .ok (.aload_n 0, 1) := by decide +kernel
theorem V.dX17_name_49 : decode cX17_name 49 = .ok (.iload_n 3, 1) := by decide +kernel
theorem V.dX17_name_50 : decode cX17_name 50 = .ok (.aload_n 0, 1) := by decide +kernel
theorem V.dX17_name_51 : decode cX17_name 51 = .ok (.getfield 251, 3) := by decide +kernel
theorem V.dX17_name_54 : decode cX17_name 54 = .ok (.invokevirtual 284, 3) := by decide +kernel
theorem V.dX17_name_57 : decode cX17_name 57 = .ok (.iadd, 1) := by decide +kernel
theorem V.dX17_name_58 : decode cX17_name 58 = .ok (.istore_n 3, 1) := by decide +kernel
theorem V.dX17_name_59 : decode cX17_name 59 = .ok (.goto (-20), 3) := by decide +kernel
theorem V.dX17_name_62 : decode cX17_name 62 = .ok (.return_, 1) := by decide +kernel
theorem V.mdX17_277 : MD RX17 277 yX17_number cX17_number 5 (some .long) 0 := ⟨Or.inl q3617, q377, q3620, by decide, by decide, by decide +kernel⟩
theorem V.fpX17_281 {nm : String} : FP RX17 nm 281 17 16 (.int) := ⟨(RX17, TX17, 101), tyX17, rfl, rfl, in_X17, by decide, tyX17_ok, nmX17, rfl, Or.inl ⟨rfl, Or.inl q3052⟩⟩
theorem V.fdX17_281 : FD RX17 281 17 16 0 := ⟨(RX17, TX17, 101), tyX17, rfl, rfl, in_X17, by decide, Or.inl q3052, rfl⟩
theorem V.mdX17_284 : MD RX17 284 yX17_character cX17_character 8 (some .int) 2 := ⟨Or.inl q3629, q377, q3632, by decide, by decide, by decide +kernel⟩
/-! ModuleEngineModel.name()V -/
def V.Mdl_name_p39  : Nat → HS → Nat → Int32 → Option ((Nat ⊕ Unit) × HS)
  | 0, _, _, _ => none
  | n + 1, σ, x0, x3 =>
    ck (tg σ x0 = 18) <|
    if (gI σ x0 11) ≤ x3 then (
      some (.inr (), σ))
    else (
      ck (tg σ x0 = 18) <|
      ck (tg σ x0 = 18) <| clT (Mdl_character σ x0 x3 (gI σ x0 11)) fun r2 σ1 =>
      bn (x3 + r2) fun y3 =>
      Mdl_name_p39 n σ1 x0 y3)
theorem V.gX17_name_p39 {X : CX}  : ∀ (n : Nat) (σ : HS) (x0 : Nat) (x3 : Int32), G X RX17 "name" cX17_name 6 none 3 66 (enX enV (cxz X)) 39 [(0, av x0), (3, iv x3)] [] σ (Mdl_name_p39 n σ x0 x3)
  | 0, σ, x0, x3 => by rw [Mdl_name_p39]; exact G.nul
  | n + 1, σ, x0, x3 => by
    rw [Mdl_name_p39]
    refine g_iload_n 3 1 dX17_name_39 rfl rfl ?_
    refine g_aload_n 0 0 dX17_name_40 rfl rfl ?_
    refine g_getI fdX17_251 dX17_name_41 ?_
    refine g_icmp_ge 62 dX17_name_44 (by decide) ?_ ?_
    · exact g_return rfl dX17_name_62
    · refine g_iload_n 3 1 dX17_name_47 rfl rfl ?_
      refine g_aload_n 0 0 dX17_name_48 rfl rfl ?_
      refine g_iload_n 3 1 dX17_name_49 rfl rfl ?_
      refine g_aload_n 0 0 dX17_name_50 rfl rfl ?_
      refine g_getI fdX17_251 dX17_name_51 ?_
      refine g_callVT (fc := fun sς => Mdl_character sς x0 x3 (gI σ x0 11)) (ci := 17) (as := [iv x3, iv (gI σ x0 11)]) rfl rfl rfl q3631 qs218 q3629 mdX17_284 (ctX17_character x0 x3 (gI σ x0 11)) rfl (Nat.le_of_ble_eq_true rfl) (Nat.le_of_ble_eq_true rfl) (Nat.le_of_ble_eq_true rfl) pu_I (by decide) dX17_name_54 (fun r2 σ1 => ?_)
      refine g_iadd dX17_name_57 ?_
      refine g_nmI (fun y3 => ?_)
      refine g_istore_n 3 dX17_name_58 rfl (by decide) rfl ?_
      refine g_goto 39 dX17_name_59 (by decide) ?_
      refine G.sub [1, 0] rfl ?_
      exact gX17_name_p39 n _ _ _
def V.Mdl_name_p15  : Nat → HS → Nat → Int64 → Int64 → Option ((Nat ⊕ Unit) × HS)
  | 0, _, _, _, _ => none
  | n + 1, σ, x0, x1, x3 =>
    if x1 ≤ x3 then (
      ck (tg σ x0 = 18) <|
      bn (gI σ x0 16) fun y1 =>
      Mdl_name_p39 FU σ x0 y1)
    else (
      ck (tg σ x0 = 18) <| clT (Mdl_next σ x0 ) fun r3 σ2 =>
      bn (x3 + (1 : Int64)) fun y4 =>
      Mdl_name_p15 n σ2 x0 x1 y4)
theorem V.gX17_name_p15 {X : CX}  : ∀ (n : Nat) (σ : HS) (x0 : Nat) (x1 : Int64) (x3 : Int64), G X RX17 "name" cX17_name 6 none 3 66 (enX enV (cxz X)) 15 [(0, av x0), (1, jv x1), (3, jv x3)] [] σ (Mdl_name_p15 n σ x0 x1 x3)
  | 0, σ, x0, x1, x3 => by rw [Mdl_name_p15]; exact G.nul
  | n + 1, σ, x0, x1, x3 => by
    rw [Mdl_name_p15]
    refine g_lload_n 3 2 dX17_name_15 rfl rfl ?_
    refine g_lload_n 1 1 dX17_name_16 rfl rfl ?_
    refine g_lcmp_ge 34 dX17_name_17 dX17_name_18 (by decide) ?_ ?_
    · refine g_aload_n 0 0 dX17_name_34 rfl rfl ?_
      refine g_getI fdX17_281 dX17_name_35 ?_
      refine g_nmI (fun y1 => ?_)
      refine g_istore_n 3 dX17_name_38 rfl (by decide) rfl ?_
      refine G.sub [1, 0] rfl ?_
      exact gX17_name_p39 FU _ _ _
    · refine g_aload_n 0 0 dX17_name_21 rfl rfl ?_
      refine g_callVT (fc := fun sς => Mdl_next sς x0 ) (ci := 17) (as := []) rfl rfl rfl q3602 qs213 q3600 mdX17_264 (ctX17_next x0 ) rfl (Nat.le_of_ble_eq_true rfl) (Nat.le_of_ble_eq_true rfl) (Nat.le_of_ble_eq_true rfl) pu_I (by decide) dX17_name_22 (fun r3 σ2 => ?_)
      refine g_istore dX17_name_25 (by decide) rfl ?_
      refine g_lload_n 3 3 dX17_name_27 rfl rfl ?_
      refine g_lconst (v := 1) dX17_name_28 (by decide) ?_
      refine g_ladd dX17_name_29 ?_
      refine g_nmJ (fun y4 => ?_)
      refine g_lstore_n 3 dX17_name_30 rfl (by decide) rfl ?_
      refine g_goto 15 dX17_name_31 (by decide) ?_
      refine G.sub [2, 3, 0] rfl ?_
      exact gX17_name_p15 n _ _ _ _
def V.Mdl_name (σ : HS) (x0 : Nat) : Option ((Nat ⊕ Unit) × HS) :=
  ck (tg σ x0 = 18) <| clT (Mdl_number σ x0 ) fun r2 σ1 =>
  ck (tg σ1 x0 = 18) <|
  ck (tg σ1 x0 = 18) <| bn (sI σ1 x0 16 (gI σ1 x0 11)) fun σ3 =>
  Mdl_name_p15 FU σ3 x0 r2 (0 : Int64)
theorem V.ctX17_name (x0 : Nat) : Ct yX17_name  cX17_name 6 none 3 66 eXV [av x0] (fun σ => Mdl_name σ x0) := by
  refine Ct.of (own := RX17) (nm := "name") (desc := "()V") rfl (by decide) (Nat.le_of_ble_eq_true rfl) (by decide) (fun X σ => ?_)
  show G X RX17 "name" cX17_name 6 none 3 66 (enX enV (cxz X)) 0 [(0, av x0)] [] σ (Mdl_name σ x0)
  unfold Mdl_name
  refine g_aload_n 0 0 dX17_name_0 rfl rfl ?_
  refine g_callVT (fc := fun sς => Mdl_number sς x0 ) (ci := 17) (as := []) rfl rfl rfl q3619 qs215 q3617 mdX17_277 (ctX17_number x0 ) rfl (Nat.le_of_ble_eq_true rfl) (Nat.le_of_ble_eq_true rfl) (Nat.le_of_ble_eq_true rfl) pu_J (by decide) dX17_name_1 (fun r2 σ1 => ?_)
  refine g_lstore_n 1 dX17_name_4 rfl (by decide) rfl ?_
  refine g_aload_n 0 1 dX17_name_5 rfl rfl ?_
  refine g_aload_n 0 1 dX17_name_6 rfl rfl ?_
  refine g_getI fdX17_251 dX17_name_7 ?_
  refine g_putI fpX17_281 dX17_name_10 (fun σ3 => ?_)
  refine g_lconst (v := 0) dX17_name_13 (by decide) ?_
  refine g_lstore_n 3 dX17_name_14 rfl (by decide) rfl ?_
  refine G.sub [2, 1, 0] rfl ?_
  exact gX17_name_p15 FU _ _ _ _
theorem V.dX17_exceeds_0 : decode cX17_exceeds 0 = .ok (.iload_n 1, 1) := by decide +kernel
theorem V.dX17_exceeds_1 : decode cX17_exceeds 1 = .ok (.ifCond .eq 24, 3) := by decide +kernel
theorem V.dX17_exceeds_4 : decode cX17_exceeds 4 = .ok (.aload_n 0, 1) := by decide +kernel
theorem V.dX17_exceeds_5 : decode cX17_exceeds 5 = .ok (.getfield 221, 3) := by decide +kernel
theorem V.dX17_exceeds_8 : decode cX17_exceeds 8 = .ok (.getfield 360, 3) := by decide +kernel
theorem V.dX17_exceeds_11 : decode cX17_exceeds 11 = .ok (.ifCond .ge 14, 3) := by decide +kernel
theorem V.dX17_exceeds_14 : decode cX17_exceeds 14 = .ok (.aload_n 0, 1) := by decide +kernel
theorem V.dX17_exceeds_15 : decode cX17_exceeds 15 = .ok (.getfield 221, 3) := by decide +kernel
theorem V.dX17_exceeds_18 : decode cX17_exceeds 18 = .ok (.aload_n 0, 1) := by decide +kernel
theorem V.dX17_exceeds_19 : decode cX17_exceeds 19 = .ok (.getfield 305, 3) := by decide +kernel
theorem V.dX17_exceeds_22 : decode cX17_exceeds 22 = .ok (.putfield 360, 3) := by decide +kernel
theorem V.dX17_exceeds_25 : decode cX17_exceeds 25 = .ok (.return_, 1) := by decide +kernel
theorem V.fdX17_360 : FD RX17 360 20 3 0 := ⟨(RX20, TX20, 58), tyX20, rfl, rfl, in_X20, by decide, Or.inr ⟨_, q3366⟩, rfl⟩
theorem V.fdX17_305 : FD RX17 305 17 13 0 := ⟨(RX17, TX17, 101), tyX17, rfl, rfl, in_X17, by decide, Or.inl q3049, rfl⟩
theorem V.fpX17_360 {nm : String} : FP RX17 nm 360 20 3 (.int) := ⟨(RX20, TX20, 58), tyX20, rfl, rfl, in_X20, by decide, tyX20_ok, nmX20, rfl, Or.inl ⟨rfl, Or.inr ⟨_, q3366⟩⟩⟩
/-! ModuleEngineModel.exceeds(Z)V -/
def V.Mdl_exceeds (σ : HS) (x0 : Nat) (x1 : Int32) : Option (Unit × HS) :=
  if x1 = 0 then (
    some ((), σ))
  else (
    ck (tg σ x0 = 18) <|
    ck (tg σ (gR σ x0 10) = 21) <|
    if 0 ≤ (gI σ (gR σ x0 10) 3) then (
      some ((), σ))
    else (
      ck (tg σ x0 = 18) <|
      ck (tg σ x0 = 18) <|
      ck (tg σ (gR σ x0 10) = 21) <| bn (sI σ (gR σ x0 10) 3 (gI σ x0 13)) fun σ1 =>
      some ((), σ1)))
theorem V.ctX17_exceeds (x0 : Nat) (x1 : Int32) : Ct yX17_exceeds  cX17_exceeds 2 none 0 0 eV [av x0, iv x1] (fun σ => Mdl_exceeds σ x0 x1) := by
  refine Ct.of (own := RX17) (nm := "exceeds") (desc := "(Z)V") rfl (by decide) (Nat.le_of_ble_eq_true rfl) (by decide) (fun X σ => ?_)
  show G X RX17 "exceeds" cX17_exceeds 2 none 0 0 enV 0 [(0, av x0), (1, iv x1)] [] σ (Mdl_exceeds σ x0 x1)
  unfold Mdl_exceeds
  refine g_iload_n 1 1 dX17_exceeds_0 rfl rfl ?_
  refine g_if_eq 25 dX17_exceeds_1 (by decide) ?_ ?_
  · exact g_return rfl dX17_exceeds_25
  · refine g_aload_n 0 0 dX17_exceeds_4 rfl rfl ?_
    refine g_getR fdX17_221 dX17_exceeds_5 ?_
    refine g_getI fdX17_360 dX17_exceeds_8 ?_
    refine g_if_ge 25 dX17_exceeds_11 (by decide) ?_ ?_
    · exact g_return rfl dX17_exceeds_25
    · refine g_aload_n 0 0 dX17_exceeds_14 rfl rfl ?_
      refine g_getR fdX17_221 dX17_exceeds_15 ?_
      refine g_aload_n 0 0 dX17_exceeds_18 rfl rfl ?_
      refine g_getI fdX17_305 dX17_exceeds_19 ?_
      refine g_putI fpX17_360 dX17_exceeds_22 (fun σ1 => ?_)
      exact g_return rfl dX17_exceeds_25
theorem V.dX17_kept_0 : decode cX17_kept 0 = .ok (.aload_n 0, 1) := by decide +kernel
theorem V.dX17_kept_1 : decode cX17_kept 1 = .ok (.lload_n 1, 1) := by decide +kernel
theorem V.dX17_kept_2 : decode cX17_kept 2 = .ok (.ldc2_w 363, 3) := by decide +kernel
theorem V.dX17_kept_5 : decode cX17_kept 5 = .ok (.lcmp, 1) := by decide +kernel
theorem V.dX17_kept_6 : decode cX17_kept 6 = .ok (.ifCond .le 7, 3) := by decide +kernel
theorem V.dX17_kept_9 : decode cX17_kept 9 = .ok (.iconst 1, 1) := by decide +kernel
theorem V.dX17_kept_10 : decode cX17_kept 10 = .ok (.goto 4, 3) := by decide +kernel
theorem V.dX17_kept_13 : decode cX17_kept 13 = .ok (.iconst 0, 1) := by decide +kernel
theorem V.dX17_kept_14 : decode cX17_kept 14 = .ok (.invokevirtual 365, 3) := by decide +kernel
theorem V.dX17_kept_17 : decode cX17_kept 17 = .ok (.lload_n 1, 1) := by decide +kernel
theorem V.dX17_kept_18 : decode cX17_kept 18 = .ok (.ldc2_w 363, 3) := by decide +kernel
theorem V.dX17_kept_21 : decode cX17_kept 21 = .ok (.lcmp, 1) := by decide +kernel
theorem V.dX17_kept_22 : decode cX17_kept 22 = .ok (.ifCond .le 8, 3) := by decide +kernel
theorem V.dX17_kept_25 : decode cX17_kept 25 = .ok (.bipush 64, 2) := by decide +kernel
theorem V.dX17_kept_27 : decode cX17_kept 27 = .ok (.goto 5, 3) := by decide +kernel
theorem V.dX17_kept_30 : decode cX17_kept 30 = .ok (.lload_n 1, 1) := by decide +kernel
theorem V.dX17_kept_31 : decode cX17_kept 31 = .ok (.l2i, 1) := by decide +kernel
theorem V.dX17_kept_32 : decode cX17_kept 32 = .ok (.ireturn, 1) := by decide +kernel
theorem V.mdX17_365 : MD RX17 365 yX17_exceeds cX17_exceeds 2 none 1 := ⟨Or.inl q3646, q377, q3649, by decide, by decide, by decide +kernel⟩
/-! ModuleEngineModel.kept(J)I -/
def V.Mdl_kept_p14  (σ : HS) (x1 : Int64) (s0 : Int32) (s1 : Nat) : Option (Int32 × HS) :=
  ck (tg σ s1 = 18) <| cl (Mdl_exceeds σ s1 s0) fun _ σ1 =>
  if x1 ≤ (64 : Int64) then (
    some (x1.toInt32, σ1))
  else (
    some ((64 : Int32), σ1))
theorem V.gX17_kept_p14 {X : CX}  (σ : HS) (x1 : Int64) (s0 : Int32) (s1 : Nat) : G X RX17 "kept" cX17_kept 3 (some .int) 1 21 enI 14 [(1, jv x1)] [iv s0, av s1] σ (Mdl_kept_p14 σ x1 s0 s1) := by
  unfold Mdl_kept_p14
  refine g_callV (fc := fun sς => Mdl_exceeds sς s1 s0) (ci := 17) (as := [iv s0]) rfl rfl rfl q3648 qs221 mdX17_365 (ctX17_exceeds s1 s0) rfl (Nat.le_of_ble_eq_true rfl) (Nat.le_of_ble_eq_true rfl) (Nat.le_of_ble_eq_true rfl) pu_V dX17_kept_14 (fun _ σ1 => ?_)
  refine g_lload_n 1 0 dX17_kept_17 rfl rfl ?_
  refine g_ldc2 q3645 dX17_kept_18 ?_
  refine g_lcmp_le 30 dX17_kept_21 dX17_kept_22 (by decide) ?_ ?_
  · refine g_lload_n 1 0 dX17_kept_30 rfl rfl ?_
    refine g_l2i dX17_kept_31 ?_
    exact g_ireturn rfl dX17_kept_32
  · refine g_bipush (v := 64) dX17_kept_25 (by decide) ?_
    refine g_goto 32 dX17_kept_27 (by decide) ?_
    exact g_ireturn rfl dX17_kept_32
def V.Mdl_kept (σ : HS) (x0 : Nat) (x1 : Int64) : Option (Int32 × HS) :=
  if x1 ≤ (64 : Int64) then (
    Mdl_kept_p14 σ x1 (0 : Int32) x0)
  else (
    Mdl_kept_p14 σ x1 (1 : Int32) x0)
theorem V.ctX17_kept (x0 : Nat) (x1 : Int64) : Ct yX17_kept  cX17_kept 3 (some .int) 1 21 eI [av x0, jv x1] (fun σ => Mdl_kept σ x0 x1) := by
  refine Ct.of (own := RX17) (nm := "kept") (desc := "(J)I") rfl (by decide) (Nat.le_of_ble_eq_true rfl) (by decide) (fun X σ => ?_)
  show G X RX17 "kept" cX17_kept 3 (some .int) 1 21 enI 0 [(0, av x0), (1, jv x1)] [] σ (Mdl_kept σ x0 x1)
  unfold Mdl_kept
  refine g_aload_n 0 0 dX17_kept_0 rfl rfl ?_
  refine g_lload_n 1 1 dX17_kept_1 rfl rfl ?_
  refine g_ldc2 q3645 dX17_kept_2 ?_
  refine g_lcmp_le 13 dX17_kept_5 dX17_kept_6 (by decide) ?_ ?_
  · refine g_iconst (v := 0) dX17_kept_13 (by decide) ?_
    refine G.sub [1] rfl ?_
    exact gX17_kept_p14 _ _ _ _
  · refine g_iconst (v := 1) dX17_kept_9 (by decide) ?_
    refine g_goto 14 dX17_kept_10 (by decide) ?_
    refine G.sub [1] rfl ?_
    exact gX17_kept_p14 _ _ _ _
theorem V.dX17_isReference_0 : decode cX17_isReference 0 = .ok (.iload_n 0, 1) := by decide +kernel
theorem V.dX17_isReference_1 : decode cX17_isReference 1 = .ok (.bipush 112, 2) := by decide +kernel
theorem V.dX17_isReference_3 : decode cX17_isReference 3 = .ok (.if_icmp .eq 9, 3) := by decide +kernel
theorem V.dX17_isReference_6 : decode cX17_isReference 6 = .ok (.iload_n 0, 1) := by decide +kernel
theorem V.dX17_isReference_7 : decode cX17_isReference 7 = .ok (.bipush 111, 2) := by decide +kernel
theorem V.dX17_isReference_9 : decode cX17_isReference 9 = .ok (.if_icmp .ne 7, 3) := by decide +kernel
theorem V.dX17_isReference_12 : decode cX17_isReference 12 = .ok (.iconst 1, 1) := by decide +kernel
theorem V.dX17_isReference_13 : decode cX17_isReference 13 = .ok (.goto 4, 3) := by decide +kernel
theorem V.dX17_isReference_16 : decode cX17_isReference 16 = .ok (.iconst 0, 1) := by decide +kernel
theorem V.dX17_isReference_17 : decode cX17_isReference 17 = .ok (.ireturn, 1) := by decide +kernel
/-! ModuleEngineModel.isReference(I)Z -/
def V.Mdl_isReference_p12  (σ : HS)  : Option (Int32 × HS) :=
  some ((1 : Int32), σ)
theorem V.gX17_isReference_p12 {X : CX}  (σ : HS)  : G X RX17 "isReference" cX17_isReference 1 (some .boolean) 0 0 enI 12 [] [] σ (Mdl_isReference_p12 σ ) := by
  unfold Mdl_isReference_p12
  refine g_iconst (v := 1) dX17_isReference_12 (by decide) ?_
  refine g_goto 17 dX17_isReference_13 (by decide) ?_
  exact g_zreturn rfl (by decide +kernel) dX17_isReference_17
def V.Mdl_isReference (σ : HS) (x0 : Int32) : Option (Int32 × HS) :=
  if x0 = (112 : Int32) then (
    Mdl_isReference_p12 σ)
  else (
    if x0 = (111 : Int32) then (
      Mdl_isReference_p12 σ)
    else (
      some ((0 : Int32), σ)))
theorem V.ctX17_isReference (x0 : Int32) : Ct yX17_isReference  cX17_isReference 1 (some .boolean) 0 0 eI [iv x0] (fun σ => Mdl_isReference σ x0) := by
  refine Ct.of (own := RX17) (nm := "isReference") (desc := "(I)Z") rfl (by decide) (Nat.le_of_ble_eq_true rfl) (by decide) (fun X σ => ?_)
  show G X RX17 "isReference" cX17_isReference 1 (some .boolean) 0 0 enI 0 [(0, iv x0)] [] σ (Mdl_isReference σ x0)
  unfold Mdl_isReference
  refine g_iload_n 0 0 dX17_isReference_0 rfl rfl ?_
  refine g_bipush (v := 112) dX17_isReference_1 (by decide) ?_
  refine g_icmp_eq 12 dX17_isReference_3 (by decide) ?_ ?_
  · refine G.sub [] rfl ?_
    exact gX17_isReference_p12 _
  · refine g_iload_n 0 0 dX17_isReference_6 rfl rfl ?_
    refine g_bipush (v := 111) dX17_isReference_7 (by decide) ?_
    refine g_icmp_ne 16 dX17_isReference_9 (by decide) ?_ ?_
    · refine g_iconst (v := 0) dX17_isReference_16 (by decide) ?_
      exact g_zreturn rfl (by decide +kernel) dX17_isReference_17
    · refine G.sub [] rfl ?_
      exact gX17_isReference_p12 _
theorem V.dX17_isType_0 : decode cX17_isType 0 = .ok (.iload_n 0, 1) := by decide +kernel
theorem V.dX17_isType_1 : decode cX17_isType 1 = .ok (.invokestatic 270, 3) := by decide +kernel
theorem V.dX17_isType_4 : decode cX17_isType 4 = .ok (.ifCond .ne 15, 3) := by decide +kernel
theorem V.dX17_isType_7 : decode cX17_isType 7 = .ok (.iload_n 0, 1) := by decide +kernel
theorem V.dX17_isType_8 : decode cX17_isType 8 = .ok (.bipush 124, 2) := by decide +kernel
theorem V.dX17_isType_10 : decode cX17_isType 10 = .ok (.if_icmp .lt 13, 3) := by decide +kernel
theorem V.dX17_isType_13 : decode cX17_isType 13 = .ok (.iload_n 0, 1) := by decide +kernel
theorem V.dX17_isType_14 : decode cX17_isType 14 = .ok (.bipush 127, 2) := by decide +kernel
theorem V.dX17_isType_16 : decode cX17_isType 16 = .ok (.if_icmp .gt 7, 3) := by decide +kernel
theorem V.dX17_isType_19 : decode cX17_isType 19 = .ok (.iconst 1, 1) := by decide +kernel
theorem V.dX17_isType_20 : decode cX17_isType 20 = .ok (.goto 4, 3) := by decide +kernel
theorem V.dX17_isType_23 : decode cX17_isType 23 = .ok (.iconst 0, 1) := by decide +kernel
theorem V.dX17_isType_24 : decode cX17_isType 24 = .ok (.ireturn, 1) := by decide +kernel
theorem V.mdX17_270 : MD RX17 270 yX17_isReference cX17_isReference 1 (some .boolean) 1 := ⟨Or.inl q3662, q377, q3664, by decide, by decide, by decide +kernel⟩
/-! ModuleEngineModel.isType(I)Z -/
def V.Mdl_isType_p19  (σ : HS)  : Option (Int32 × HS) :=
  some ((1 : Int32), σ)
theorem V.gX17_isType_p19 {X : CX}  (σ : HS)  : G X RX17 "isType" cX17_isType 1 (some .boolean) 1 20 enI 19 [] [] σ (Mdl_isType_p19 σ ) := by
  unfold Mdl_isType_p19
  refine g_iconst (v := 1) dX17_isType_19 (by decide) ?_
  refine g_goto 24 dX17_isType_20 (by decide) ?_
  exact g_zreturn rfl (by decide +kernel) dX17_isType_24
def V.Mdl_isType (σ : HS) (x0 : Int32) : Option (Int32 × HS) :=
  cl (Mdl_isReference σ x0) fun r2 σ1 =>
  if r2 = 0 then (
    if x0 < (124 : Int32) then (
      some ((0 : Int32), σ1))
    else (
      if (127 : Int32) < x0 then (
        some ((0 : Int32), σ1))
      else (
        Mdl_isType_p19 σ1)))
  else (
    Mdl_isType_p19 σ1)
theorem V.ctX17_isType (x0 : Int32) : Ct yX17_isType  cX17_isType 1 (some .boolean) 1 20 eI [iv x0] (fun σ => Mdl_isType σ x0) := by
  refine Ct.of (own := RX17) (nm := "isType") (desc := "(I)Z") rfl (by decide) (Nat.le_of_ble_eq_true rfl) (by decide) (fun X σ => ?_)
  show G X RX17 "isType" cX17_isType 1 (some .boolean) 1 20 enI 0 [(0, iv x0)] [] σ (Mdl_isType σ x0)
  unfold Mdl_isType
  refine g_iload_n 0 0 dX17_isType_0 rfl rfl ?_
  refine g_callS (fc := fun sς => Mdl_isReference sς x0) (as := [iv x0]) q3663 mdX17_270 (ctX17_isReference x0) rfl (Nat.le_of_ble_eq_true rfl) (Nat.le_of_ble_eq_true rfl) (Nat.le_of_ble_eq_true rfl) pu_I dX17_isType_1 (fun r2 σ1 => ?_)
  refine g_if_ne 19 dX17_isType_4 (by decide) ?_ ?_
  · refine G.sub [] rfl ?_
    exact gX17_isType_p19 _
  · refine g_iload_n 0 0 dX17_isType_7 rfl rfl ?_
    refine g_bipush (v := 124) dX17_isType_8 (by decide) ?_
    refine g_icmp_lt 23 dX17_isType_10 (by decide) ?_ ?_
    · refine g_iconst (v := 0) dX17_isType_23 (by decide) ?_
      exact g_zreturn rfl (by decide +kernel) dX17_isType_24
    · refine g_iload_n 0 0 dX17_isType_13 rfl rfl ?_
      refine g_bipush (v := 127) dX17_isType_14 (by decide) ?_
      refine g_icmp_gt 23 dX17_isType_16 (by decide) ?_ ?_
      · refine g_iconst (v := 0) dX17_isType_23 (by decide) ?_
        exact g_zreturn rfl (by decide +kernel) dX17_isType_24
      · refine G.sub [] rfl ?_
        exact gX17_isType_p19 _
theorem V.dX17_type_0 : decode cX17_type 0 = .ok (.aload_n 0, 1) := by decide +kernel
theorem V.dX17_type_1 : decode cX17_type 1 = .ok (.invokevirtual 264, 3) := by decide +kernel
theorem V.dX17_type_4 : decode cX17_type 4 = .ok (.istore_n 1, 1) := by decide +kernel
theorem V.dX17_type_5 : decode cX17_type 5 = .ok (.iload_n 1, 1) := by decide +kernel
theorem V.dX17_type_6 : decode cX17_type 6 = .ok (.invokestatic 274, 3) := by decide +kernel
theorem V.dX17_type_9 : decode cX17_type 9 = .ok (.ifCond .ne 15, 3) := by decide +kernel
theorem V.dX17_type_12 : decode cX17_type 12 = .ok (.aload_n 0, 1) := by decide +kernel
theorem V.dX17_type_13 : decode cX17_type 13 = .ok (.bipush 8, 2) := by decide +kernel
theorem V.dX17_type_15 : decode cX17_type 15 = .ok (.aload_n 0, 1) := by decide +kernel
theorem V.dX17_type_16 : decode cX17_type 16 = .ok (.getfield 251, 3) := by decide +kernel
theorem V.dX17_type_19 : decode cX17_type 19 = .ok (.iconst 1, 1) := by decide +kernel
theorem V.dX17_type_20 : decode cX17_type 20 = .ok (.isub, 1) := by decide +kernel
theorem V.dX17_type_21 : decode cX17_type 21 = .ok (.invokevirtual 257, 3) := by decide +kernel
theorem V.dX17_type_24 : decode cX17_type 24 = .ok (.iload_n 1, 1) := by decide +kernel
theorem V.dX17_type_25 : decode cX17_type 25 = .ok (.ireturn, 1) := by decide +kernel
theorem V.mdX17_274 : MD RX17 274 yX17_isType cX17_isType 1 (some .boolean) 1 := ⟨Or.inl q3659, q377, q3661, by decide, by decide, by decide +kernel⟩
/-! ModuleEngineModel.type()I -/
def V.Mdl_type (σ : HS) (x0 : Nat) : Option ((Nat ⊕ Int32) × HS) :=
  ck (tg σ x0 = 18) <| clT (Mdl_next σ x0 ) fun r2 σ1 =>
  cl (Mdl_isType σ1 r2) fun r4 σ3 =>
  if r4 = 0 then (
    ck (tg σ3 x0 = 18) <|
    ck (tg σ3 x0 = 18) <| clT (Mdl_stops σ3 x0 (8 : Int32) ((gI σ3 x0 11) - (1 : Int32))) fun _ σ5 =>
    some (.inr r2, σ5))
  else (
    some (.inr r2, σ3))
theorem V.ctX17_type (x0 : Nat) : Ct yX17_type  cX17_type 2 (some .int) 2 42 eXI [av x0] (fun σ => Mdl_type σ x0) := by
  refine Ct.of (own := RX17) (nm := "type") (desc := "()I") rfl (by decide) (Nat.le_of_ble_eq_true rfl) (by decide) (fun X σ => ?_)
  show G X RX17 "type" cX17_type 2 (some .int) 2 42 (enX enI (cxz X)) 0 [(0, av x0)] [] σ (Mdl_type σ x0)
  unfold Mdl_type
  refine g_aload_n 0 0 dX17_type_0 rfl rfl ?_
  refine g_callVT (fc := fun sς => Mdl_next sς x0 ) (ci := 17) (as := []) rfl rfl rfl q3602 qs213 q3600 mdX17_264 (ctX17_next x0 ) rfl (Nat.le_of_ble_eq_true rfl) (Nat.le_of_ble_eq_true rfl) (Nat.le_of_ble_eq_true rfl) pu_I (by decide) dX17_type_1 (fun r2 σ1 => ?_)
  refine g_istore_n 1 dX17_type_4 rfl (by decide) rfl ?_
  refine g_iload_n 1 0 dX17_type_5 rfl rfl ?_
  refine g_callS (fc := fun sς => Mdl_isType sς r2) (as := [iv r2]) q3660 mdX17_274 (ctX17_isType r2) rfl (Nat.le_of_ble_eq_true rfl) (Nat.le_of_ble_eq_true rfl) (Nat.le_of_ble_eq_true rfl) pu_I dX17_type_6 (fun r4 σ3 => ?_)
  refine g_if_ne 24 dX17_type_9 (by decide) ?_ ?_
  · refine g_iload_n 1 0 dX17_type_24 rfl rfl ?_
    exact g_ireturn rfl dX17_type_25
  · refine g_aload_n 0 1 dX17_type_12 rfl rfl ?_
    refine g_bipush (v := 8) dX17_type_13 (by decide) ?_
    refine g_aload_n 0 1 dX17_type_15 rfl rfl ?_
    refine g_getI fdX17_251 dX17_type_16 ?_
    refine g_iconst (v := 1) dX17_type_19 (by decide) ?_
    refine g_isub dX17_type_20 ?_
    refine g_callVT (fc := fun sς => Mdl_stops sς x0 (8 : Int32) ((gI σ3 x0 11) - (1 : Int32))) (ci := 17) (as := [iv (8 : Int32), iv ((gI σ3 x0 11) - (1 : Int32))]) rfl rfl rfl q3606 qs214 q3604 mdX17_257 (ctX17_stops x0 (8 : Int32) ((gI σ3 x0 11) - (1 : Int32))) rfl (Nat.le_of_ble_eq_true rfl) (Nat.le_of_ble_eq_true rfl) (Nat.le_of_ble_eq_true rfl) pu_V (by decide) dX17_type_21 (fun _ σ5 => ?_)
    refine g_iload_n 1 0 dX17_type_24 rfl rfl ?_
    exact g_ireturn rfl dX17_type_25
theorem V.dX17_typeRow_0 : decode cX17_typeRow 0 = .ok (.aload_n 0, 1) := by decide +kernel
theorem V.dX17_typeRow_1 : decode cX17_typeRow 1 = .ok (.invokevirtual 277, 3) := by decide +kernel
theorem V.dX17_typeRow_4 : decode cX17_typeRow 4 = .ok (.lstore_n 2, 1) := by decide +kernel
theorem V.dX17_typeRow_5 : decode cX17_typeRow 5 = .ok (.aload_n 0, 1) := by decide +kernel
theorem V.dX17_typeRow_6 : decode cX17_typeRow 6 = .ok (.lload_n 2, 1) := by decide +kernel
theorem V.dX17_typeRow_7 : decode cX17_typeRow 7 = .ok (.ldc2_w 369, 3) := by decide +kernel
theorem V.dX17_typeRow_10 : decode cX17_typeRow 10 = .ok (.lcmp, 1) := by decide +kernel
theorem V.dX17_typeRow_11 : decode cX17_typeRow 11 = .ok (.ifCond .le 7, 3) := by decide +kernel
theorem V.dX17_typeRow_14 : decode cX17_typeRow 14 = .ok (.iconst 1, 1) := by decide +kernel
theorem V.dX17_typeRow_15 : decode cX17_typeRow 15 = .ok (.goto 4, 3) := by decide +kernel
theorem V.dX17_typeRow_18 : decode cX17_typeRow 18 = .ok (.iconst 0, 1) := by decide +kernel
theorem V.dX17_typeRow_19 : decode cX17_typeRow 19 = .ok (.invokevirtual 365, 3) := by decide +kernel
theorem V.dX17_typeRow_22 : decode cX17_typeRow 22 = .ok (.lconst 0, 1) := by decide +kernel
theorem V.dX17_typeRow_23 : decode cX17_typeRow 23 = .ok (.lstore 4, 2) := by decide +kernel
theorem V.dX17_typeRow_25 : decode cX17_typeRow 25 = .ok (.lload 4, 2) := by decide +kernel
theorem V.dX17_typeRow_27 : decode cX17_typeRow 27 = .ok (.lload_n 2, 1) := by decide +kernel
theorem V.dX17_typeRow_28 : decode cX17_typeRow 28 = .ok (.lcmp, 1) := by decide +kernel
theorem V.dX17_typeRow_29 : decode cX17_typeRow 29 = .ok (.ifCond .ge 46, 3) := by decide +kernel
theorem V.dX17_typeRow_32 : decode cX17_typeRow 32 = .ok (.aload_n 0, 1) := by decide +kernel
theorem V.dX17_typeRow_33 : decode cX17_typeRow 33 = .ok (.invokevirtual 371, 3) := by decide +kernel
theorem V.dX17_typeRow_36 : decode cX17_typeRow 36 = .ok (.istore 6, 2) := by decide +kernel
theorem V.dX17_typeRow_38 : decode cX17_typeRow 38 = .ok (.iload_n 1, 1) := by decide +kernel
theorem V.dX17_typeRow_39 : decode cX17_typeRow 39 = .ok (.ifCond .lt 27, 3) := by decide +kernel
theorem V.dX17_typeRow_42 : decode cX17_typeRow 42 = .ok (.lload 4, 2) := by decide +kernel
theorem V.dX17_typeRow_44 : decode cX17_typeRow 44 = .ok (.ldc2_w 369, 3) := by decide +kernel
theorem V.dX17_typeRow_47 : decode cX17_typeRow 47 = .ok (.lcmp, 1) := by decide +kernel
theorem V.dX17_typeRow_48 : decode cX17_typeRow 48 = .ok (.ifCond .ge 18, 3) := by decide +kernel
theorem V.dX17_typeRow_51 : decode cX17_typeRow 51 = .ok (.aload_n 0, 1) := by decide +kernel
theorem V.dX17_typeRow_52 : decode cX17_typeRow 52 = .ok (.getfield 221, 3) := by decide +kernel
theorem V.dX17_typeRow_55 : decode cX17_typeRow 55 = .ok (.getfield 374, 3) := by decide +kernel
theorem V.dX17_typeRow_58 : decode cX17_typeRow 58 = .ok (.iload_n 1, 1) := by decide +kernel
theorem V.dX17_typeRow_59 : decode cX17_typeRow 59 = .ok (.lload 4, 2) := by decide +kernel
theorem V.dX17_typeRow_61 : decode cX17_typeRow 61 = .ok (.l2i, 1) := by decide +kernel
theorem V.dX17_typeRow_62 : decode cX17_typeRow 62 = .ok (.iadd, 1) := by decide +kernel
theorem V.dX17_typeRow_63 : decode cX17_typeRow 63 = .ok (.iload 6, 2) := by decide +kernel
theorem V.dX17_typeRow_65 : decode cX17_typeRow 65 = .ok (.iastore, 1) := by decide +kernel
theorem V.dX17_typeRow_66 : decode cX17_typeRow 66 = .ok (.lload 4, 2) := by decide +kernel
theorem V.dX17_typeRow_68 : decode cX17_typeRow 68 = .ok (.lconst 1, 1) := by decide +kernel
theorem V.dX17_typeRow_69 : decode cX17_typeRow 69 = .ok (.ladd, 1) := by decide +kernel
theorem V.dX17_typeRow_70 : decode cX17_typeRow 70 = .ok (.lstore 4, 2) := by decide +kernel
theorem V.dX17_typeRow_72 : decode cX17_typeRow 72 = .ok (.goto (-47), 3) := by decide +kernel
theorem V.dX17_typeRow_75 : decode cX17_typeRow 75 = .ok (.lload_n 2, 1) := by decide +kernel
theorem V.dX17_typeRow_76 : decode cX17_typeRow 76 = .ok (.ldc2_w 369, 3) := by decide +kernel
theorem V.dX17_typeRow_79 : decode cX17_typeRow 79 = .ok (.lcmp, 1) := by decide +kernel
theorem V.dX17_typeRow_80 : decode cX17_typeRow 80 = .ok (.ifCond .le 8, 3) := by decide +kernel
theorem V.dX17_typeRow_83 : decode cX17_typeRow 83 = .ok (.bipush 16, 2) := by decide +kernel
theorem V.dX17_typeRow_85 : decode cX17_typeRow 85 = .ok (.goto 5, 3) := by decide +kernel
theorem V.dX17_typeRow_88 : decode cX17_typeRow 88 = .ok (.lload_n 2, 1) := by decide +kernel
theorem V.dX17_typeRow_89 : decode cX17_typeRow 89 = .ok (.l2i, 1) := by decide +kernel
theorem V.dX17_typeRow_90 : decode cX17_typeRow 90 = .ok (.ireturn, 1) := by decide +kernel
theorem V.mdX17_371 : MD RX17 371 yX17_type cX17_type 2 (some .int) 0 := ⟨Or.inl q3655, q377, q3658, by decide, by decide, by decide +kernel⟩
theorem V.fdX17_374 : FD RX17 374 20 7 2 := ⟨(RX20, TX20, 58), tyX20, rfl, rfl, in_X20, by decide, Or.inr ⟨_, q3374⟩, rfl⟩
/-! ModuleEngineModel.typeRow(I)I -/
def V.Mdl_typeRow_p66 (rec25 : HS → Nat → Int32 → Int64 → Int64 → Option ((Nat ⊕ Int32) × HS)) (σ : HS) (x0 : Nat) (x1 : Int32) (x2 : Int64) (x4 : Int64) : Option ((Nat ⊕ Int32) × HS) :=
  bn (x4 + (1 : Int64)) fun y1 =>
  rec25 σ x0 x1 x2 y1
theorem V.gX17_typeRow_p66 {X : CX} (rec25 : HS → Nat → Int32 → Int64 → Int64 → Option ((Nat ⊕ Int32) × HS)) (hrec25 : ∀ (σ : HS) (x0 : Nat) (x1 : Int32) (x2 : Int64) (x4 : Int64), G X RX17 "typeRow" cX17_typeRow 7 (some .int) 3 66 (enX enI (cxz X)) 25 [(0, av x0), (1, iv x1), (2, jv x2), (4, jv x4)] [] σ (rec25 σ x0 x1 x2 x4)) (σ : HS) (x0 : Nat) (x1 : Int32) (x2 : Int64) (x4 : Int64) : G X RX17 "typeRow" cX17_typeRow 7 (some .int) 3 66 (enX enI (cxz X)) 66 [(0, av x0), (1, iv x1), (2, jv x2), (4, jv x4)] [] σ (Mdl_typeRow_p66 rec25 σ x0 x1 x2 x4) := by
  unfold Mdl_typeRow_p66
  refine g_lload 3 dX17_typeRow_66 rfl ?_
  refine g_lconst (v := 1) dX17_typeRow_68 (by decide) ?_
  refine g_ladd dX17_typeRow_69 ?_
  refine g_nmJ (fun y1 => ?_)
  refine g_lstore dX17_typeRow_70 (by decide) rfl ?_
  refine g_goto 25 dX17_typeRow_72 (by decide) ?_
  refine G.sub [1, 2, 3, 0] rfl ?_
  exact hrec25 _ _ _ _ _
def V.Mdl_typeRow_p25  : Nat → HS → Nat → Int32 → Int64 → Int64 → Option ((Nat ⊕ Int32) × HS)
  | 0, _, _, _, _, _ => none
  | n + 1, σ, x0, x1, x2, x4 =>
    if x2 ≤ x4 then (
      if x2 ≤ (16 : Int64) then (
        some (.inr x2.toInt32, σ))
      else (
        some (.inr (16 : Int32), σ)))
    else (
      ck (tg σ x0 = 18) <| clT (Mdl_type σ x0 ) fun r2 σ1 =>
      if x1 < 0 then (
        Mdl_typeRow_p66 (Mdl_typeRow_p25 n) σ1 x0 x1 x2 x4)
      else (
        if (16 : Int64) ≤ x4 then (
          Mdl_typeRow_p66 (Mdl_typeRow_p25 n) σ1 x0 x1 x2 x4)
        else (
          ck (tg σ1 x0 = 18) <|
          ck (tg σ1 (gR σ1 x0 10) = 21) <|
          ck (tg σ1 (gR σ1 (gR σ1 x0 10) 7) = 100 ∧ inb (x1 + x4.toInt32) (ln σ1 (gR σ1 (gR σ1 x0 10) 7))) <| bn (sI σ1 (gR σ1 (gR σ1 x0 10) 7) (ix (x1 + x4.toInt32)) r2) fun σ3 =>
          Mdl_typeRow_p66 (Mdl_typeRow_p25 n) σ3 x0 x1 x2 x4)))
theorem V.gX17_typeRow_p25 {X : CX}  : ∀ (n : Nat) (σ : HS) (x0 : Nat) (x1 : Int32) (x2 : Int64) (x4 : Int64), G X RX17 "typeRow" cX17_typeRow 7 (some .int) 3 66 (enX enI (cxz X)) 25 [(0, av x0), (1, iv x1), (2, jv x2), (4, jv x4)] [] σ (Mdl_typeRow_p25 n σ x0 x1 x2 x4)
  | 0, σ, x0, x1, x2, x4 => by rw [Mdl_typeRow_p25]; exact G.nul
  | n + 1, σ, x0, x1, x2, x4 => by
    rw [Mdl_typeRow_p25]
    refine g_lload 3 dX17_typeRow_25 rfl ?_
    refine g_lload_n 2 2 dX17_typeRow_27 rfl rfl ?_
    refine g_lcmp_ge 75 dX17_typeRow_28 dX17_typeRow_29 (by decide) ?_ ?_
    · refine g_lload_n 2 2 dX17_typeRow_75 rfl rfl ?_
      refine g_ldc2 q3654 dX17_typeRow_76 ?_
      refine g_lcmp_le 88 dX17_typeRow_79 dX17_typeRow_80 (by decide) ?_ ?_
      · refine g_lload_n 2 2 dX17_typeRow_88 rfl rfl ?_
        refine g_l2i dX17_typeRow_89 ?_
        exact g_ireturn rfl dX17_typeRow_90
      · refine g_bipush (v := 16) dX17_typeRow_83 (by decide) ?_
        refine g_goto 90 dX17_typeRow_85 (by decide) ?_
        exact g_ireturn rfl dX17_typeRow_90
    · refine g_aload_n 0 0 dX17_typeRow_32 rfl rfl ?_
      refine g_callVT (fc := fun sς => Mdl_type sς x0 ) (ci := 17) (as := []) rfl rfl rfl q3657 qs223 q3655 mdX17_371 (ctX17_type x0 ) rfl (Nat.le_of_ble_eq_true rfl) (Nat.le_of_ble_eq_true rfl) (Nat.le_of_ble_eq_true rfl) pu_I (by decide) dX17_typeRow_33 (fun r2 σ1 => ?_)
      refine g_istore dX17_typeRow_36 (by decide) rfl ?_
      refine g_iload_n 1 2 dX17_typeRow_38 rfl rfl ?_
      refine g_if_lt 66 dX17_typeRow_39 (by decide) ?_ ?_
      · refine G.sub [1, 2, 3, 4] rfl ?_
        exact gX17_typeRow_p66 (Mdl_typeRow_p25 n) (gX17_typeRow_p25 n) _ _ _ _ _
      · refine g_lload 4 dX17_typeRow_42 rfl ?_
        refine g_ldc2 q3654 dX17_typeRow_44 ?_
        refine g_lcmp_ge 66 dX17_typeRow_47 dX17_typeRow_48 (by decide) ?_ ?_
        · refine G.sub [1, 2, 3, 4] rfl ?_
          exact gX17_typeRow_p66 (Mdl_typeRow_p25 n) (gX17_typeRow_p25 n) _ _ _ _ _
        · refine g_aload_n 0 1 dX17_typeRow_51 rfl rfl ?_
          refine g_getR fdX17_221 dX17_typeRow_52 ?_
          refine g_getR fdX17_374 dX17_typeRow_55 ?_
          refine g_iload_n 1 2 dX17_typeRow_58 rfl rfl ?_
          refine g_lload 4 dX17_typeRow_59 rfl ?_
          refine g_l2i dX17_typeRow_61 ?_
          refine g_iadd dX17_typeRow_62 ?_
          refine g_iload 0 dX17_typeRow_63 rfl ?_
          refine g_iastore dX17_typeRow_65 (fun σ3 => ?_)
          refine G.sub [1, 2, 3, 4] rfl ?_
          exact gX17_typeRow_p66 (Mdl_typeRow_p25 n) (gX17_typeRow_p25 n) _ _ _ _ _
def V.Mdl_typeRow_p19  (σ : HS) (x0 : Nat) (x1 : Int32) (x2 : Int64) (s0 : Int32) (s1 : Nat) : Option ((Nat ⊕ Int32) × HS) :=
  ck (tg σ s1 = 18) <| cl (Mdl_exceeds σ s1 s0) fun _ σ1 =>
  Mdl_typeRow_p25 FU σ1 x0 x1 x2 (0 : Int64)
theorem V.gX17_typeRow_p19 {X : CX}  (σ : HS) (x0 : Nat) (x1 : Int32) (x2 : Int64) (s0 : Int32) (s1 : Nat) : G X RX17 "typeRow" cX17_typeRow 7 (some .int) 3 66 (enX enI (cxz X)) 19 [(0, av x0), (1, iv x1), (2, jv x2)] [iv s0, av s1] σ (Mdl_typeRow_p19 σ x0 x1 x2 s0 s1) := by
  unfold Mdl_typeRow_p19
  refine g_callV (fc := fun sς => Mdl_exceeds sς s1 s0) (ci := 17) (as := [iv s0]) rfl rfl rfl q3648 qs221 mdX17_365 (ctX17_exceeds s1 s0) rfl (Nat.le_of_ble_eq_true rfl) (Nat.le_of_ble_eq_true rfl) (Nat.le_of_ble_eq_true rfl) pu_V dX17_typeRow_19 (fun _ σ1 => ?_)
  refine g_lconst (v := 0) dX17_typeRow_22 (by decide) ?_
  refine g_lstore dX17_typeRow_23 (by decide) rfl ?_
  refine G.sub [1, 2, 3, 0] rfl ?_
  exact gX17_typeRow_p25 FU _ _ _ _ _
def V.Mdl_typeRow (σ : HS) (x0 : Nat) (x1 : Int32) : Option ((Nat ⊕ Int32) × HS) :=
  ck (tg σ x0 = 18) <| clT (Mdl_number σ x0 ) fun r2 σ1 =>
  if r2 ≤ (16 : Int64) then (
    Mdl_typeRow_p19 σ1 x0 x1 r2 (0 : Int32) x0)
  else (
    Mdl_typeRow_p19 σ1 x0 x1 r2 (1 : Int32) x0)
theorem V.ctX17_typeRow (x0 : Nat) (x1 : Int32) : Ct yX17_typeRow  cX17_typeRow 7 (some .int) 3 66 eXI [av x0, iv x1] (fun σ => Mdl_typeRow σ x0 x1) := by
  refine Ct.of (own := RX17) (nm := "typeRow") (desc := "(I)I") rfl (by decide) (Nat.le_of_ble_eq_true rfl) (by decide) (fun X σ => ?_)
  show G X RX17 "typeRow" cX17_typeRow 7 (some .int) 3 66 (enX enI (cxz X)) 0 [(0, av x0), (1, iv x1)] [] σ (Mdl_typeRow σ x0 x1)
  unfold Mdl_typeRow
  refine g_aload_n 0 0 dX17_typeRow_0 rfl rfl ?_
  refine g_callVT (fc := fun sς => Mdl_number sς x0 ) (ci := 17) (as := []) rfl rfl rfl q3619 qs215 q3617 mdX17_277 (ctX17_number x0 ) rfl (Nat.le_of_ble_eq_true rfl) (Nat.le_of_ble_eq_true rfl) (Nat.le_of_ble_eq_true rfl) pu_J (by decide) dX17_typeRow_1 (fun r2 σ1 => ?_)
  refine g_lstore_n 2 dX17_typeRow_4 rfl (by decide) rfl ?_
  refine g_aload_n 0 1 dX17_typeRow_5 rfl rfl ?_
  refine g_lload_n 2 0 dX17_typeRow_6 rfl rfl ?_
  refine g_ldc2 q3654 dX17_typeRow_7 ?_
  refine g_lcmp_le 18 dX17_typeRow_10 dX17_typeRow_11 (by decide) ?_ ?_
  · refine g_iconst (v := 0) dX17_typeRow_18 (by decide) ?_
    refine G.sub [1, 2, 0] rfl ?_
    exact gX17_typeRow_p19 _ _ _ _ _ _
  · refine g_iconst (v := 1) dX17_typeRow_14 (by decide) ?_
    refine g_goto 19 dX17_typeRow_15 (by decide) ?_
    refine G.sub [1, 2, 0] rfl ?_
    exact gX17_typeRow_p19 _ _ _ _ _ _
theorem V.dX17_readsTypes_0 : decode cX17_readsTypes 0 = .ok (.aload_n 0, 1) := by decide +kernel
theorem V.dX17_readsTypes_1 : decode cX17_readsTypes 1 = .ok (.invokevirtual 277, 3) := by decide +kernel
theorem V.dX17_readsTypes_4 : decode cX17_readsTypes 4 = .ok (.lstore_n 1, 1) := by decide +kernel
theorem V.dX17_readsTypes_5 : decode cX17_readsTypes 5 = .ok (.aload_n 0, 1) := by decide +kernel
theorem V.dX17_readsTypes_6 : decode cX17_readsTypes 6 = .ok (.getfield 221, 3) := by decide +kernel
theorem V.dX17_readsTypes_9 : decode cX17_readsTypes 9 = .ok (.aload_n 0, 1) := by decide +kernel
theorem V.dX17_readsTypes_10 : decode cX17_readsTypes 10 = .ok (.lload_n 1, 1) := by decide +kernel
theorem V.dX17_readsTypes_11 : decode cX17_readsTypes 11 = .ok (.invokevirtual 377, 3) := by decide +kernel
theorem V.dX17_readsTypes_14 : decode cX17_readsTypes 14 = .ok (.putfield 381, 3) := by decide +kernel
theorem V.dX17_readsTypes_17 : decode cX17_readsTypes 17 = .ok (.lconst 0, 1) := by decide +kernel
theorem V.dX17_readsTypes_18 : decode cX17_readsTypes 18 = .ok (.lstore_n 3, 1) := by decide +kernel
theorem V.dX17_readsTypes_19 : decode cX17_readsTypes 19 = .ok (.lload_n 3, 1) := by decide +kernel
theorem V.dX17_readsTypes_20 : decode cX17_readsTypes 20 = .ok (.lload_n 1, 1) := by decide +kernel
theorem V.dX17_readsTypes_21 : decode cX17_readsTypes 21 = .ok (.lcmp, 1) := by decide +kernel
theorem V.dX17_readsTypes_22 : decode cX17_readsTypes 22 = .ok (.ifCond .ge 123, 3) := by decide +kernel
theorem V.dX17_readsTypes_25 : decode cX17_readsTypes 25 = .ok (.aload_n 0, 1) := by decide +kernel
theorem V.dX17_readsTypes_26 : decode cX17_readsTypes 26 = .ok (.invokevirtual 264, 3) := by decide +kernel
theorem V.dX17_readsTypes_29 : decode cX17_readsTypes 29 = .ok (.istore 5, 2) := by decide +kernel
theorem V.dX17_readsTypes_31 : decode cX17_readsTypes 31 = .ok (.iload 5, 2) := by decide +kernel
theorem V.dX17_readsTypes_33 : decode cX17_readsTypes 33 = .ok (.bipush 96, 2) := by decide +kernel
theorem V.dX17_readsTypes_35 : decode cX17_readsTypes 35 = .ok (.if_icmp .eq 15, 3) := by decide +kernel
theorem V.dX17_readsTypes_38 : decode cX17_readsTypes 38 = .ok (.aload_n 0, 1) := by decide +kernel
theorem V.dX17_readsTypes_39 : decode cX17_readsTypes 39 = .ok (.bipush 8, 2) := by decide +kernel
theorem V.dX17_readsTypes_41 : decode cX17_readsTypes 41 = .ok (.aload_n 0, 1) := by decide +kernel
theorem V.dX17_readsTypes_42 : decode cX17_readsTypes 42 = .ok (.getfield 251, 3) := by decide +kernel
theorem V.dX17_readsTypes_45 : decode cX17_readsTypes 45 = .ok (.iconst 1, 1) := by decide +kernel
theorem V.dX17_readsTypes_46 : decode cX17_readsTypes 46 = .ok (.isub, 1) := by decide +kernel
theorem V.dX17_readsTypes_47 : decode cX17_readsTypes 47 = .ok (.invokevirtual 257, 3) := by decide +kernel
theorem V.dX17_readsTypes_50 : decode cX17_readsTypes 50 = .ok (.lload_n 3, 1) := by decide +kernel
theorem V.dX17_readsTypes_51 : decode cX17_readsTypes 51 = .ok (.ldc2_w 363, 3) := by decide +kernel
theorem V.dX17_readsTypes_54 : decode cX17_readsTypes 54 = .ok (.lcmp, 1) := by decide +kernel
theorem V.dX17_readsTypes_55 : decode cX17_readsTypes 55 = .ok (.ifCond .ge 8, 3) := by decide +kernel
theorem V.dX17_readsTypes_58 : decode cX17_readsTypes 58 = .ok (.lload_n 3, 1) := by decide +kernel
theorem V.dX17_readsTypes_59 : decode cX17_readsTypes 59 = .ok (.l2i, 1) := by decide +kernel
theorem V.dX17_readsTypes_60 : decode cX17_readsTypes 60 = .ok (.goto 4, 3) := by decide +kernel
theorem V.dX17_readsTypes_63 : decode cX17_readsTypes 63 = .ok (.iconst (-1), 1) := by decide +kernel
theorem V.dX17_readsTypes_64 : decode cX17_readsTypes 64 = .ok (.istore 6, 2) := by decide +kernel
theorem V.dX17_readsTypes_66 : decode cX17_readsTypes 66 = .ok (.aload_n 0, 1) := by decide +kernel
theorem V.dX17_readsTypes_67 : decode cX17_readsTypes 67 = .ok (.iload 6, 2) := by decide +kernel
theorem V.dX17_readsTypes_69 : decode cX17_readsTypes 69 = .ok (.ifCond .ge 7, 3) := by decide +kernel
theorem V.dX17_readsTypes_72 : decode cX17_readsTypes 72 = .ok (.iconst (-1), 1) := by decide +kernel
theorem V.dX17_readsTypes_73 : decode cX17_readsTypes 73 = .ok (.goto 8, 3) := by decide +kernel
theorem V.dX17_readsTypes_76 : decode cX17_readsTypes 76 = .ok (.bipush 32, 2) := by decide +kernel
theorem V.dX17_readsTypes_78 : decode cX17_readsTypes 78 = .ok (.iload 6, 2) := by decide +kernel
theorem V.dX17_readsTypes_80 : decode cX17_readsTypes 80 = .ok (.imul, 1) := by decide +kernel
theorem V.dX17_readsTypes_81 : decode cX17_readsTypes 81 = .ok (.invokevirtual 384, 3) := by decide +kernel
theorem V.dX17_readsTypes_84 : decode cX17_readsTypes 84 = .ok (.istore 7, 2) := by decide +kernel
theorem V.dX17_readsTypes_86 : decode cX17_readsTypes 86 = .ok (.aload_n 0, 1) := by decide +kernel
theorem V.dX17_readsTypes_87 : decode cX17_readsTypes 87 = .ok (.iload 6, 2) := by decide +kernel
theorem V.dX17_readsTypes_89 : decode cX17_readsTypes 89 = .ok (.ifCond .ge 7, 3) := by decide +kernel
theorem V.dX17_readsTypes_92 : decode cX17_readsTypes 92 = .ok (.iconst (-1), 1) := by decide +kernel
theorem V.dX17_readsTypes_93 : decode cX17_readsTypes 93 = .ok (.goto 11, 3) := by decide +kernel
theorem V.dX17_readsTypes_96 : decode cX17_readsTypes 96 = .ok (.bipush 32, 2) := by decide +kernel
theorem V.dX17_readsTypes_98 : decode cX17_readsTypes 98 = .ok (.iload 6, 2) := by decide +kernel
theorem V.dX17_readsTypes_100 : decode cX17_readsTypes 100 = .ok (.imul, 1) := by decide +kernel
theorem V.dX17_readsTypes_101 : decode cX17_readsTypes 101 = .ok (.bipush 16, 2) := by decide +kernel
theorem V.dX17_readsTypes_103 : decode cX17_readsTypes 103 = .ok (.iadd, 1) := by decide +kernel
theorem V.dX17_readsTypes_104 : decode cX17_readsTypes 104 = .ok (.invokevirtual 384, 3) := by decide +kernel
theorem V.dX17_readsTypes_107 : decode cX17_readsTypes 107 = .ok (.istore 8, 2) := by decide +kernel
theorem V.dX17_readsTypes_109 : decode cX17_readsTypes 109 = .ok (.iload 6, 2) := by decide +kernel
theorem V.dX17_readsTypes_111 : decode cX17_readsTypes 111 = .ok (.ifCond .lt 27, 3) := by decide +kernel
theorem V.dX17_readsTypes_114 : decode cX17_readsTypes 114 = .ok (.aload_n 0, 1) := by decide +kernel
theorem V.dX17_readsTypes_115 : decode cX17_readsTypes 115 = .ok (.getfield 221, 3) := by decide +kernel
theorem V.dX17_readsTypes_118 : decode cX17_readsTypes 118 = .ok (.getfield 387, 3) := by decide +kernel
theorem V.dX17_readsTypes_121 : decode cX17_readsTypes 121 = .ok (.iload 6, 2) := by decide +kernel
theorem V.dX17_readsTypes_123 : decode cX17_readsTypes 123 = .ok (.iload 7, 2) := by decide +kernel
theorem V.dX17_readsTypes_125 : decode cX17_readsTypes 125 = .ok (.iastore, 1) := by decide +kernel
theorem V.dX17_readsTypes_126 : decode cX17_readsTypes 126 = .ok (.aload_n 0, 1) := by decide +kernel
theorem V.dX17_readsTypes_127 : decode cX17_readsTypes 127 = .ok (.getfield 221, 3) := by decide +kernel
theorem V.dX17_readsTypes_130 : decode cX17_readsTypes 130 = .ok (.getfield 390, 3) := by decide +kernel
theorem V.dX17_readsTypes_133 : decode cX17_readsTypes 133 = .ok (.iload 6, 2) := by decide +kernel
theorem V.dX17_readsTypes_135 : decode cX17_readsTypes 135 = .ok (.iload 8, 2) := by decide +kernel
theorem V.dX17_readsTypes_137 : decode cX17_readsTypes 137 = .ok (.iastore, 1) := by decide +kernel
theorem V.dX17_readsTypes_138 : decode cX17_readsTypes 138 = .ok (.lload_n 3, 1) := by decide +kernel
theorem V.dX17_readsTypes_139 : decode cX17_readsTypes 139 = .ok (.lconst 1, 1) := by decide +kernel
theorem V.dX17_readsTypes_140 : decode cX17_readsTypes 140 = .ok (.ladd, 1) := by decide +kernel
theorem V.dX17_readsTypes_141 : decode cX17_readsTypes 141 = .ok (.lstore_n 3, 1) := by decide +kernel
theorem V.dX17_readsTypes_142 : decode cX17_readsTypes 142 = .ok (.goto (-123), 3) := by decide +kernel
theorem V.dX17_readsTypes_145 : decode cX17_readsTypes 145 = .ok (.return_, 1) := by decide +kernel
theorem V.mdX17_377 : MD RX17 377 yX17_kept cX17_kept 3 (some .int) 1 := ⟨Or.inl q3641, q377, q3644, by decide, by decide, by decide +kernel⟩
theorem V.fpX17_381 {nm : String} : FP RX17 nm 381 20 4 (.int) := ⟨(RX20, TX20, 58), tyX20, rfl, rfl, in_X20, by decide, tyX20_ok, nmX20, rfl, Or.inl ⟨rfl, Or.inr ⟨_, q3368⟩⟩⟩
theorem V.mdX17_384 : MD RX17 384 yX17_typeRow cX17_typeRow 7 (some .int) 1 := ⟨Or.inl q3650, q377, q3653, by decide, by decide, by decide +kernel⟩
theorem V.fdX17_387 : FD RX17 387 20 5 2 := ⟨(RX20, TX20, 58), tyX20, rfl, rfl, in_X20, by decide, Or.inr ⟨_, q3370⟩, rfl⟩
theorem V.fdX17_390 : FD RX17 390 20 6 2 := ⟨(RX20, TX20, 58), tyX20, rfl, rfl, in_X20, by decide, Or.inr ⟨_, q3372⟩, rfl⟩
/-! ModuleEngineModel.readsTypes()V -/
def V.Mdl_readsTypes_p138 (rec19 : HS → Nat → Int64 → Int64 → Option ((Nat ⊕ Unit) × HS)) (σ : HS) (x0 : Nat) (x1 : Int64) (x3 : Int64) : Option ((Nat ⊕ Unit) × HS) :=
  bn (x3 + (1 : Int64)) fun y1 =>
  rec19 σ x0 x1 y1
theorem V.gX17_readsTypes_p138 {X : CX} (rec19 : HS → Nat → Int64 → Int64 → Option ((Nat ⊕ Unit) × HS)) (hrec19 : ∀ (σ : HS) (x0 : Nat) (x1 : Int64) (x3 : Int64), G X RX17 "readsTypes" cX17_readsTypes 9 none 4 92 (enX enV (cxz X)) 19 [(0, av x0), (1, jv x1), (3, jv x3)] [] σ (rec19 σ x0 x1 x3)) (σ : HS) (x0 : Nat) (x1 : Int64) (x3 : Int64) : G X RX17 "readsTypes" cX17_readsTypes 9 none 4 92 (enX enV (cxz X)) 138 [(0, av x0), (1, jv x1), (3, jv x3)] [] σ (Mdl_readsTypes_p138 rec19 σ x0 x1 x3) := by
  unfold Mdl_readsTypes_p138
  refine g_lload_n 3 2 dX17_readsTypes_138 rfl rfl ?_
  refine g_lconst (v := 1) dX17_readsTypes_139 (by decide) ?_
  refine g_ladd dX17_readsTypes_140 ?_
  refine g_nmJ (fun y1 => ?_)
  refine g_lstore_n 3 dX17_readsTypes_141 rfl (by decide) rfl ?_
  refine g_goto 19 dX17_readsTypes_142 (by decide) ?_
  refine G.sub [1, 2, 0] rfl ?_
  exact hrec19 _ _ _ _
def V.Mdl_readsTypes_p104 (rec19 : HS → Nat → Int64 → Int64 → Option ((Nat ⊕ Unit) × HS)) (σ : HS) (x0 : Nat) (x1 : Int64) (x3 : Int64) (x6 : Int32) (x7 : Int32) (s0 : Int32) (s1 : Nat) : Option ((Nat ⊕ Unit) × HS) :=
  ck (tg σ s1 = 18) <| clT (Mdl_typeRow σ s1 s0) fun r2 σ1 =>
  if x6 < 0 then (
    Mdl_readsTypes_p138 rec19 σ1 x0 x1 x3)
  else (
    ck (tg σ1 x0 = 18) <|
    ck (tg σ1 (gR σ1 x0 10) = 21) <|
    ck (tg σ1 (gR σ1 (gR σ1 x0 10) 5) = 100 ∧ inb x6 (ln σ1 (gR σ1 (gR σ1 x0 10) 5))) <| bn (sI σ1 (gR σ1 (gR σ1 x0 10) 5) (ix x6) x7) fun σ3 =>
    ck (tg σ3 x0 = 18) <|
    ck (tg σ3 (gR σ3 x0 10) = 21) <|
    ck (tg σ3 (gR σ3 (gR σ3 x0 10) 6) = 100 ∧ inb x6 (ln σ3 (gR σ3 (gR σ3 x0 10) 6))) <| bn (sI σ3 (gR σ3 (gR σ3 x0 10) 6) (ix x6) r2) fun σ4 =>
    Mdl_readsTypes_p138 rec19 σ4 x0 x1 x3)
theorem V.gX17_readsTypes_p104 {X : CX} (rec19 : HS → Nat → Int64 → Int64 → Option ((Nat ⊕ Unit) × HS)) (hrec19 : ∀ (σ : HS) (x0 : Nat) (x1 : Int64) (x3 : Int64), G X RX17 "readsTypes" cX17_readsTypes 9 none 4 92 (enX enV (cxz X)) 19 [(0, av x0), (1, jv x1), (3, jv x3)] [] σ (rec19 σ x0 x1 x3)) (σ : HS) (x0 : Nat) (x1 : Int64) (x3 : Int64) (x6 : Int32) (x7 : Int32) (s0 : Int32) (s1 : Nat) : G X RX17 "readsTypes" cX17_readsTypes 9 none 4 92 (enX enV (cxz X)) 104 [(0, av x0), (1, jv x1), (3, jv x3), (6, iv x6), (7, iv x7)] [iv s0, av s1] σ (Mdl_readsTypes_p104 rec19 σ x0 x1 x3 x6 x7 s0 s1) := by
  unfold Mdl_readsTypes_p104
  refine g_callVT (fc := fun sς => Mdl_typeRow sς s1 s0) (ci := 17) (as := [iv s0]) rfl rfl rfl q3652 qs222 q3650 mdX17_384 (ctX17_typeRow s1 s0) rfl (Nat.le_of_ble_eq_true rfl) (Nat.le_of_ble_eq_true rfl) (Nat.le_of_ble_eq_true rfl) pu_I (by decide) dX17_readsTypes_104 (fun r2 σ1 => ?_)
  refine g_istore dX17_readsTypes_107 (by decide) rfl ?_
  refine g_iload 4 dX17_readsTypes_109 rfl ?_
  refine g_if_lt 138 dX17_readsTypes_111 (by decide) ?_ ?_
  · refine G.sub [1, 2, 3] rfl ?_
    exact gX17_readsTypes_p138 rec19 hrec19 _ _ _ _
  · refine g_aload_n 0 1 dX17_readsTypes_114 rfl rfl ?_
    refine g_getR fdX17_221 dX17_readsTypes_115 ?_
    refine g_getR fdX17_387 dX17_readsTypes_118 ?_
    refine g_iload 4 dX17_readsTypes_121 rfl ?_
    refine g_iload 5 dX17_readsTypes_123 rfl ?_
    refine g_iastore dX17_readsTypes_125 (fun σ3 => ?_)
    refine g_aload_n 0 1 dX17_readsTypes_126 rfl rfl ?_
    refine g_getR fdX17_221 dX17_readsTypes_127 ?_
    refine g_getR fdX17_390 dX17_readsTypes_130 ?_
    refine g_iload 4 dX17_readsTypes_133 rfl ?_
    refine g_iload 0 dX17_readsTypes_135 rfl ?_
    refine g_iastore dX17_readsTypes_137 (fun σ4 => ?_)
    refine G.sub [1, 2, 3] rfl ?_
    exact gX17_readsTypes_p138 rec19 hrec19 _ _ _ _
def V.Mdl_readsTypes_p81 (rec19 : HS → Nat → Int64 → Int64 → Option ((Nat ⊕ Unit) × HS)) (σ : HS) (x0 : Nat) (x1 : Int64) (x3 : Int64) (x6 : Int32) (s0 : Int32) (s1 : Nat) : Option ((Nat ⊕ Unit) × HS) :=
  ck (tg σ s1 = 18) <| clT (Mdl_typeRow σ s1 s0) fun r2 σ1 =>
  if 0 ≤ x6 then (
    Mdl_readsTypes_p104 rec19 σ1 x0 x1 x3 x6 r2 (((32 : Int32) * x6) + (16 : Int32)) x0)
  else (
    Mdl_readsTypes_p104 rec19 σ1 x0 x1 x3 x6 r2 (-1 : Int32) x0)
theorem V.gX17_readsTypes_p81 {X : CX} (rec19 : HS → Nat → Int64 → Int64 → Option ((Nat ⊕ Unit) × HS)) (hrec19 : ∀ (σ : HS) (x0 : Nat) (x1 : Int64) (x3 : Int64), G X RX17 "readsTypes" cX17_readsTypes 9 none 4 92 (enX enV (cxz X)) 19 [(0, av x0), (1, jv x1), (3, jv x3)] [] σ (rec19 σ x0 x1 x3)) (σ : HS) (x0 : Nat) (x1 : Int64) (x3 : Int64) (x6 : Int32) (s0 : Int32) (s1 : Nat) : G X RX17 "readsTypes" cX17_readsTypes 9 none 4 92 (enX enV (cxz X)) 81 [(0, av x0), (1, jv x1), (3, jv x3), (6, iv x6)] [iv s0, av s1] σ (Mdl_readsTypes_p81 rec19 σ x0 x1 x3 x6 s0 s1) := by
  unfold Mdl_readsTypes_p81
  refine g_callVT (fc := fun sς => Mdl_typeRow sς s1 s0) (ci := 17) (as := [iv s0]) rfl rfl rfl q3652 qs222 q3650 mdX17_384 (ctX17_typeRow s1 s0) rfl (Nat.le_of_ble_eq_true rfl) (Nat.le_of_ble_eq_true rfl) (Nat.le_of_ble_eq_true rfl) pu_I (by decide) dX17_readsTypes_81 (fun r2 σ1 => ?_)
  refine g_istore dX17_readsTypes_84 (by decide) rfl ?_
  refine g_aload_n 0 1 dX17_readsTypes_86 rfl rfl ?_
  refine g_iload 4 dX17_readsTypes_87 rfl ?_
  refine g_if_ge 96 dX17_readsTypes_89 (by decide) ?_ ?_
  · refine g_bipush (v := 32) dX17_readsTypes_96 (by decide) ?_
    refine g_iload 4 dX17_readsTypes_98 rfl ?_
    refine g_imul dX17_readsTypes_100 ?_
    refine g_bipush (v := 16) dX17_readsTypes_101 (by decide) ?_
    refine g_iadd dX17_readsTypes_103 ?_
    refine G.sub [1, 2, 3, 4, 0] rfl ?_
    exact gX17_readsTypes_p104 rec19 hrec19 _ _ _ _ _ _ _ _
  · refine g_iconst (v := (-1)) dX17_readsTypes_92 (by decide) ?_
    refine g_goto 104 dX17_readsTypes_93 (by decide) ?_
    refine G.sub [1, 2, 3, 4, 0] rfl ?_
    exact gX17_readsTypes_p104 rec19 hrec19 _ _ _ _ _ _ _ _
def V.Mdl_readsTypes_p64 (rec19 : HS → Nat → Int64 → Int64 → Option ((Nat ⊕ Unit) × HS)) (σ : HS) (x0 : Nat) (x1 : Int64) (x3 : Int64) (s0 : Int32) : Option ((Nat ⊕ Unit) × HS) :=
  if 0 ≤ s0 then (
    Mdl_readsTypes_p81 rec19 σ x0 x1 x3 s0 ((32 : Int32) * s0) x0)
  else (
    Mdl_readsTypes_p81 rec19 σ x0 x1 x3 s0 (-1 : Int32) x0)
theorem V.gX17_readsTypes_p64 {X : CX} (rec19 : HS → Nat → Int64 → Int64 → Option ((Nat ⊕ Unit) × HS)) (hrec19 : ∀ (σ : HS) (x0 : Nat) (x1 : Int64) (x3 : Int64), G X RX17 "readsTypes" cX17_readsTypes 9 none 4 92 (enX enV (cxz X)) 19 [(0, av x0), (1, jv x1), (3, jv x3)] [] σ (rec19 σ x0 x1 x3)) (σ : HS) (x0 : Nat) (x1 : Int64) (x3 : Int64) (s0 : Int32) : G X RX17 "readsTypes" cX17_readsTypes 9 none 4 92 (enX enV (cxz X)) 64 [(0, av x0), (1, jv x1), (3, jv x3)] [iv s0] σ (Mdl_readsTypes_p64 rec19 σ x0 x1 x3 s0) := by
  unfold Mdl_readsTypes_p64
  refine g_istore dX17_readsTypes_64 (by decide) rfl ?_
  refine g_aload_n 0 1 dX17_readsTypes_66 rfl rfl ?_
  refine g_iload 0 dX17_readsTypes_67 rfl ?_
  refine g_if_ge 76 dX17_readsTypes_69 (by decide) ?_ ?_
  · refine g_bipush (v := 32) dX17_readsTypes_76 (by decide) ?_
    refine g_iload 0 dX17_readsTypes_78 rfl ?_
    refine g_imul dX17_readsTypes_80 ?_
    refine G.sub [1, 2, 3, 0] rfl ?_
    exact gX17_readsTypes_p81 rec19 hrec19 _ _ _ _ _ _ _
  · refine g_iconst (v := (-1)) dX17_readsTypes_72 (by decide) ?_
    refine g_goto 81 dX17_readsTypes_73 (by decide) ?_
    refine G.sub [1, 2, 3, 0] rfl ?_
    exact gX17_readsTypes_p81 rec19 hrec19 _ _ _ _ _ _ _
def V.Mdl_readsTypes_p50 (rec19 : HS → Nat → Int64 → Int64 → Option ((Nat ⊕ Unit) × HS)) (σ : HS) (x0 : Nat) (x1 : Int64) (x3 : Int64) : Option ((Nat ⊕ Unit) × HS) :=
  if (64 : Int64) ≤ x3 then (
    Mdl_readsTypes_p64 rec19 σ x0 x1 x3 (-1 : Int32))
  else (
    Mdl_readsTypes_p64 rec19 σ x0 x1 x3 x3.toInt32)
theorem V.gX17_readsTypes_p50 {X : CX} (rec19 : HS → Nat → Int64 → Int64 → Option ((Nat ⊕ Unit) × HS)) (hrec19 : ∀ (σ : HS) (x0 : Nat) (x1 : Int64) (x3 : Int64), G X RX17 "readsTypes" cX17_readsTypes 9 none 4 92 (enX enV (cxz X)) 19 [(0, av x0), (1, jv x1), (3, jv x3)] [] σ (rec19 σ x0 x1 x3)) (σ : HS) (x0 : Nat) (x1 : Int64) (x3 : Int64) : G X RX17 "readsTypes" cX17_readsTypes 9 none 4 92 (enX enV (cxz X)) 50 [(0, av x0), (1, jv x1), (3, jv x3)] [] σ (Mdl_readsTypes_p50 rec19 σ x0 x1 x3) := by
  unfold Mdl_readsTypes_p50
  refine g_lload_n 3 2 dX17_readsTypes_50 rfl rfl ?_
  refine g_ldc2 q3645 dX17_readsTypes_51 ?_
  refine g_lcmp_ge 63 dX17_readsTypes_54 dX17_readsTypes_55 (by decide) ?_ ?_
  · refine g_iconst (v := (-1)) dX17_readsTypes_63 (by decide) ?_
    exact gX17_readsTypes_p64 rec19 hrec19 _ _ _ _ _
  · refine g_lload_n 3 2 dX17_readsTypes_58 rfl rfl ?_
    refine g_l2i dX17_readsTypes_59 ?_
    refine g_goto 64 dX17_readsTypes_60 (by decide) ?_
    exact gX17_readsTypes_p64 rec19 hrec19 _ _ _ _ _
def V.Mdl_readsTypes_p19  : Nat → HS → Nat → Int64 → Int64 → Option ((Nat ⊕ Unit) × HS)
  | 0, _, _, _, _ => none
  | n + 1, σ, x0, x1, x3 =>
    if x1 ≤ x3 then (
      some (.inr (), σ))
    else (
      ck (tg σ x0 = 18) <| clT (Mdl_next σ x0 ) fun r2 σ1 =>
      if r2 = (96 : Int32) then (
        Mdl_readsTypes_p50 (Mdl_readsTypes_p19 n) σ1 x0 x1 x3)
      else (
        ck (tg σ1 x0 = 18) <|
        ck (tg σ1 x0 = 18) <| clT (Mdl_stops σ1 x0 (8 : Int32) ((gI σ1 x0 11) - (1 : Int32))) fun _ σ3 =>
        Mdl_readsTypes_p50 (Mdl_readsTypes_p19 n) σ3 x0 x1 x3))
theorem V.gX17_readsTypes_p19 {X : CX}  : ∀ (n : Nat) (σ : HS) (x0 : Nat) (x1 : Int64) (x3 : Int64), G X RX17 "readsTypes" cX17_readsTypes 9 none 4 92 (enX enV (cxz X)) 19 [(0, av x0), (1, jv x1), (3, jv x3)] [] σ (Mdl_readsTypes_p19 n σ x0 x1 x3)
  | 0, σ, x0, x1, x3 => by rw [Mdl_readsTypes_p19]; exact G.nul
  | n + 1, σ, x0, x1, x3 => by
    rw [Mdl_readsTypes_p19]
    refine g_lload_n 3 2 dX17_readsTypes_19 rfl rfl ?_
    refine g_lload_n 1 1 dX17_readsTypes_20 rfl rfl ?_
    refine g_lcmp_ge 145 dX17_readsTypes_21 dX17_readsTypes_22 (by decide) ?_ ?_
    · exact g_return rfl dX17_readsTypes_145
    · refine g_aload_n 0 0 dX17_readsTypes_25 rfl rfl ?_
      refine g_callVT (fc := fun sς => Mdl_next sς x0 ) (ci := 17) (as := []) rfl rfl rfl q3602 qs213 q3600 mdX17_264 (ctX17_next x0 ) rfl (Nat.le_of_ble_eq_true rfl) (Nat.le_of_ble_eq_true rfl) (Nat.le_of_ble_eq_true rfl) pu_I (by decide) dX17_readsTypes_26 (fun r2 σ1 => ?_)
      refine g_istore dX17_readsTypes_29 (by decide) rfl ?_
      refine g_iload 0 dX17_readsTypes_31 rfl ?_
      refine g_bipush (v := 96) dX17_readsTypes_33 (by decide) ?_
      refine g_icmp_eq 50 dX17_readsTypes_35 (by decide) ?_ ?_
      · refine G.sub [1, 2, 3] rfl ?_
        exact gX17_readsTypes_p50 (Mdl_readsTypes_p19 n) (gX17_readsTypes_p19 n) _ _ _ _
      · refine g_aload_n 0 1 dX17_readsTypes_38 rfl rfl ?_
        refine g_bipush (v := 8) dX17_readsTypes_39 (by decide) ?_
        refine g_aload_n 0 1 dX17_readsTypes_41 rfl rfl ?_
        refine g_getI fdX17_251 dX17_readsTypes_42 ?_
        refine g_iconst (v := 1) dX17_readsTypes_45 (by decide) ?_
        refine g_isub dX17_readsTypes_46 ?_
        refine g_callVT (fc := fun sς => Mdl_stops sς x0 (8 : Int32) ((gI σ1 x0 11) - (1 : Int32))) (ci := 17) (as := [iv (8 : Int32), iv ((gI σ1 x0 11) - (1 : Int32))]) rfl rfl rfl q3606 qs214 q3604 mdX17_257 (ctX17_stops x0 (8 : Int32) ((gI σ1 x0 11) - (1 : Int32))) rfl (Nat.le_of_ble_eq_true rfl) (Nat.le_of_ble_eq_true rfl) (Nat.le_of_ble_eq_true rfl) pu_V (by decide) dX17_readsTypes_47 (fun _ σ3 => ?_)
        refine G.sub [1, 2, 3] rfl ?_
        exact gX17_readsTypes_p50 (Mdl_readsTypes_p19 n) (gX17_readsTypes_p19 n) _ _ _ _
def V.Mdl_readsTypes (σ : HS) (x0 : Nat) : Option ((Nat ⊕ Unit) × HS) :=
  ck (tg σ x0 = 18) <| clT (Mdl_number σ x0 ) fun r2 σ1 =>
  ck (tg σ1 x0 = 18) <|
  ck (tg σ1 x0 = 18) <| cl (Mdl_kept σ1 x0 r2) fun r4 σ3 =>
  ck (tg σ3 (gR σ1 x0 10) = 21) <| bn (sI σ3 (gR σ1 x0 10) 4 r4) fun σ5 =>
  Mdl_readsTypes_p19 FU σ5 x0 r2 (0 : Int64)
theorem V.ctX17_readsTypes (x0 : Nat) : Ct yX17_readsTypes  cX17_readsTypes 9 none 4 92 eXV [av x0] (fun σ => Mdl_readsTypes σ x0) := by
  refine Ct.of (own := RX17) (nm := "readsTypes") (desc := "()V") rfl (by decide) (Nat.le_of_ble_eq_true rfl) (by decide) (fun X σ => ?_)
  show G X RX17 "readsTypes" cX17_readsTypes 9 none 4 92 (enX enV (cxz X)) 0 [(0, av x0)] [] σ (Mdl_readsTypes σ x0)
  unfold Mdl_readsTypes
  refine g_aload_n 0 0 dX17_readsTypes_0 rfl rfl ?_
  refine g_callVT (fc := fun sς => Mdl_number sς x0 ) (ci := 17) (as := []) rfl rfl rfl q3619 qs215 q3617 mdX17_277 (ctX17_number x0 ) rfl (Nat.le_of_ble_eq_true rfl) (Nat.le_of_ble_eq_true rfl) (Nat.le_of_ble_eq_true rfl) pu_J (by decide) dX17_readsTypes_1 (fun r2 σ1 => ?_)
  refine g_lstore_n 1 dX17_readsTypes_4 rfl (by decide) rfl ?_
  refine g_aload_n 0 1 dX17_readsTypes_5 rfl rfl ?_
  refine g_getR fdX17_221 dX17_readsTypes_6 ?_
  refine g_aload_n 0 1 dX17_readsTypes_9 rfl rfl ?_
  refine g_lload_n 1 0 dX17_readsTypes_10 rfl rfl ?_
  refine g_callV (fc := fun sς => Mdl_kept sς x0 r2) (ci := 17) (as := [jv r2]) rfl rfl rfl q3643 qs220 mdX17_377 (ctX17_kept x0 r2) rfl (Nat.le_of_ble_eq_true rfl) (Nat.le_of_ble_eq_true rfl) (Nat.le_of_ble_eq_true rfl) pu_I dX17_readsTypes_11 (fun r4 σ3 => ?_)
  refine g_putI fpX17_381 dX17_readsTypes_14 (fun σ5 => ?_)
  refine g_lconst (v := 0) dX17_readsTypes_17 (by decide) ?_
  refine g_lstore_n 3 dX17_readsTypes_18 rfl (by decide) rfl ?_
  refine G.sub [2, 1, 0] rfl ?_
  exact gX17_readsTypes_p19 FU _ _ _ _
theorem V.dX17_small_0 : decode cX17_small 0 = .ok (.aload_n 0, 1) := by decide +kernel
theorem V.dX17_small_1 : decode cX17_small 1 = .ok (.invokevirtual 264, 3) := by decide +kernel
theorem V.dX17_small_4 : decode cX17_small 4 = .ok (.istore_n 2, 1) := by decide +kernel
theorem V.dX17_small_5 : decode cX17_small 5 = .ok (.iload_n 2, 1) := by decide +kernel
theorem V.dX17_small_6 : decode cX17_small 6 = .ok (.iload_n 1, 1) := by decide +kernel
theorem V.dX17_small_7 : decode cX17_small 7 = .ok (.if_icmp .le 15, 3) := by decide +kernel
theorem V.dX17_small_10 : decode cX17_small 10 = .ok (.aload_n 0, 1) := by decide +kernel
theorem V.dX17_small_11 : decode cX17_small 11 = .ok (.bipush 7, 2) := by decide +kernel
theorem V.dX17_small_13 : decode cX17_small 13 = .ok (.aload_n 0, 1) := by decide +kernel
theorem V.dX17_small_14 : decode cX17_small 14 = .ok (.getfield 251, 3) := by decide +kernel
theorem V.dX17_small_17 : decode cX17_small 17 = .ok (.iconst 1, 1) := by decide +kernel
theorem V.dX17_small_18 : decode cX17_small 18 = .ok (.isub, 1) := by decide +kernel
theorem V.dX17_small_19 : decode cX17_small 19 = .ok (.invokevirtual 257, 3) := by decide +kernel
theorem V.dX17_small_22 : decode cX17_small 22 = .ok (.iload_n 2, 1) := by decide +kernel
theorem V.dX17_small_23 : decode cX17_small 23 = .ok (.ireturn, 1) := by decide +kernel
/-! ModuleEngineModel.small(I)I -/
def V.Mdl_small (σ : HS) (x0 : Nat) (x1 : Int32) : Option ((Nat ⊕ Int32) × HS) :=
  ck (tg σ x0 = 18) <| clT (Mdl_next σ x0 ) fun r2 σ1 =>
  if r2 ≤ x1 then (
    some (.inr r2, σ1))
  else (
    ck (tg σ1 x0 = 18) <|
    ck (tg σ1 x0 = 18) <| clT (Mdl_stops σ1 x0 (7 : Int32) ((gI σ1 x0 11) - (1 : Int32))) fun _ σ3 =>
    some (.inr r2, σ3))
theorem V.ctX17_small (x0 : Nat) (x1 : Int32) : Ct yX17_small  cX17_small 3 (some .int) 2 42 eXI [av x0, iv x1] (fun σ => Mdl_small σ x0 x1) := by
  refine Ct.of (own := RX17) (nm := "small") (desc := "(I)I") rfl (by decide) (Nat.le_of_ble_eq_true rfl) (by decide) (fun X σ => ?_)
  show G X RX17 "small" cX17_small 3 (some .int) 2 42 (enX enI (cxz X)) 0 [(0, av x0), (1, iv x1)] [] σ (Mdl_small σ x0 x1)
  unfold Mdl_small
  refine g_aload_n 0 0 dX17_small_0 rfl rfl ?_
  refine g_callVT (fc := fun sς => Mdl_next sς x0 ) (ci := 17) (as := []) rfl rfl rfl q3602 qs213 q3600 mdX17_264 (ctX17_next x0 ) rfl (Nat.le_of_ble_eq_true rfl) (Nat.le_of_ble_eq_true rfl) (Nat.le_of_ble_eq_true rfl) pu_I (by decide) dX17_small_1 (fun r2 σ1 => ?_)
  refine g_istore_n 2 dX17_small_4 rfl (by decide) rfl ?_
  refine g_iload_n 2 0 dX17_small_5 rfl rfl ?_
  refine g_iload_n 1 2 dX17_small_6 rfl rfl ?_
  refine g_icmp_le 22 dX17_small_7 (by decide) ?_ ?_
  · refine g_iload_n 2 0 dX17_small_22 rfl rfl ?_
    exact g_ireturn rfl dX17_small_23
  · refine g_aload_n 0 1 dX17_small_10 rfl rfl ?_
    refine g_bipush (v := 7) dX17_small_11 (by decide) ?_
    refine g_aload_n 0 1 dX17_small_13 rfl rfl ?_
    refine g_getI fdX17_251 dX17_small_14 ?_
    refine g_iconst (v := 1) dX17_small_17 (by decide) ?_
    refine g_isub dX17_small_18 ?_
    refine g_callVT (fc := fun sς => Mdl_stops sς x0 (7 : Int32) ((gI σ1 x0 11) - (1 : Int32))) (ci := 17) (as := [iv (7 : Int32), iv ((gI σ1 x0 11) - (1 : Int32))]) rfl rfl rfl q3606 qs214 q3604 mdX17_257 (ctX17_stops x0 (7 : Int32) ((gI σ1 x0 11) - (1 : Int32))) rfl (Nat.le_of_ble_eq_true rfl) (Nat.le_of_ble_eq_true rfl) (Nat.le_of_ble_eq_true rfl) pu_V (by decide) dX17_small_19 (fun _ σ3 => ?_)
    refine g_iload_n 2 0 dX17_small_22 rfl rfl ?_
    exact g_ireturn rfl dX17_small_23
theorem V.dX17_referenceType_0 : decode cX17_referenceType 0 = .ok (.aload_n 0, 1) := by decide +kernel
theorem V.dX17_referenceType_1 : decode cX17_referenceType 1 = .ok (.invokevirtual 264, 3) := by decide +kernel
theorem V.dX17_referenceType_4 : decode cX17_referenceType 4 = .ok (.istore_n 1, 1) := by decide +kernel
theorem V.dX17_referenceType_5 : decode cX17_referenceType 5 = .ok (.iload_n 1, 1) := by decide +kernel
theorem V.dX17_referenceType_6 : decode cX17_referenceType 6 = .ok (.invokestatic 270, 3) := by decide +kernel
theorem V.dX17_referenceType_9 : decode cX17_referenceType 9 = .ok (.ifCond .ne 15, 3) := by decide +kernel
theorem V.dX17_referenceType_12 : decode cX17_referenceType 12 = .ok (.aload_n 0, 1) := by decide +kernel
theorem V.dX17_referenceType_13 : decode cX17_referenceType 13 = .ok (.bipush 8, 2) := by decide +kernel
theorem V.dX17_referenceType_15 : decode cX17_referenceType 15 = .ok (.aload_n 0, 1) := by decide +kernel
theorem V.dX17_referenceType_16 : decode cX17_referenceType 16 = .ok (.getfield 251, 3) := by decide +kernel
theorem V.dX17_referenceType_19 : decode cX17_referenceType 19 = .ok (.iconst 1, 1) := by decide +kernel
theorem V.dX17_referenceType_20 : decode cX17_referenceType 20 = .ok (.isub, 1) := by decide +kernel
theorem V.dX17_referenceType_21 : decode cX17_referenceType 21 = .ok (.invokevirtual 257, 3) := by decide +kernel
theorem V.dX17_referenceType_24 : decode cX17_referenceType 24 = .ok (.iload_n 1, 1) := by decide +kernel
theorem V.dX17_referenceType_25 : decode cX17_referenceType 25 = .ok (.ireturn, 1) := by decide +kernel
/-! ModuleEngineModel.referenceType()I -/
def V.Mdl_referenceType (σ : HS) (x0 : Nat) : Option ((Nat ⊕ Int32) × HS) :=
  ck (tg σ x0 = 18) <| clT (Mdl_next σ x0 ) fun r2 σ1 =>
  cl (Mdl_isReference σ1 r2) fun r4 σ3 =>
  if r4 = 0 then (
    ck (tg σ3 x0 = 18) <|
    ck (tg σ3 x0 = 18) <| clT (Mdl_stops σ3 x0 (8 : Int32) ((gI σ3 x0 11) - (1 : Int32))) fun _ σ5 =>
    some (.inr r2, σ5))
  else (
    some (.inr r2, σ3))
theorem V.ctX17_referenceType (x0 : Nat) : Ct yX17_referenceType  cX17_referenceType 2 (some .int) 2 42 eXI [av x0] (fun σ => Mdl_referenceType σ x0) := by
  refine Ct.of (own := RX17) (nm := "referenceType") (desc := "()I") rfl (by decide) (Nat.le_of_ble_eq_true rfl) (by decide) (fun X σ => ?_)
  show G X RX17 "referenceType" cX17_referenceType 2 (some .int) 2 42 (enX enI (cxz X)) 0 [(0, av x0)] [] σ (Mdl_referenceType σ x0)
  unfold Mdl_referenceType
  refine g_aload_n 0 0 dX17_referenceType_0 rfl rfl ?_
  refine g_callVT (fc := fun sς => Mdl_next sς x0 ) (ci := 17) (as := []) rfl rfl rfl q3602 qs213 q3600 mdX17_264 (ctX17_next x0 ) rfl (Nat.le_of_ble_eq_true rfl) (Nat.le_of_ble_eq_true rfl) (Nat.le_of_ble_eq_true rfl) pu_I (by decide) dX17_referenceType_1 (fun r2 σ1 => ?_)
  refine g_istore_n 1 dX17_referenceType_4 rfl (by decide) rfl ?_
  refine g_iload_n 1 0 dX17_referenceType_5 rfl rfl ?_
  refine g_callS (fc := fun sς => Mdl_isReference sς r2) (as := [iv r2]) q3663 mdX17_270 (ctX17_isReference r2) rfl (Nat.le_of_ble_eq_true rfl) (Nat.le_of_ble_eq_true rfl) (Nat.le_of_ble_eq_true rfl) pu_I dX17_referenceType_6 (fun r4 σ3 => ?_)
  refine g_if_ne 24 dX17_referenceType_9 (by decide) ?_ ?_
  · refine g_iload_n 1 0 dX17_referenceType_24 rfl rfl ?_
    exact g_ireturn rfl dX17_referenceType_25
  · refine g_aload_n 0 1 dX17_referenceType_12 rfl rfl ?_
    refine g_bipush (v := 8) dX17_referenceType_13 (by decide) ?_
    refine g_aload_n 0 1 dX17_referenceType_15 rfl rfl ?_
    refine g_getI fdX17_251 dX17_referenceType_16 ?_
    refine g_iconst (v := 1) dX17_referenceType_19 (by decide) ?_
    refine g_isub dX17_referenceType_20 ?_
    refine g_callVT (fc := fun sς => Mdl_stops sς x0 (8 : Int32) ((gI σ3 x0 11) - (1 : Int32))) (ci := 17) (as := [iv (8 : Int32), iv ((gI σ3 x0 11) - (1 : Int32))]) rfl rfl rfl q3606 qs214 q3604 mdX17_257 (ctX17_stops x0 (8 : Int32) ((gI σ3 x0 11) - (1 : Int32))) rfl (Nat.le_of_ble_eq_true rfl) (Nat.le_of_ble_eq_true rfl) (Nat.le_of_ble_eq_true rfl) pu_V (by decide) dX17_referenceType_21 (fun _ σ5 => ?_)
    refine g_iload_n 1 0 dX17_referenceType_24 rfl rfl ?_
    exact g_ireturn rfl dX17_referenceType_25
theorem V.dX17_limits_0 : decode cX17_limits 0 = .ok (.aload_n 0, 1) := by decide +kernel
theorem V.dX17_limits_1 : decode cX17_limits 1 = .ok (.iconst 1, 1) := by decide +kernel
theorem V.dX17_limits_2 : decode cX17_limits 2 = .ok (.invokevirtual 393, 3) := by decide +kernel
theorem V.dX17_limits_5 : decode cX17_limits 5 = .ok (.istore_n 1, 1) := by decide +kernel
theorem V.dX17_limits_6 : decode cX17_limits 6 = .ok (.aload_n 0, 1) := by decide +kernel
theorem V.dX17_limits_7 : decode cX17_limits 7 = .ok (.aload_n 0, 1) := by decide +kernel
theorem V.dX17_limits_8 : decode cX17_limits 8 = .ok (.invokevirtual 277, 3) := by decide +kernel
theorem V.dX17_limits_11 : decode cX17_limits 11 = .ok (.putfield 396, 3) := by decide +kernel
theorem V.dX17_limits_14 : decode cX17_limits 14 = .ok (.aload_n 0, 1) := by decide +kernel
theorem V.dX17_limits_15 : decode cX17_limits 15 = .ok (.iload_n 1, 1) := by decide +kernel
theorem V.dX17_limits_16 : decode cX17_limits 16 = .ok (.iconst 1, 1) := by decide +kernel
theorem V.dX17_limits_17 : decode cX17_limits 17 = .ok (.if_icmp .ne 10, 3) := by decide +kernel
theorem V.dX17_limits_20 : decode cX17_limits 20 = .ok (.aload_n 0, 1) := by decide +kernel
theorem V.dX17_limits_21 : decode cX17_limits 21 = .ok (.invokevirtual 277, 3) := by decide +kernel
theorem V.dX17_limits_24 : decode cX17_limits 24 = .ok (.goto 6, 3) := by decide +kernel
theorem V.dX17_limits_27 : decode cX17_limits 27 = .ok (.ldc2_w 268, 3) := by decide +kernel
theorem V.dX17_limits_30 : decode cX17_limits 30 = .ok (.putfield 399, 3) := by decide +kernel
theorem V.dX17_limits_33 : decode cX17_limits 33 = .ok (.return_, 1) := by decide +kernel
theorem V.mdX17_393 : MD RX17 393 yX17_small cX17_small 3 (some .int) 1 := ⟨Or.inl q3669, q377, q3672, by decide, by decide, by decide +kernel⟩
theorem V.fpX17_396 {nm : String} : FP RX17 nm 396 17 17 (.long) := ⟨(RX17, TX17, 101), tyX17, rfl, rfl, in_X17, by decide, tyX17_ok, nmX17, rfl, Or.inl ⟨rfl, Or.inl q3053⟩⟩
theorem V.fpX17_399 {nm : String} : FP RX17 nm 399 17 18 (.long) := ⟨(RX17, TX17, 101), tyX17, rfl, rfl, in_X17, by decide, tyX17_ok, nmX17, rfl, Or.inl ⟨rfl, Or.inl q3054⟩⟩
/-! ModuleEngineModel.limits()V -/
def V.Mdl_limits_p30  (σ : HS) (s0 : Int64) (s1 : Nat) : Option ((Nat ⊕ Unit) × HS) :=
  ck (tg σ s1 = 18) <| bn (sJ σ s1 18 s0) fun σ1 =>
  some (.inr (), σ1)
theorem V.gX17_limits_p30 {X : CX}  (σ : HS) (s0 : Int64) (s1 : Nat) : G X RX17 "limits" cX17_limits 2 none 3 66 (enX enV (cxz X)) 30 [] [jv s0, av s1] σ (Mdl_limits_p30 σ s0 s1) := by
  unfold Mdl_limits_p30
  refine g_putJ fpX17_399 dX17_limits_30 (fun σ1 => ?_)
  exact g_return rfl dX17_limits_33
def V.Mdl_limits (σ : HS) (x0 : Nat) : Option ((Nat ⊕ Unit) × HS) :=
  ck (tg σ x0 = 18) <| clT (Mdl_small σ x0 (1 : Int32)) fun r2 σ1 =>
  ck (tg σ1 x0 = 18) <| clT (Mdl_number σ1 x0 ) fun r4 σ3 =>
  ck (tg σ3 x0 = 18) <| bn (sJ σ3 x0 17 r4) fun σ5 =>
  if r2 = (1 : Int32) then (
    ck (tg σ5 x0 = 18) <| clT (Mdl_number σ5 x0 ) fun r7 σ6 =>
    Mdl_limits_p30 σ6 r7 x0)
  else (
    Mdl_limits_p30 σ5 (-1 : Int64) x0)
theorem V.ctX17_limits (x0 : Nat) : Ct yX17_limits  cX17_limits 2 none 3 66 eXV [av x0] (fun σ => Mdl_limits σ x0) := by
  refine Ct.of (own := RX17) (nm := "limits") (desc := "()V") rfl (by decide) (Nat.le_of_ble_eq_true rfl) (by decide) (fun X σ => ?_)
  show G X RX17 "limits" cX17_limits 2 none 3 66 (enX enV (cxz X)) 0 [(0, av x0)] [] σ (Mdl_limits σ x0)
  unfold Mdl_limits
  refine g_aload_n 0 0 dX17_limits_0 rfl rfl ?_
  refine g_iconst (v := 1) dX17_limits_1 (by decide) ?_
  refine g_callVT (fc := fun sς => Mdl_small sς x0 (1 : Int32)) (ci := 17) (as := [iv (1 : Int32)]) rfl rfl rfl q3671 qs225 q3669 mdX17_393 (ctX17_small x0 (1 : Int32)) rfl (Nat.le_of_ble_eq_true rfl) (Nat.le_of_ble_eq_true rfl) (Nat.le_of_ble_eq_true rfl) pu_I (by decide) dX17_limits_2 (fun r2 σ1 => ?_)
  refine g_istore_n 1 dX17_limits_5 rfl (by decide) rfl ?_
  refine g_aload_n 0 1 dX17_limits_6 rfl rfl ?_
  refine g_aload_n 0 1 dX17_limits_7 rfl rfl ?_
  refine g_callVT (fc := fun sς => Mdl_number sς x0 ) (ci := 17) (as := []) rfl rfl rfl q3619 qs215 q3617 mdX17_277 (ctX17_number x0 ) rfl (Nat.le_of_ble_eq_true rfl) (Nat.le_of_ble_eq_true rfl) (Nat.le_of_ble_eq_true rfl) pu_J (by decide) dX17_limits_8 (fun r4 σ3 => ?_)
  refine g_putJ fpX17_396 dX17_limits_11 (fun σ5 => ?_)
  refine g_aload_n 0 1 dX17_limits_14 rfl rfl ?_
  refine g_iload_n 1 0 dX17_limits_15 rfl rfl ?_
  refine g_iconst (v := 1) dX17_limits_16 (by decide) ?_
  refine g_icmp_ne 27 dX17_limits_17 (by decide) ?_ ?_
  · refine g_ldc2 q3673 dX17_limits_27 ?_
    refine G.sub [] rfl ?_
    exact gX17_limits_p30 _ _ _
  · refine g_aload_n 0 1 dX17_limits_20 rfl rfl ?_
    refine g_callVT (fc := fun sς => Mdl_number sς x0 ) (ci := 17) (as := []) rfl rfl rfl q3619 qs215 q3617 mdX17_277 (ctX17_number x0 ) rfl (Nat.le_of_ble_eq_true rfl) (Nat.le_of_ble_eq_true rfl) (Nat.le_of_ble_eq_true rfl) pu_J (by decide) dX17_limits_21 (fun r7 σ6 => ?_)
    refine g_goto 30 dX17_limits_24 (by decide) ?_
    refine G.sub [] rfl ?_
    exact gX17_limits_p30 _ _ _
theorem V.dX17_readsImports_0 : decode cX17_readsImports 0 = .ok (.aload_n 0, 1) := by decide +kernel
theorem V.dX17_readsImports_1 : decode cX17_readsImports 1 = .ok (.invokevirtual 277, 3) := by decide +kernel
theorem V.dX17_readsImports_4 : decode cX17_readsImports 4 = .ok (.lstore_n 1, 1) := by decide +kernel
theorem V.dX17_readsImports_5 : decode cX17_readsImports 5 = .ok (.aload_n 0, 1) := by decide +kernel
theorem V.dX17_readsImports_6 : decode cX17_readsImports 6 = .ok (.getfield 221, 3) := by decide +kernel
theorem V.dX17_readsImports_9 : decode cX17_readsImports 9 = .ok (.aload_n 0, 1) := by decide +kernel
theorem V.dX17_readsImports_10 : decode cX17_readsImports 10 = .ok (.lload_n 1, 1) := by decide +kernel
theorem V.dX17_readsImports_11 : decode cX17_readsImports 11 = .ok (.invokevirtual 377, 3) := by decide +kernel
theorem V.dX17_readsImports_14 : decode cX17_readsImports 14 = .ok (.putfield 402, 3) := by decide +kernel
theorem V.dX17_readsImports_17 : decode cX17_readsImports 17 = .ok (.lconst 0, 1) := by decide +kernel
theorem V.dX17_readsImports_18 : decode cX17_readsImports 18 = .ok (.lstore_n 3, 1) := by decide +kernel
theorem V.dX17_readsImports_19 : decode cX17_readsImports 19 = .ok (.lload_n 3, 1) := by decide +kernel
theorem V.dX17_readsImports_20 : decode cX17_readsImports 20 = .ok (.lload_n 1, 1) := by decide +kernel
theorem V.dX17_readsImports_21 : decode cX17_readsImports 21 = .ok (.lcmp, 1) := by decide +kernel
theorem V.dX17_readsImports_22 : decode cX17_readsImports 22 = .ok (.ifCond .ge 186, 3) := by decide +kernel
theorem V.dX17_readsImports_25 : decode cX17_readsImports 25 = .ok (.aload_n 0, 1) := by decide +kernel
theorem V.dX17_readsImports_26 : decode cX17_readsImports 26 = .ok (.invokevirtual 324, 3) := by decide +kernel
theorem V.dX17_readsImports_29 : decode cX17_readsImports 29 = .ok (.aload_n 0, 1) := by decide +kernel
theorem V.dX17_readsImports_30 : decode cX17_readsImports 30 = .ok (.invokevirtual 324, 3) := by decide +kernel
theorem V.dX17_readsImports_33 : decode cX17_readsImports 33 = .ok (.aload_n 0, 1) := by decide +kernel
theorem V.dX17_readsImports_34 : decode cX17_readsImports 34 = .ok (.iconst 3, 1) := by decide +kernel
theorem V.dX17_readsImports_35 : decode cX17_readsImports 35 = .ok (.invokevirtual 393, 3) := by decide +kernel
theorem V.dX17_readsImports_38 : decode cX17_readsImports 38 = .ok (.istore 5, 2) := by decide +kernel
theorem V.dX17_readsImports_40 : decode cX17_readsImports 40 = .ok (.lconst 0, 1) := by decide +kernel
theorem V.dX17_readsImports_41 : decode cX17_readsImports 41 = .ok (.lstore 6, 2) := by decide +kernel
theorem V.dX17_readsImports_43 : decode cX17_readsImports 43 = .ok (.iconst 0, 1) := by decide +kernel
theorem V.dX17_readsImports_44 : decode cX17_readsImports 44 = .ok (.istore 8, 2) := by decide +kernel
theorem V.dX17_readsImports_46 : decode cX17_readsImports 46 = .ok (.aload_n 0, 1) := by decide +kernel
theorem V.dX17_readsImports_47 : decode cX17_readsImports 47 = .ok (.lconst 0, 1) := by decide +kernel
theorem V.dX17_readsImports_48 : decode cX17_readsImports 48 = .ok (.putfield 396, 3) := by decide +kernel
theorem V.dX17_readsImports_51 : decode cX17_readsImports 51 = .ok (.aload_n 0, 1) := by decide +kernel
theorem V.dX17_readsImports_52 : decode cX17_readsImports 52 = .ok (.ldc2_w 268, 3) := by decide +kernel
theorem V.dX17_readsImports_55 : decode cX17_readsImports 55 = .ok (.putfield 399, 3) := by decide +kernel
theorem V.dX17_readsImports_58 : decode cX17_readsImports 58 = .ok (.iload 5, 2) := by decide +kernel
theorem V.dX17_readsImports_60 : decode cX17_readsImports 60 = .ok (.ifCond .ne 12, 3) := by decide +kernel
theorem V.dX17_readsImports_63 : decode cX17_readsImports 63 = .ok (.aload_n 0, 1) := by decide +kernel
theorem V.dX17_readsImports_64 : decode cX17_readsImports 64 = .ok (.invokevirtual 277, 3) := by decide +kernel
theorem V.dX17_readsImports_67 : decode cX17_readsImports 67 = .ok (.lstore 6, 2) := by decide +kernel
theorem V.dX17_readsImports_69 : decode cX17_readsImports 69 = .ok (.goto 56, 3) := by decide +kernel
theorem V.dX17_readsImports_72 : decode cX17_readsImports 72 = .ok (.iload 5, 2) := by decide +kernel
theorem V.dX17_readsImports_74 : decode cX17_readsImports 74 = .ok (.iconst 3, 1) := by decide +kernel
theorem V.dX17_readsImports_75 : decode cX17_readsImports 75 = .ok (.if_icmp .ne 29, 3) := by decide +kernel
theorem V.dX17_readsImports_78 : decode cX17_readsImports 78 = .ok (.aload_n 0, 1) := by decide +kernel
theorem V.dX17_readsImports_79 : decode cX17_readsImports 79 = .ok (.invokevirtual 371, 3) := by decide +kernel
theorem V.dX17_readsImports_82 : decode cX17_readsImports 82 = .ok (.i2l, 1) := by decide +kernel
theorem V.dX17_readsImports_83 : decode cX17_readsImports 83 = .ok (.lstore 6, 2) := by decide +kernel
theorem V.dX17_readsImports_85 : decode cX17_readsImports 85 = .ok (.aload_n 0, 1) := by decide +kernel
theorem V.dX17_readsImports_86 : decode cX17_readsImports 86 = .ok (.iconst 1, 1) := by decide +kernel
theorem V.dX17_readsImports_87 : decode cX17_readsImports 87 = .ok (.invokevirtual 393, 3) := by decide +kernel
theorem V.dX17_readsImports_90 : decode cX17_readsImports 90 = .ok (.iconst 1, 1) := by decide +kernel
theorem V.dX17_readsImports_91 : decode cX17_readsImports 91 = .ok (.if_icmp .ne 7, 3) := by decide +kernel
theorem V.dX17_readsImports_94 : decode cX17_readsImports 94 = .ok (.iconst 1, 1) := by decide +kernel
theorem V.dX17_readsImports_95 : decode cX17_readsImports 95 = .ok (.goto 4, 3) := by decide +kernel
theorem V.dX17_readsImports_98 : decode cX17_readsImports 98 = .ok (.iconst 0, 1) := by decide +kernel
theorem V.dX17_readsImports_99 : decode cX17_readsImports 99 = .ok (.istore 8, 2) := by decide +kernel
theorem V.dX17_readsImports_101 : decode cX17_readsImports 101 = .ok (.goto 24, 3) := by decide +kernel
theorem V.dX17_readsImports_104 : decode cX17_readsImports 104 = .ok (.iload 5, 2) := by decide +kernel
theorem V.dX17_readsImports_106 : decode cX17_readsImports 106 = .ok (.iconst 1, 1) := by decide +kernel
theorem V.dX17_readsImports_107 : decode cX17_readsImports 107 = .ok (.if_icmp .ne 11, 3) := by decide +kernel
theorem V.dX17_readsImports_110 : decode cX17_readsImports 110 = .ok (.aload_n 0, 1) := by decide +kernel
theorem V.dX17_readsImports_111 : decode cX17_readsImports 111 = .ok (.invokevirtual 405, 3) := by decide +kernel
theorem V.dX17_readsImports_114 : decode cX17_readsImports 114 = .ok (.i2l, 1) := by decide +kernel
theorem V.dX17_readsImports_115 : decode cX17_readsImports 115 = .ok (.goto 4, 3) := by decide +kernel
theorem V.dX17_readsImports_118 : decode cX17_readsImports 118 = .ok (.lconst 0, 1) := by decide +kernel
theorem V.dX17_readsImports_119 : decode cX17_readsImports 119 = .ok (.lstore 6, 2) := by decide +kernel
theorem V.dX17_readsImports_121 : decode cX17_readsImports 121 = .ok (.aload_n 0, 1) := by decide +kernel
theorem V.dX17_readsImports_122 : decode cX17_readsImports 122 = .ok (.invokevirtual 408, 3) := by decide +kernel
theorem V.dX17_readsImports_125 : decode cX17_readsImports 125 = .ok (.lload_n 3, 1) := by decide +kernel
theorem V.dX17_readsImports_126 : decode cX17_readsImports 126 = .ok (.ldc2_w 363, 3) := by decide +kernel
theorem V.dX17_readsImports_129 : decode cX17_readsImports 129 = .ok (.lcmp, 1) := by decide +kernel
theorem V.dX17_readsImports_130 : decode cX17_readsImports 130 = .ok (.ifCond .ge 71, 3) := by decide +kernel
theorem V.dX17_readsImports_133 : decode cX17_readsImports 133 = .ok (.lload_n 3, 1) := by decide +kernel
theorem V.dX17_readsImports_134 : decode cX17_readsImports 134 = .ok (.l2i, 1) := by decide +kernel
theorem V.dX17_readsImports_135 : decode cX17_readsImports 135 = .ok (.istore 9, 2) := by decide +kernel
theorem V.dX17_readsImports_137 : decode cX17_readsImports 137 = .ok (.aload_n 0, 1) := by decide +kernel
theorem V.dX17_readsImports_138 : decode cX17_readsImports 138 = .ok (.getfield 221, 3) := by decide +kernel
theorem V.dX17_readsImports_141 : decode cX17_readsImports 141 = .ok (.getfield 411, 3) := by decide +kernel
theorem V.dX17_readsImports_144 : decode cX17_readsImports 144 = .ok (.iload 9, 2) := by decide +kernel
theorem V.dX17_readsImports_146 : decode cX17_readsImports 146 = .ok (.iload 5, 2) := by decide +kernel
theorem V.dX17_readsImports_148 : decode cX17_readsImports 148 = .ok (.iastore, 1) := by decide +kernel
theorem V.dX17_readsImports_149 : decode cX17_readsImports 149 = .ok (.aload_n 0, 1) := by decide +kernel
theorem V.dX17_readsImports_150 : decode cX17_readsImports 150 = .ok (.getfield 221, 3) := by decide +kernel
theorem V.dX17_readsImports_153 : decode cX17_readsImports 153 = .ok (.getfield 414, 3) := by decide +kernel
theorem V.dX17_readsImports_156 : decode cX17_readsImports 156 = .ok (.iload 9, 2) := by decide +kernel
theorem V.dX17_readsImports_158 : decode cX17_readsImports 158 = .ok (.lload 6, 2) := by decide +kernel
theorem V.dX17_readsImports_160 : decode cX17_readsImports 160 = .ok (.lastore, 1) := by decide +kernel
theorem V.dX17_readsImports_161 : decode cX17_readsImports 161 = .ok (.aload_n 0, 1) := by decide +kernel
theorem V.dX17_readsImports_162 : decode cX17_readsImports 162 = .ok (.getfield 221, 3) := by decide +kernel
theorem V.dX17_readsImports_165 : decode cX17_readsImports 165 = .ok (.getfield 417, 3) := by decide +kernel
theorem V.dX17_readsImports_168 : decode cX17_readsImports 168 = .ok (.iload 9, 2) := by decide +kernel
theorem V.dX17_readsImports_170 : decode cX17_readsImports 170 = .ok (.aload_n 0, 1) := by decide +kernel
theorem V.dX17_readsImports_171 : decode cX17_readsImports 171 = .ok (.getfield 396, 3) := by decide +kernel
theorem V.dX17_readsImports_174 : decode cX17_readsImports 174 = .ok (.lastore, 1) := by decide +kernel
theorem V.dX17_readsImports_175 : decode cX17_readsImports 175 = .ok (.aload_n 0, 1) := by decide +kernel
theorem V.dX17_readsImports_176 : decode cX17_readsImports 176 = .ok (.getfield 221, 3) := by decide +kernel
theorem V.dX17_readsImports_179 : decode cX17_readsImports 179 = .ok (.getfield 420, 3) := by decide +kernel
theorem V.dX17_readsImports_182 : decode cX17_readsImports 182 = .ok (.iload 9, 2) := by decide +kernel
theorem V.dX17_readsImports_184 : decode cX17_readsImports 184 = .ok (.aload_n 0, 1) := by decide +kernel
theorem V.dX17_readsImports_185 : decode cX17_readsImports 185 = .ok (.getfield 399, 3) := by decide +kernel
theorem V.dX17_readsImports_188 : decode cX17_readsImports 188 = .ok (.lastore, 1) := by decide +kernel
theorem V.dX17_readsImports_189 : decode cX17_readsImports 189 = .ok (.aload_n 0, 1) := by decide +kernel
theorem V.dX17_readsImports_190 : decode cX17_readsImports 190 = .ok (.getfield 221, 3) := by decide +kernel
theorem V.dX17_readsImports_193 : decode cX17_readsImports 193 = .ok (.getfield 423, 3) := by decide +kernel
theorem V.dX17_readsImports_196 : decode cX17_readsImports 196 = .ok (.iload 9, 2) := by decide +kernel
theorem V.dX17_readsImports_198 : decode cX17_readsImports 198 = .ok (.iload 8, 2) := by decide +kernel
theorem V.dX17_readsImports_200 : decode cX17_readsImports 200 = .ok (.bastore, 1) := by decide +kernel
theorem V.dX17_readsImports_201 : decode cX17_readsImports 201 = .ok (.lload_n 3, 1) := by decide +kernel
theorem V.dX17_readsImports_202 : decode cX17_readsImports 202 = .ok (.lconst 1, 1) := by decide +kernel
theorem V.dX17_readsImports_203 : decode cX17_readsImports 203 = .ok (.ladd, 1) := by decide +kernel
theorem V.dX17_readsImports_204 : decode cX17_readsImports 204 = .ok (.lstore_n 3, 1) := by decide +kernel
theorem V.dX17_readsImports_205 : decode cX17_readsImports 205 = .ok (.goto (-186), 3) := by decide +kernel
theorem V.dX17_readsImports_208 : decode cX17_readsImports 208 = .ok (.return_, 1) := by decide +kernel
theorem V.fpX17_402 {nm : String} : FP RX17 nm 402 20 8 (.int) := ⟨(RX20, TX20, 58), tyX20, rfl, rfl, in_X20, by decide, tyX20_ok, nmX20, rfl, Or.inl ⟨rfl, Or.inr ⟨_, q3376⟩⟩⟩
theorem V.mdX17_324 : MD RX17 324 yX17_name cX17_name 6 none 0 := ⟨Or.inl q3625, q377, q3628, by decide, by decide, by decide +kernel⟩
theorem V.mdX17_405 : MD RX17 405 yX17_referenceType cX17_referenceType 2 (some .int) 0 := ⟨Or.inl q3674, q377, q3677, by decide, by decide, by decide +kernel⟩
theorem V.mdX17_408 : MD RX17 408 yX17_limits cX17_limits 2 none 0 := ⟨Or.inl q3678, q377, q3681, by decide, by decide, by decide +kernel⟩
theorem V.fdX17_411 : FD RX17 411 20 9 2 := ⟨(RX20, TX20, 58), tyX20, rfl, rfl, in_X20, by decide, Or.inr ⟨_, q3378⟩, rfl⟩
theorem V.fdX17_414 : FD RX17 414 20 10 2 := ⟨(RX20, TX20, 58), tyX20, rfl, rfl, in_X20, by decide, Or.inr ⟨_, q3380⟩, rfl⟩
theorem V.fdX17_417 : FD RX17 417 20 11 2 := ⟨(RX20, TX20, 58), tyX20, rfl, rfl, in_X20, by decide, Or.inr ⟨_, q3382⟩, rfl⟩
theorem V.fdX17_396 : FD RX17 396 17 17 1 := ⟨(RX17, TX17, 101), tyX17, rfl, rfl, in_X17, by decide, Or.inl q3053, rfl⟩
theorem V.fdX17_420 : FD RX17 420 20 12 2 := ⟨(RX20, TX20, 58), tyX20, rfl, rfl, in_X20, by decide, Or.inr ⟨_, q3384⟩, rfl⟩
theorem V.fdX17_399 : FD RX17 399 17 18 1 := ⟨(RX17, TX17, 101), tyX17, rfl, rfl, in_X17, by decide, Or.inl q3054, rfl⟩
theorem V.fdX17_423 : FD RX17 423 20 13 2 := ⟨(RX20, TX20, 58), tyX20, rfl, rfl, in_X20, by decide, Or.inr ⟨_, q3386⟩, rfl⟩
/-! ModuleEngineModel.readsImports()V -/
def V.Mdl_readsImports_p201 (rec19 : HS → Nat → Int64 → Int64 → Option ((Nat ⊕ Unit) × HS)) (σ : HS) (x0 : Nat) (x1 : Int64) (x3 : Int64) : Option ((Nat ⊕ Unit) × HS) :=
  bn (x3 + (1 : Int64)) fun y1 =>
  rec19 σ x0 x1 y1
theorem V.gX17_readsImports_p201 {X : CX} (rec19 : HS → Nat → Int64 → Int64 → Option ((Nat ⊕ Unit) × HS)) (hrec19 : ∀ (σ : HS) (x0 : Nat) (x1 : Int64) (x3 : Int64), G X RX17 "readsImports" cX17_readsImports 10 none 4 91 (enX enV (cxz X)) 19 [(0, av x0), (1, jv x1), (3, jv x3)] [] σ (rec19 σ x0 x1 x3)) (σ : HS) (x0 : Nat) (x1 : Int64) (x3 : Int64) : G X RX17 "readsImports" cX17_readsImports 10 none 4 91 (enX enV (cxz X)) 201 [(0, av x0), (1, jv x1), (3, jv x3)] [] σ (Mdl_readsImports_p201 rec19 σ x0 x1 x3) := by
  unfold Mdl_readsImports_p201
  refine g_lload_n 3 2 dX17_readsImports_201 rfl rfl ?_
  refine g_lconst (v := 1) dX17_readsImports_202 (by decide) ?_
  refine g_ladd dX17_readsImports_203 ?_
  refine g_nmJ (fun y1 => ?_)
  refine g_lstore_n 3 dX17_readsImports_204 rfl (by decide) rfl ?_
  refine g_goto 19 dX17_readsImports_205 (by decide) ?_
  refine G.sub [1, 2, 0] rfl ?_
  exact hrec19 _ _ _ _
def V.Mdl_readsImports_p125 (rec19 : HS → Nat → Int64 → Int64 → Option ((Nat ⊕ Unit) × HS)) (σ : HS) (x0 : Nat) (x1 : Int64) (x3 : Int64) (x5 : Int32) (x6 : Int64) (x8 : Int32) : Option ((Nat ⊕ Unit) × HS) :=
  if (64 : Int64) ≤ x3 then (
    Mdl_readsImports_p201 rec19 σ x0 x1 x3)
  else (
    ck (tg σ x0 = 18) <|
    ck (tg σ (gR σ x0 10) = 21) <|
    ck (tg σ (gR σ (gR σ x0 10) 9) = 100 ∧ inb x3.toInt32 (ln σ (gR σ (gR σ x0 10) 9))) <| bn (sI σ (gR σ (gR σ x0 10) 9) (ix x3.toInt32) x5) fun σ1 =>
    ck (tg σ1 x0 = 18) <|
    ck (tg σ1 (gR σ1 x0 10) = 21) <|
    ck (tg σ1 (gR σ1 (gR σ1 x0 10) 10) = 101 ∧ inb x3.toInt32 (ln σ1 (gR σ1 (gR σ1 x0 10) 10))) <| bn (sJ σ1 (gR σ1 (gR σ1 x0 10) 10) (ix x3.toInt32) x6) fun σ2 =>
    ck (tg σ2 x0 = 18) <|
    ck (tg σ2 (gR σ2 x0 10) = 21) <|
    ck (tg σ2 x0 = 18) <|
    ck (tg σ2 (gR σ2 (gR σ2 x0 10) 11) = 101 ∧ inb x3.toInt32 (ln σ2 (gR σ2 (gR σ2 x0 10) 11))) <| bn (sJ σ2 (gR σ2 (gR σ2 x0 10) 11) (ix x3.toInt32) (gJ σ2 x0 17)) fun σ3 =>
    ck (tg σ3 x0 = 18) <|
    ck (tg σ3 (gR σ3 x0 10) = 21) <|
    ck (tg σ3 x0 = 18) <|
    ck (tg σ3 (gR σ3 (gR σ3 x0 10) 12) = 101 ∧ inb x3.toInt32 (ln σ3 (gR σ3 (gR σ3 x0 10) 12))) <| bn (sJ σ3 (gR σ3 (gR σ3 x0 10) 12) (ix x3.toInt32) (gJ σ3 x0 18)) fun σ4 =>
    ck (tg σ4 x0 = 18) <|
    ck (tg σ4 (gR σ4 x0 10) = 21) <|
    ck (tg σ4 (gR σ4 (gR σ4 x0 10) 13) = 103 ∧ inb x3.toInt32 (ln σ4 (gR σ4 (gR σ4 x0 10) 13)) ∧ zb x8) <| bn (sI σ4 (gR σ4 (gR σ4 x0 10) 13) (ix x3.toInt32) x8) fun σ5 =>
    Mdl_readsImports_p201 rec19 σ5 x0 x1 x3)
theorem V.gX17_readsImports_p125 {X : CX} (rec19 : HS → Nat → Int64 → Int64 → Option ((Nat ⊕ Unit) × HS)) (hrec19 : ∀ (σ : HS) (x0 : Nat) (x1 : Int64) (x3 : Int64), G X RX17 "readsImports" cX17_readsImports 10 none 4 91 (enX enV (cxz X)) 19 [(0, av x0), (1, jv x1), (3, jv x3)] [] σ (rec19 σ x0 x1 x3)) (σ : HS) (x0 : Nat) (x1 : Int64) (x3 : Int64) (x5 : Int32) (x6 : Int64) (x8 : Int32) : G X RX17 "readsImports" cX17_readsImports 10 none 4 91 (enX enV (cxz X)) 125 [(0, av x0), (1, jv x1), (3, jv x3), (5, iv x5), (6, jv x6), (8, iv x8)] [] σ (Mdl_readsImports_p125 rec19 σ x0 x1 x3 x5 x6 x8) := by
  unfold Mdl_readsImports_p125
  refine g_lload_n 3 2 dX17_readsImports_125 rfl rfl ?_
  refine g_ldc2 q3645 dX17_readsImports_126 ?_
  refine g_lcmp_ge 201 dX17_readsImports_129 dX17_readsImports_130 (by decide) ?_ ?_
  · refine G.sub [0, 1, 2] rfl ?_
    exact gX17_readsImports_p201 rec19 hrec19 _ _ _ _
  · refine g_lload_n 3 2 dX17_readsImports_133 rfl rfl ?_
    refine g_l2i dX17_readsImports_134 ?_
    refine g_istore dX17_readsImports_135 (by decide) rfl ?_
    refine g_aload_n 0 1 dX17_readsImports_137 rfl rfl ?_
    refine g_getR fdX17_221 dX17_readsImports_138 ?_
    refine g_getR fdX17_411 dX17_readsImports_141 ?_
    refine g_iload 0 dX17_readsImports_144 rfl ?_
    refine g_iload 4 dX17_readsImports_146 rfl ?_
    refine g_iastore dX17_readsImports_148 (fun σ1 => ?_)
    refine g_aload_n 0 1 dX17_readsImports_149 rfl rfl ?_
    refine g_getR fdX17_221 dX17_readsImports_150 ?_
    refine g_getR fdX17_414 dX17_readsImports_153 ?_
    refine g_iload 0 dX17_readsImports_156 rfl ?_
    refine g_lload 5 dX17_readsImports_158 rfl ?_
    refine g_lastore dX17_readsImports_160 (fun σ2 => ?_)
    refine g_aload_n 0 1 dX17_readsImports_161 rfl rfl ?_
    refine g_getR fdX17_221 dX17_readsImports_162 ?_
    refine g_getR fdX17_417 dX17_readsImports_165 ?_
    refine g_iload 0 dX17_readsImports_168 rfl ?_
    refine g_aload_n 0 1 dX17_readsImports_170 rfl rfl ?_
    refine g_getJ fdX17_396 dX17_readsImports_171 ?_
    refine g_lastore dX17_readsImports_174 (fun σ3 => ?_)
    refine g_aload_n 0 1 dX17_readsImports_175 rfl rfl ?_
    refine g_getR fdX17_221 dX17_readsImports_176 ?_
    refine g_getR fdX17_420 dX17_readsImports_179 ?_
    refine g_iload 0 dX17_readsImports_182 rfl ?_
    refine g_aload_n 0 1 dX17_readsImports_184 rfl rfl ?_
    refine g_getJ fdX17_399 dX17_readsImports_185 ?_
    refine g_lastore dX17_readsImports_188 (fun σ4 => ?_)
    refine g_aload_n 0 1 dX17_readsImports_189 rfl rfl ?_
    refine g_getR fdX17_221 dX17_readsImports_190 ?_
    refine g_getR fdX17_423 dX17_readsImports_193 ?_
    refine g_iload 0 dX17_readsImports_196 rfl ?_
    refine g_iload 6 dX17_readsImports_198 rfl ?_
    refine g_zastore dX17_readsImports_200 (fun σ5 => ?_)
    refine G.sub [1, 2, 3] rfl ?_
    exact gX17_readsImports_p201 rec19 hrec19 _ _ _ _
def V.Mdl_readsImports_p119 (rec19 : HS → Nat → Int64 → Int64 → Option ((Nat ⊕ Unit) × HS)) (σ : HS) (x0 : Nat) (x1 : Int64) (x3 : Int64) (x5 : Int32) (x8 : Int32) (s0 : Int64) : Option ((Nat ⊕ Unit) × HS) :=
  ck (tg σ x0 = 18) <| clT (Mdl_limits σ x0 ) fun _ σ1 =>
  Mdl_readsImports_p125 rec19 σ1 x0 x1 x3 x5 s0 x8
theorem V.gX17_readsImports_p119 {X : CX} (rec19 : HS → Nat → Int64 → Int64 → Option ((Nat ⊕ Unit) × HS)) (hrec19 : ∀ (σ : HS) (x0 : Nat) (x1 : Int64) (x3 : Int64), G X RX17 "readsImports" cX17_readsImports 10 none 4 91 (enX enV (cxz X)) 19 [(0, av x0), (1, jv x1), (3, jv x3)] [] σ (rec19 σ x0 x1 x3)) (σ : HS) (x0 : Nat) (x1 : Int64) (x3 : Int64) (x5 : Int32) (x8 : Int32) (s0 : Int64) : G X RX17 "readsImports" cX17_readsImports 10 none 4 91 (enX enV (cxz X)) 119 [(0, av x0), (1, jv x1), (3, jv x3), (5, iv x5), (8, iv x8)] [jv s0] σ (Mdl_readsImports_p119 rec19 σ x0 x1 x3 x5 x8 s0) := by
  unfold Mdl_readsImports_p119
  refine g_lstore dX17_readsImports_119 (by decide) rfl ?_
  refine g_aload_n 0 1 dX17_readsImports_121 rfl rfl ?_
  refine g_callVT (fc := fun sς => Mdl_limits sς x0 ) (ci := 17) (as := []) rfl rfl rfl q3680 qs227 q3678 mdX17_408 (ctX17_limits x0 ) rfl (Nat.le_of_ble_eq_true rfl) (Nat.le_of_ble_eq_true rfl) (Nat.le_of_ble_eq_true rfl) pu_V (by decide) dX17_readsImports_122 (fun _ σ1 => ?_)
  refine G.sub [1, 2, 3, 4, 0, 5] rfl ?_
  exact gX17_readsImports_p125 rec19 hrec19 _ _ _ _ _ _ _
def V.Mdl_readsImports_p99 (rec19 : HS → Nat → Int64 → Int64 → Option ((Nat ⊕ Unit) × HS)) (σ : HS) (x0 : Nat) (x1 : Int64) (x3 : Int64) (x5 : Int32) (x6 : Int64) (s0 : Int32) : Option ((Nat ⊕ Unit) × HS) :=
  Mdl_readsImports_p125 rec19 σ x0 x1 x3 x5 x6 s0
theorem V.gX17_readsImports_p99 {X : CX} (rec19 : HS → Nat → Int64 → Int64 → Option ((Nat ⊕ Unit) × HS)) (hrec19 : ∀ (σ : HS) (x0 : Nat) (x1 : Int64) (x3 : Int64), G X RX17 "readsImports" cX17_readsImports 10 none 4 91 (enX enV (cxz X)) 19 [(0, av x0), (1, jv x1), (3, jv x3)] [] σ (rec19 σ x0 x1 x3)) (σ : HS) (x0 : Nat) (x1 : Int64) (x3 : Int64) (x5 : Int32) (x6 : Int64) (s0 : Int32) : G X RX17 "readsImports" cX17_readsImports 10 none 4 91 (enX enV (cxz X)) 99 [(0, av x0), (1, jv x1), (3, jv x3), (5, iv x5), (6, jv x6)] [iv s0] σ (Mdl_readsImports_p99 rec19 σ x0 x1 x3 x5 x6 s0) := by
  unfold Mdl_readsImports_p99
  refine g_istore dX17_readsImports_99 (by decide) rfl ?_
  refine g_goto 125 dX17_readsImports_101 (by decide) ?_
  refine G.sub [1, 2, 3, 4, 5, 0] rfl ?_
  exact gX17_readsImports_p125 rec19 hrec19 _ _ _ _ _ _ _
def V.Mdl_readsImports_p19  : Nat → HS → Nat → Int64 → Int64 → Option ((Nat ⊕ Unit) × HS)
  | 0, _, _, _, _ => none
  | n + 1, σ, x0, x1, x3 =>
    if x1 ≤ x3 then (
      some (.inr (), σ))
    else (
      ck (tg σ x0 = 18) <| clT (Mdl_name σ x0 ) fun _ σ1 =>
      ck (tg σ1 x0 = 18) <| clT (Mdl_name σ1 x0 ) fun _ σ2 =>
      ck (tg σ2 x0 = 18) <| clT (Mdl_small σ2 x0 (3 : Int32)) fun r4 σ3 =>
      ck (tg σ3 x0 = 18) <| bn (sJ σ3 x0 17 (0 : Int64)) fun σ5 =>
      ck (tg σ5 x0 = 18) <| bn (sJ σ5 x0 18 (-1 : Int64)) fun σ6 =>
      if r4 = 0 then (
        ck (tg σ6 x0 = 18) <| clT (Mdl_number σ6 x0 ) fun r14 σ13 =>
        Mdl_readsImports_p125 (Mdl_readsImports_p19 n) σ13 x0 x1 x3 r4 r14 (0 : Int32))
      else (
        if r4 = (3 : Int32) then (
          ck (tg σ6 x0 = 18) <| clT (Mdl_type σ6 x0 ) fun r10 σ9 =>
          ck (tg σ9 x0 = 18) <| clT (Mdl_small σ9 x0 (1 : Int32)) fun r12 σ11 =>
          if r12 = (1 : Int32) then (
            Mdl_readsImports_p99 (Mdl_readsImports_p19 n) σ11 x0 x1 x3 r4 r10.toInt64 (1 : Int32))
          else (
            Mdl_readsImports_p99 (Mdl_readsImports_p19 n) σ11 x0 x1 x3 r4 r10.toInt64 (0 : Int32)))
        else (
          if r4 = (1 : Int32) then (
            ck (tg σ6 x0 = 18) <| clT (Mdl_referenceType σ6 x0 ) fun r8 σ7 =>
            Mdl_readsImports_p119 (Mdl_readsImports_p19 n) σ7 x0 x1 x3 r4 (0 : Int32) r8.toInt64)
          else (
            Mdl_readsImports_p119 (Mdl_readsImports_p19 n) σ6 x0 x1 x3 r4 (0 : Int32) (0 : Int64)))))
theorem V.gX17_readsImports_p19 {X : CX}  : ∀ (n : Nat) (σ : HS) (x0 : Nat) (x1 : Int64) (x3 : Int64), G X RX17 "readsImports" cX17_readsImports 10 none 4 91 (enX enV (cxz X)) 19 [(0, av x0), (1, jv x1), (3, jv x3)] [] σ (Mdl_readsImports_p19 n σ x0 x1 x3)
  | 0, σ, x0, x1, x3 => by rw [Mdl_readsImports_p19]; exact G.nul
  | n + 1, σ, x0, x1, x3 => by
    rw [Mdl_readsImports_p19]
    refine g_lload_n 3 2 dX17_readsImports_19 rfl rfl ?_
    refine g_lload_n 1 1 dX17_readsImports_20 rfl rfl ?_
    refine g_lcmp_ge 208 dX17_readsImports_21 dX17_readsImports_22 (by decide) ?_ ?_
    · exact g_return rfl dX17_readsImports_208
    · refine g_aload_n 0 0 dX17_readsImports_25 rfl rfl ?_
      refine g_callVT (fc := fun sς => Mdl_name sς x0 ) (ci := 17) (as := []) rfl rfl rfl q3627 qs217 q3625 mdX17_324 (ctX17_name x0 ) rfl (Nat.le_of_ble_eq_true rfl) (Nat.le_of_ble_eq_true rfl) (Nat.le_of_ble_eq_true rfl) pu_V (by decide) dX17_readsImports_26 (fun _ σ1 => ?_)
      refine g_aload_n 0 0 dX17_readsImports_29 rfl rfl ?_
      refine g_callVT (fc := fun sς => Mdl_name sς x0 ) (ci := 17) (as := []) rfl rfl rfl q3627 qs217 q3625 mdX17_324 (ctX17_name x0 ) rfl (Nat.le_of_ble_eq_true rfl) (Nat.le_of_ble_eq_true rfl) (Nat.le_of_ble_eq_true rfl) pu_V (by decide) dX17_readsImports_30 (fun _ σ2 => ?_)
      refine g_aload_n 0 0 dX17_readsImports_33 rfl rfl ?_
      refine g_iconst (v := 3) dX17_readsImports_34 (by decide) ?_
      refine g_callVT (fc := fun sς => Mdl_small sς x0 (3 : Int32)) (ci := 17) (as := [iv (3 : Int32)]) rfl rfl rfl q3671 qs225 q3669 mdX17_393 (ctX17_small x0 (3 : Int32)) rfl (Nat.le_of_ble_eq_true rfl) (Nat.le_of_ble_eq_true rfl) (Nat.le_of_ble_eq_true rfl) pu_I (by decide) dX17_readsImports_35 (fun r4 σ3 => ?_)
      refine g_istore dX17_readsImports_38 (by decide) rfl ?_
      refine g_lconst (v := 0) dX17_readsImports_40 (by decide) ?_
      refine g_lstore dX17_readsImports_41 (by decide) rfl ?_
      refine g_iconst (v := 0) dX17_readsImports_43 (by decide) ?_
      refine g_istore dX17_readsImports_44 (by decide) rfl ?_
      refine g_aload_n 0 3 dX17_readsImports_46 rfl rfl ?_
      refine g_lconst (v := 0) dX17_readsImports_47 (by decide) ?_
      refine g_putJ fpX17_396 dX17_readsImports_48 (fun σ5 => ?_)
      refine g_aload_n 0 3 dX17_readsImports_51 rfl rfl ?_
      refine g_ldc2 q3673 dX17_readsImports_52 ?_
      refine g_putJ fpX17_399 dX17_readsImports_55 (fun σ6 => ?_)
      refine g_iload 2 dX17_readsImports_58 rfl ?_
      refine g_if_ne 72 dX17_readsImports_60 (by decide) ?_ ?_
      · refine g_iload 2 dX17_readsImports_72 rfl ?_
        refine g_iconst (v := 3) dX17_readsImports_74 (by decide) ?_
        refine g_icmp_ne 104 dX17_readsImports_75 (by decide) ?_ ?_
        · refine g_iload 2 dX17_readsImports_104 rfl ?_
          refine g_iconst (v := 1) dX17_readsImports_106 (by decide) ?_
          refine g_icmp_ne 118 dX17_readsImports_107 (by decide) ?_ ?_
          · refine g_lconst (v := 0) dX17_readsImports_118 (by decide) ?_
            refine G.sub [3, 4, 5, 2, 0] rfl ?_
            exact gX17_readsImports_p119 (Mdl_readsImports_p19 n) (gX17_readsImports_p19 n) _ _ _ _ _ _ _
          · refine g_aload_n 0 3 dX17_readsImports_110 rfl rfl ?_
            refine g_callVT (fc := fun sς => Mdl_referenceType sς x0 ) (ci := 17) (as := []) rfl rfl rfl q3676 qs226 q3674 mdX17_405 (ctX17_referenceType x0 ) rfl (Nat.le_of_ble_eq_true rfl) (Nat.le_of_ble_eq_true rfl) (Nat.le_of_ble_eq_true rfl) pu_I (by decide) dX17_readsImports_111 (fun r8 σ7 => ?_)
            refine g_i2l dX17_readsImports_114 ?_
            refine g_goto 119 dX17_readsImports_115 (by decide) ?_
            refine G.sub [3, 4, 5, 2, 0] rfl ?_
            exact gX17_readsImports_p119 (Mdl_readsImports_p19 n) (gX17_readsImports_p19 n) _ _ _ _ _ _ _
        · refine g_aload_n 0 3 dX17_readsImports_78 rfl rfl ?_
          refine g_callVT (fc := fun sς => Mdl_type sς x0 ) (ci := 17) (as := []) rfl rfl rfl q3657 qs223 q3655 mdX17_371 (ctX17_type x0 ) rfl (Nat.le_of_ble_eq_true rfl) (Nat.le_of_ble_eq_true rfl) (Nat.le_of_ble_eq_true rfl) pu_I (by decide) dX17_readsImports_79 (fun r10 σ9 => ?_)
          refine g_i2l dX17_readsImports_82 ?_
          refine g_lstore dX17_readsImports_83 (by decide) rfl ?_
          refine g_aload_n 0 3 dX17_readsImports_85 rfl rfl ?_
          refine g_iconst (v := 1) dX17_readsImports_86 (by decide) ?_
          refine g_callVT (fc := fun sς => Mdl_small sς x0 (1 : Int32)) (ci := 17) (as := [iv (1 : Int32)]) rfl rfl rfl q3671 qs225 q3669 mdX17_393 (ctX17_small x0 (1 : Int32)) rfl (Nat.le_of_ble_eq_true rfl) (Nat.le_of_ble_eq_true rfl) (Nat.le_of_ble_eq_true rfl) pu_I (by decide) dX17_readsImports_87 (fun r12 σ11 => ?_)
          refine g_iconst (v := 1) dX17_readsImports_90 (by decide) ?_
          refine g_icmp_ne 98 dX17_readsImports_91 (by decide) ?_ ?_
          · refine g_iconst (v := 0) dX17_readsImports_98 (by decide) ?_
            refine G.sub [3, 4, 5, 2, 0] rfl ?_
            exact gX17_readsImports_p99 (Mdl_readsImports_p19 n) (gX17_readsImports_p19 n) _ _ _ _ _ _ _
          · refine g_iconst (v := 1) dX17_readsImports_94 (by decide) ?_
            refine g_goto 99 dX17_readsImports_95 (by decide) ?_
            refine G.sub [3, 4, 5, 2, 0] rfl ?_
            exact gX17_readsImports_p99 (Mdl_readsImports_p19 n) (gX17_readsImports_p19 n) _ _ _ _ _ _ _
      · refine g_aload_n 0 3 dX17_readsImports_63 rfl rfl ?_
        refine g_callVT (fc := fun sς => Mdl_number sς x0 ) (ci := 17) (as := []) rfl rfl rfl q3619 qs215 q3617 mdX17_277 (ctX17_number x0 ) rfl (Nat.le_of_ble_eq_true rfl) (Nat.le_of_ble_eq_true rfl) (Nat.le_of_ble_eq_true rfl) pu_J (by decide) dX17_readsImports_64 (fun r14 σ13 => ?_)
        refine g_lstore dX17_readsImports_67 (by decide) rfl ?_
        refine g_goto 125 dX17_readsImports_69 (by decide) ?_
        refine G.sub [3, 4, 5, 2, 0, 1] rfl ?_
        exact gX17_readsImports_p125 (Mdl_readsImports_p19 n) (gX17_readsImports_p19 n) _ _ _ _ _ _ _
def V.Mdl_readsImports (σ : HS) (x0 : Nat) : Option ((Nat ⊕ Unit) × HS) :=
  ck (tg σ x0 = 18) <| clT (Mdl_number σ x0 ) fun r2 σ1 =>
  ck (tg σ1 x0 = 18) <|
  ck (tg σ1 x0 = 18) <| cl (Mdl_kept σ1 x0 r2) fun r4 σ3 =>
  ck (tg σ3 (gR σ1 x0 10) = 21) <| bn (sI σ3 (gR σ1 x0 10) 8 r4) fun σ5 =>
  Mdl_readsImports_p19 FU σ5 x0 r2 (0 : Int64)
theorem V.ctX17_readsImports (x0 : Nat) : Ct yX17_readsImports  cX17_readsImports 10 none 4 91 eXV [av x0] (fun σ => Mdl_readsImports σ x0) := by
  refine Ct.of (own := RX17) (nm := "readsImports") (desc := "()V") rfl (by decide) (Nat.le_of_ble_eq_true rfl) (by decide) (fun X σ => ?_)
  show G X RX17 "readsImports" cX17_readsImports 10 none 4 91 (enX enV (cxz X)) 0 [(0, av x0)] [] σ (Mdl_readsImports σ x0)
  unfold Mdl_readsImports
  refine g_aload_n 0 0 dX17_readsImports_0 rfl rfl ?_
  refine g_callVT (fc := fun sς => Mdl_number sς x0 ) (ci := 17) (as := []) rfl rfl rfl q3619 qs215 q3617 mdX17_277 (ctX17_number x0 ) rfl (Nat.le_of_ble_eq_true rfl) (Nat.le_of_ble_eq_true rfl) (Nat.le_of_ble_eq_true rfl) pu_J (by decide) dX17_readsImports_1 (fun r2 σ1 => ?_)
  refine g_lstore_n 1 dX17_readsImports_4 rfl (by decide) rfl ?_
  refine g_aload_n 0 1 dX17_readsImports_5 rfl rfl ?_
  refine g_getR fdX17_221 dX17_readsImports_6 ?_
  refine g_aload_n 0 1 dX17_readsImports_9 rfl rfl ?_
  refine g_lload_n 1 0 dX17_readsImports_10 rfl rfl ?_
  refine g_callV (fc := fun sς => Mdl_kept sς x0 r2) (ci := 17) (as := [jv r2]) rfl rfl rfl q3643 qs220 mdX17_377 (ctX17_kept x0 r2) rfl (Nat.le_of_ble_eq_true rfl) (Nat.le_of_ble_eq_true rfl) (Nat.le_of_ble_eq_true rfl) pu_I dX17_readsImports_11 (fun r4 σ3 => ?_)
  refine g_putI fpX17_402 dX17_readsImports_14 (fun σ5 => ?_)
  refine g_lconst (v := 0) dX17_readsImports_17 (by decide) ?_
  refine g_lstore_n 3 dX17_readsImports_18 rfl (by decide) rfl ?_
  refine G.sub [2, 1, 0] rfl ?_
  exact gX17_readsImports_p19 FU _ _ _ _
theorem V.dX17_readsFunctions_0 : decode cX17_readsFunctions 0 = .ok (.aload_n 0, 1) := by decide +kernel
theorem V.dX17_readsFunctions_1 : decode cX17_readsFunctions 1 = .ok (.invokevirtual 277, 3) := by decide +kernel
theorem V.dX17_readsFunctions_4 : decode cX17_readsFunctions 4 = .ok (.lstore_n 1, 1) := by decide +kernel
theorem V.dX17_readsFunctions_5 : decode cX17_readsFunctions 5 = .ok (.aload_n 0, 1) := by decide +kernel
theorem V.dX17_readsFunctions_6 : decode cX17_readsFunctions 6 = .ok (.getfield 221, 3) := by decide +kernel
theorem V.dX17_readsFunctions_9 : decode cX17_readsFunctions 9 = .ok (.lload_n 1, 1) := by decide +kernel
theorem V.dX17_readsFunctions_10 : decode cX17_readsFunctions 10 = .ok (.putfield 311, 3) := by decide +kernel
theorem V.dX17_readsFunctions_13 : decode cX17_readsFunctions 13 = .ok (.aload_n 0, 1) := by decide +kernel
theorem V.dX17_readsFunctions_14 : decode cX17_readsFunctions 14 = .ok (.getfield 221, 3) := by decide +kernel
theorem V.dX17_readsFunctions_17 : decode cX17_readsFunctions 17 = .ok (.aload_n 0, 1) := by decide +kernel
theorem V.dX17_readsFunctions_18 : decode cX17_readsFunctions 18 = .ok (.lload_n 1, 1) := by decide +kernel
theorem V.dX17_readsFunctions_19 : decode cX17_readsFunctions 19 = .ok (.invokevirtual 377, 3) := by decide +kernel
theorem V.dX17_readsFunctions_22 : decode cX17_readsFunctions 22 = .ok (.putfield 426, 3) := by decide +kernel
theorem V.dX17_readsFunctions_25 : decode cX17_readsFunctions 25 = .ok (.lconst 0, 1) := by decide +kernel
theorem V.dX17_readsFunctions_26 : decode cX17_readsFunctions 26 = .ok (.lstore_n 3, 1) := by decide +kernel
theorem V.dX17_readsFunctions_27 : decode cX17_readsFunctions 27 = .ok (.lload_n 3, 1) := by decide +kernel
theorem V.dX17_readsFunctions_28 : decode cX17_readsFunctions 28 = .ok (.lload_n 1, 1) := by decide +kernel
theorem V.dX17_readsFunctions_29 : decode cX17_readsFunctions 29 = .ok (.lcmp, 1) := by decide +kernel
theorem V.dX17_readsFunctions_30 : decode cX17_readsFunctions 30 = .ok (.ifCond .ge 36, 3) := by decide +kernel
theorem V.dX17_readsFunctions_33 : decode cX17_readsFunctions 33 = .ok (.aload_n 0, 1) := by decide +kernel
theorem V.dX17_readsFunctions_34 : decode cX17_readsFunctions 34 = .ok (.invokevirtual 277, 3) := by decide +kernel
theorem V.dX17_readsFunctions_37 : decode cX17_readsFunctions 37 = .ok (.lstore 5, 2) := by decide +kernel
theorem V.dX17_readsFunctions_39 : decode cX17_readsFunctions 39 = .ok (.lload_n 3, 1) := by decide +kernel
theorem V.dX17_readsFunctions_40 : decode cX17_readsFunctions 40 = .ok (.ldc2_w 363, 3) := by decide +kernel
theorem V.dX17_readsFunctions_43 : decode cX17_readsFunctions 43 = .ok (.lcmp, 1) := by decide +kernel
theorem V.dX17_readsFunctions_44 : decode cX17_readsFunctions 44 = .ok (.ifCond .ge 15, 3) := by decide +kernel
theorem V.dX17_readsFunctions_47 : decode cX17_readsFunctions 47 = .ok (.aload_n 0, 1) := by decide +kernel
theorem V.dX17_readsFunctions_48 : decode cX17_readsFunctions 48 = .ok (.getfield 221, 3) := by decide +kernel
theorem V.dX17_readsFunctions_51 : decode cX17_readsFunctions 51 = .ok (.getfield 429, 3) := by decide +kernel
theorem V.dX17_readsFunctions_54 : decode cX17_readsFunctions 54 = .ok (.lload_n 3, 1) := by decide +kernel
theorem V.dX17_readsFunctions_55 : decode cX17_readsFunctions 55 = .ok (.l2i, 1) := by decide +kernel
theorem V.dX17_readsFunctions_56 : decode cX17_readsFunctions 56 = .ok (.lload 5, 2) := by decide +kernel
theorem V.dX17_readsFunctions_58 : decode cX17_readsFunctions 58 = .ok (.lastore, 1) := by decide +kernel
theorem V.dX17_readsFunctions_59 : decode cX17_readsFunctions 59 = .ok (.lload_n 3, 1) := by decide +kernel
theorem V.dX17_readsFunctions_60 : decode cX17_readsFunctions 60 = .ok (.lconst 1, 1) := by decide +kernel
theorem V.dX17_readsFunctions_61 : decode cX17_readsFunctions 61 = .ok (.ladd, 1) := by decide +kernel
theorem V.dX17_readsFunctions_62 : decode cX17_readsFunctions 62 = .ok (.lstore_n 3, 1) := by decide +kernel
theorem V.dX17_readsFunctions_63 : decode cX17_readsFunctions 63 = .ok (.goto (-36), 3) := by decide +kernel
theorem V.dX17_readsFunctions_66 : decode cX17_readsFunctions 66 = .ok (.return_, 1) := by decide +kernel
theorem V.fpX17_311 {nm : String} : FP RX17 nm 311 20 14 (.long) := ⟨(RX20, TX20, 58), tyX20, rfl, rfl, in_X20, by decide, tyX20_ok, nmX20, rfl, Or.inl ⟨rfl, Or.inr ⟨_, q3388⟩⟩⟩
theorem V.fpX17_426 {nm : String} : FP RX17 nm 426 20 15 (.int) := ⟨(RX20, TX20, 58), tyX20, rfl, rfl, in_X20, by decide, tyX20_ok, nmX20, rfl, Or.inl ⟨rfl, Or.inr ⟨_, q3390⟩⟩⟩
theorem V.fdX17_429 : FD RX17 429 20 16 2 := ⟨(RX20, TX20, 58), tyX20, rfl, rfl, in_X20, by decide, Or.inr ⟨_, q3392⟩, rfl⟩
/-! ModuleEngineModel.readsFunctions()V -/
def V.Mdl_readsFunctions_p59 (rec27 : HS → Nat → Int64 → Int64 → Option ((Nat ⊕ Unit) × HS)) (σ : HS) (x0 : Nat) (x1 : Int64) (x3 : Int64) : Option ((Nat ⊕ Unit) × HS) :=
  bn (x3 + (1 : Int64)) fun y1 =>
  rec27 σ x0 x1 y1
theorem V.gX17_readsFunctions_p59 {X : CX} (rec27 : HS → Nat → Int64 → Int64 → Option ((Nat ⊕ Unit) × HS)) (hrec27 : ∀ (σ : HS) (x0 : Nat) (x1 : Int64) (x3 : Int64), G X RX17 "readsFunctions" cX17_readsFunctions 7 none 3 66 (enX enV (cxz X)) 27 [(0, av x0), (1, jv x1), (3, jv x3)] [] σ (rec27 σ x0 x1 x3)) (σ : HS) (x0 : Nat) (x1 : Int64) (x3 : Int64) : G X RX17 "readsFunctions" cX17_readsFunctions 7 none 3 66 (enX enV (cxz X)) 59 [(0, av x0), (1, jv x1), (3, jv x3)] [] σ (Mdl_readsFunctions_p59 rec27 σ x0 x1 x3) := by
  unfold Mdl_readsFunctions_p59
  refine g_lload_n 3 2 dX17_readsFunctions_59 rfl rfl ?_
  refine g_lconst (v := 1) dX17_readsFunctions_60 (by decide) ?_
  refine g_ladd dX17_readsFunctions_61 ?_
  refine g_nmJ (fun y1 => ?_)
  refine g_lstore_n 3 dX17_readsFunctions_62 rfl (by decide) rfl ?_
  refine g_goto 27 dX17_readsFunctions_63 (by decide) ?_
  refine G.sub [1, 2, 0] rfl ?_
  exact hrec27 _ _ _ _
def V.Mdl_readsFunctions_p27  : Nat → HS → Nat → Int64 → Int64 → Option ((Nat ⊕ Unit) × HS)
  | 0, _, _, _, _ => none
  | n + 1, σ, x0, x1, x3 =>
    if x1 ≤ x3 then (
      some (.inr (), σ))
    else (
      ck (tg σ x0 = 18) <| clT (Mdl_number σ x0 ) fun r2 σ1 =>
      if (64 : Int64) ≤ x3 then (
        Mdl_readsFunctions_p59 (Mdl_readsFunctions_p27 n) σ1 x0 x1 x3)
      else (
        ck (tg σ1 x0 = 18) <|
        ck (tg σ1 (gR σ1 x0 10) = 21) <|
        ck (tg σ1 (gR σ1 (gR σ1 x0 10) 16) = 101 ∧ inb x3.toInt32 (ln σ1 (gR σ1 (gR σ1 x0 10) 16))) <| bn (sJ σ1 (gR σ1 (gR σ1 x0 10) 16) (ix x3.toInt32) r2) fun σ3 =>
        Mdl_readsFunctions_p59 (Mdl_readsFunctions_p27 n) σ3 x0 x1 x3))
theorem V.gX17_readsFunctions_p27 {X : CX}  : ∀ (n : Nat) (σ : HS) (x0 : Nat) (x1 : Int64) (x3 : Int64), G X RX17 "readsFunctions" cX17_readsFunctions 7 none 3 66 (enX enV (cxz X)) 27 [(0, av x0), (1, jv x1), (3, jv x3)] [] σ (Mdl_readsFunctions_p27 n σ x0 x1 x3)
  | 0, σ, x0, x1, x3 => by rw [Mdl_readsFunctions_p27]; exact G.nul
  | n + 1, σ, x0, x1, x3 => by
    rw [Mdl_readsFunctions_p27]
    refine g_lload_n 3 2 dX17_readsFunctions_27 rfl rfl ?_
    refine g_lload_n 1 1 dX17_readsFunctions_28 rfl rfl ?_
    refine g_lcmp_ge 66 dX17_readsFunctions_29 dX17_readsFunctions_30 (by decide) ?_ ?_
    · exact g_return rfl dX17_readsFunctions_66
    · refine g_aload_n 0 0 dX17_readsFunctions_33 rfl rfl ?_
      refine g_callVT (fc := fun sς => Mdl_number sς x0 ) (ci := 17) (as := []) rfl rfl rfl q3619 qs215 q3617 mdX17_277 (ctX17_number x0 ) rfl (Nat.le_of_ble_eq_true rfl) (Nat.le_of_ble_eq_true rfl) (Nat.le_of_ble_eq_true rfl) pu_J (by decide) dX17_readsFunctions_34 (fun r2 σ1 => ?_)
      refine g_lstore dX17_readsFunctions_37 (by decide) rfl ?_
      refine g_lload_n 3 3 dX17_readsFunctions_39 rfl rfl ?_
      refine g_ldc2 q3645 dX17_readsFunctions_40 ?_
      refine g_lcmp_ge 59 dX17_readsFunctions_43 dX17_readsFunctions_44 (by decide) ?_ ?_
      · refine G.sub [1, 2, 3] rfl ?_
        exact gX17_readsFunctions_p59 (Mdl_readsFunctions_p27 n) (gX17_readsFunctions_p27 n) _ _ _ _
      · refine g_aload_n 0 1 dX17_readsFunctions_47 rfl rfl ?_
        refine g_getR fdX17_221 dX17_readsFunctions_48 ?_
        refine g_getR fdX17_429 dX17_readsFunctions_51 ?_
        refine g_lload_n 3 3 dX17_readsFunctions_54 rfl rfl ?_
        refine g_l2i dX17_readsFunctions_55 ?_
        refine g_lload 0 dX17_readsFunctions_56 rfl ?_
        refine g_lastore dX17_readsFunctions_58 (fun σ3 => ?_)
        refine G.sub [1, 2, 3] rfl ?_
        exact gX17_readsFunctions_p59 (Mdl_readsFunctions_p27 n) (gX17_readsFunctions_p27 n) _ _ _ _
def V.Mdl_readsFunctions (σ : HS) (x0 : Nat) : Option ((Nat ⊕ Unit) × HS) :=
  ck (tg σ x0 = 18) <| clT (Mdl_number σ x0 ) fun r2 σ1 =>
  ck (tg σ1 x0 = 18) <|
  ck (tg σ1 (gR σ1 x0 10) = 21) <| bn (sJ σ1 (gR σ1 x0 10) 14 r2) fun σ3 =>
  ck (tg σ3 x0 = 18) <|
  ck (tg σ3 x0 = 18) <| cl (Mdl_kept σ3 x0 r2) fun r5 σ4 =>
  ck (tg σ4 (gR σ3 x0 10) = 21) <| bn (sI σ4 (gR σ3 x0 10) 15 r5) fun σ6 =>
  Mdl_readsFunctions_p27 FU σ6 x0 r2 (0 : Int64)
theorem V.ctX17_readsFunctions (x0 : Nat) : Ct yX17_readsFunctions  cX17_readsFunctions 7 none 3 66 eXV [av x0] (fun σ => Mdl_readsFunctions σ x0) := by
  refine Ct.of (own := RX17) (nm := "readsFunctions") (desc := "()V") rfl (by decide) (Nat.le_of_ble_eq_true rfl) (by decide) (fun X σ => ?_)
  show G X RX17 "readsFunctions" cX17_readsFunctions 7 none 3 66 (enX enV (cxz X)) 0 [(0, av x0)] [] σ (Mdl_readsFunctions σ x0)
  unfold Mdl_readsFunctions
  refine g_aload_n 0 0 dX17_readsFunctions_0 rfl rfl ?_
  refine g_callVT (fc := fun sς => Mdl_number sς x0 ) (ci := 17) (as := []) rfl rfl rfl q3619 qs215 q3617 mdX17_277 (ctX17_number x0 ) rfl (Nat.le_of_ble_eq_true rfl) (Nat.le_of_ble_eq_true rfl) (Nat.le_of_ble_eq_true rfl) pu_J (by decide) dX17_readsFunctions_1 (fun r2 σ1 => ?_)
  refine g_lstore_n 1 dX17_readsFunctions_4 rfl (by decide) rfl ?_
  refine g_aload_n 0 1 dX17_readsFunctions_5 rfl rfl ?_
  refine g_getR fdX17_221 dX17_readsFunctions_6 ?_
  refine g_lload_n 1 0 dX17_readsFunctions_9 rfl rfl ?_
  refine g_putJ fpX17_311 dX17_readsFunctions_10 (fun σ3 => ?_)
  refine g_aload_n 0 1 dX17_readsFunctions_13 rfl rfl ?_
  refine g_getR fdX17_221 dX17_readsFunctions_14 ?_
  refine g_aload_n 0 1 dX17_readsFunctions_17 rfl rfl ?_
  refine g_lload_n 1 0 dX17_readsFunctions_18 rfl rfl ?_
  refine g_callV (fc := fun sς => Mdl_kept sς x0 r2) (ci := 17) (as := [jv r2]) rfl rfl rfl q3643 qs220 mdX17_377 (ctX17_kept x0 r2) rfl (Nat.le_of_ble_eq_true rfl) (Nat.le_of_ble_eq_true rfl) (Nat.le_of_ble_eq_true rfl) pu_I dX17_readsFunctions_19 (fun r5 σ4 => ?_)
  refine g_putI fpX17_426 dX17_readsFunctions_22 (fun σ6 => ?_)
  refine g_lconst (v := 0) dX17_readsFunctions_25 (by decide) ?_
  refine g_lstore_n 3 dX17_readsFunctions_26 rfl (by decide) rfl ?_
  refine G.sub [2, 1, 0] rfl ?_
  exact gX17_readsFunctions_p27 FU _ _ _ _
theorem V.dX17_readsTables_0 : decode cX17_readsTables 0 = .ok (.aload_n 0, 1) := by decide +kernel
theorem V.dX17_readsTables_1 : decode cX17_readsTables 1 = .ok (.invokevirtual 277, 3) := by decide +kernel
theorem V.dX17_readsTables_4 : decode cX17_readsTables 4 = .ok (.lstore_n 1, 1) := by decide +kernel
theorem V.dX17_readsTables_5 : decode cX17_readsTables 5 = .ok (.aload_n 0, 1) := by decide +kernel
theorem V.dX17_readsTables_6 : decode cX17_readsTables 6 = .ok (.getfield 221, 3) := by decide +kernel
theorem V.dX17_readsTables_9 : decode cX17_readsTables 9 = .ok (.aload_n 0, 1) := by decide +kernel
theorem V.dX17_readsTables_10 : decode cX17_readsTables 10 = .ok (.lload_n 1, 1) := by decide +kernel
theorem V.dX17_readsTables_11 : decode cX17_readsTables 11 = .ok (.invokevirtual 377, 3) := by decide +kernel
theorem V.dX17_readsTables_14 : decode cX17_readsTables 14 = .ok (.putfield 432, 3) := by decide +kernel
theorem V.dX17_readsTables_17 : decode cX17_readsTables 17 = .ok (.lconst 0, 1) := by decide +kernel
theorem V.dX17_readsTables_18 : decode cX17_readsTables 18 = .ok (.lstore_n 3, 1) := by decide +kernel
theorem V.dX17_readsTables_19 : decode cX17_readsTables 19 = .ok (.lload_n 3, 1) := by decide +kernel
theorem V.dX17_readsTables_20 : decode cX17_readsTables 20 = .ok (.lload_n 1, 1) := by decide +kernel
theorem V.dX17_readsTables_21 : decode cX17_readsTables 21 = .ok (.lcmp, 1) := by decide +kernel
theorem V.dX17_readsTables_22 : decode cX17_readsTables 22 = .ok (.ifCond .ge 68, 3) := by decide +kernel
theorem V.dX17_readsTables_25 : decode cX17_readsTables 25 = .ok (.aload_n 0, 1) := by decide +kernel
theorem V.dX17_readsTables_26 : decode cX17_readsTables 26 = .ok (.invokevirtual 405, 3) := by decide +kernel
theorem V.dX17_readsTables_29 : decode cX17_readsTables 29 = .ok (.istore 5, 2) := by decide +kernel
theorem V.dX17_readsTables_31 : decode cX17_readsTables 31 = .ok (.aload_n 0, 1) := by decide +kernel
theorem V.dX17_readsTables_32 : decode cX17_readsTables 32 = .ok (.invokevirtual 408, 3) := by decide +kernel
theorem V.dX17_readsTables_35 : decode cX17_readsTables 35 = .ok (.lload_n 3, 1) := by decide +kernel
theorem V.dX17_readsTables_36 : decode cX17_readsTables 36 = .ok (.ldc2_w 363, 3) := by decide +kernel
theorem V.dX17_readsTables_39 : decode cX17_readsTables 39 = .ok (.lcmp, 1) := by decide +kernel
theorem V.dX17_readsTables_40 : decode cX17_readsTables 40 = .ok (.ifCond .ge 43, 3) := by decide +kernel
theorem V.dX17_readsTables_43 : decode cX17_readsTables 43 = .ok (.aload_n 0, 1) := by decide +kernel
theorem V.dX17_readsTables_44 : decode cX17_readsTables 44 = .ok (.getfield 221, 3) := by decide +kernel
theorem V.dX17_readsTables_47 : decode cX17_readsTables 47 = .ok (.getfield 435, 3) := by decide +kernel
theorem V.dX17_readsTables_50 : decode cX17_readsTables 50 = .ok (.lload_n 3, 1) := by decide +kernel
theorem V.dX17_readsTables_51 : decode cX17_readsTables 51 = .ok (.l2i, 1) := by decide +kernel
theorem V.dX17_readsTables_52 : decode cX17_readsTables 52 = .ok (.iload 5, 2) := by decide +kernel
theorem V.dX17_readsTables_54 : decode cX17_readsTables 54 = .ok (.iastore, 1) := by decide +kernel
theorem V.dX17_readsTables_55 : decode cX17_readsTables 55 = .ok (.aload_n 0, 1) := by decide +kernel
theorem V.dX17_readsTables_56 : decode cX17_readsTables 56 = .ok (.getfield 221, 3) := by decide +kernel
theorem V.dX17_readsTables_59 : decode cX17_readsTables 59 = .ok (.getfield 438, 3) := by decide +kernel
theorem V.dX17_readsTables_62 : decode cX17_readsTables 62 = .ok (.lload_n 3, 1) := by decide +kernel
theorem V.dX17_readsTables_63 : decode cX17_readsTables 63 = .ok (.l2i, 1) := by decide +kernel
theorem V.dX17_readsTables_64 : decode cX17_readsTables 64 = .ok (.aload_n 0, 1) := by decide +kernel
theorem V.dX17_readsTables_65 : decode cX17_readsTables 65 = .ok (.getfield 396, 3) := by decide +kernel
theorem V.dX17_readsTables_68 : decode cX17_readsTables 68 = .ok (.lastore, 1) := by decide +kernel
theorem V.dX17_readsTables_69 : decode cX17_readsTables 69 = .ok (.aload_n 0, 1) := by decide +kernel
theorem V.dX17_readsTables_70 : decode cX17_readsTables 70 = .ok (.getfield 221, 3) := by decide +kernel
theorem V.dX17_readsTables_73 : decode cX17_readsTables 73 = .ok (.getfield 441, 3) := by decide +kernel
theorem V.dX17_readsTables_76 : decode cX17_readsTables 76 = .ok (.lload_n 3, 1) := by decide +kernel
theorem V.dX17_readsTables_77 : decode cX17_readsTables 77 = .ok (.l2i, 1) := by decide +kernel
theorem V.dX17_readsTables_78 : decode cX17_readsTables 78 = .ok (.aload_n 0, 1) := by decide +kernel
theorem V.dX17_readsTables_79 : decode cX17_readsTables 79 = .ok (.getfield 399, 3) := by decide +kernel
theorem V.dX17_readsTables_82 : decode cX17_readsTables 82 = .ok (.lastore, 1) := by decide +kernel
theorem V.dX17_readsTables_83 : decode cX17_readsTables 83 = .ok (.lload_n 3, 1) := by decide +kernel
theorem V.dX17_readsTables_84 : decode cX17_readsTables 84 = .ok (.lconst 1, 1) := by decide +kernel
theorem V.dX17_readsTables_85 : decode cX17_readsTables 85 = .ok (.ladd, 1) := by decide +kernel
theorem V.dX17_readsTables_86 : decode cX17_readsTables 86 = .ok (.lstore_n 3, 1) := by decide +kernel
theorem V.dX17_readsTables_87 : decode cX17_readsTables 87 = .ok (.goto (-68), 3) := by decide +kernel
theorem V.dX17_readsTables_90 : decode cX17_readsTables 90 = .ok (.return_, 1) := by decide +kernel
theorem V.fpX17_432 {nm : String} : FP RX17 nm 432 20 17 (.int) := ⟨(RX20, TX20, 58), tyX20, rfl, rfl, in_X20, by decide, tyX20_ok, nmX20, rfl, Or.inl ⟨rfl, Or.inr ⟨_, q3394⟩⟩⟩
theorem V.fdX17_435 : FD RX17 435 20 18 2 := ⟨(RX20, TX20, 58), tyX20, rfl, rfl, in_X20, by decide, Or.inr ⟨_, q3396⟩, rfl⟩
theorem V.fdX17_438 : FD RX17 438 20 19 2 := ⟨(RX20, TX20, 58), tyX20, rfl, rfl, in_X20, by decide, Or.inr ⟨_, q3398⟩, rfl⟩
theorem V.fdX17_441 : FD RX17 441 20 20 2 := ⟨(RX20, TX20, 58), tyX20, rfl, rfl, in_X20, by decide, Or.inr ⟨_, q3400⟩, rfl⟩
/-! ModuleEngineModel.readsTables()V -/
def V.Mdl_readsTables_p83 (rec19 : HS → Nat → Int64 → Int64 → Option ((Nat ⊕ Unit) × HS)) (σ : HS) (x0 : Nat) (x1 : Int64) (x3 : Int64) : Option ((Nat ⊕ Unit) × HS) :=
  bn (x3 + (1 : Int64)) fun y1 =>
  rec19 σ x0 x1 y1
theorem V.gX17_readsTables_p83 {X : CX} (rec19 : HS → Nat → Int64 → Int64 → Option ((Nat ⊕ Unit) × HS)) (hrec19 : ∀ (σ : HS) (x0 : Nat) (x1 : Int64) (x3 : Int64), G X RX17 "readsTables" cX17_readsTables 6 none 4 87 (enX enV (cxz X)) 19 [(0, av x0), (1, jv x1), (3, jv x3)] [] σ (rec19 σ x0 x1 x3)) (σ : HS) (x0 : Nat) (x1 : Int64) (x3 : Int64) : G X RX17 "readsTables" cX17_readsTables 6 none 4 87 (enX enV (cxz X)) 83 [(0, av x0), (1, jv x1), (3, jv x3)] [] σ (Mdl_readsTables_p83 rec19 σ x0 x1 x3) := by
  unfold Mdl_readsTables_p83
  refine g_lload_n 3 2 dX17_readsTables_83 rfl rfl ?_
  refine g_lconst (v := 1) dX17_readsTables_84 (by decide) ?_
  refine g_ladd dX17_readsTables_85 ?_
  refine g_nmJ (fun y1 => ?_)
  refine g_lstore_n 3 dX17_readsTables_86 rfl (by decide) rfl ?_
  refine g_goto 19 dX17_readsTables_87 (by decide) ?_
  refine G.sub [1, 2, 0] rfl ?_
  exact hrec19 _ _ _ _
def V.Mdl_readsTables_p19  : Nat → HS → Nat → Int64 → Int64 → Option ((Nat ⊕ Unit) × HS)
  | 0, _, _, _, _ => none
  | n + 1, σ, x0, x1, x3 =>
    if x1 ≤ x3 then (
      some (.inr (), σ))
    else (
      ck (tg σ x0 = 18) <| clT (Mdl_referenceType σ x0 ) fun r2 σ1 =>
      ck (tg σ1 x0 = 18) <| clT (Mdl_limits σ1 x0 ) fun _ σ3 =>
      if (64 : Int64) ≤ x3 then (
        Mdl_readsTables_p83 (Mdl_readsTables_p19 n) σ3 x0 x1 x3)
      else (
        ck (tg σ3 x0 = 18) <|
        ck (tg σ3 (gR σ3 x0 10) = 21) <|
        ck (tg σ3 (gR σ3 (gR σ3 x0 10) 18) = 100 ∧ inb x3.toInt32 (ln σ3 (gR σ3 (gR σ3 x0 10) 18))) <| bn (sI σ3 (gR σ3 (gR σ3 x0 10) 18) (ix x3.toInt32) r2) fun σ4 =>
        ck (tg σ4 x0 = 18) <|
        ck (tg σ4 (gR σ4 x0 10) = 21) <|
        ck (tg σ4 x0 = 18) <|
        ck (tg σ4 (gR σ4 (gR σ4 x0 10) 19) = 101 ∧ inb x3.toInt32 (ln σ4 (gR σ4 (gR σ4 x0 10) 19))) <| bn (sJ σ4 (gR σ4 (gR σ4 x0 10) 19) (ix x3.toInt32) (gJ σ4 x0 17)) fun σ5 =>
        ck (tg σ5 x0 = 18) <|
        ck (tg σ5 (gR σ5 x0 10) = 21) <|
        ck (tg σ5 x0 = 18) <|
        ck (tg σ5 (gR σ5 (gR σ5 x0 10) 20) = 101 ∧ inb x3.toInt32 (ln σ5 (gR σ5 (gR σ5 x0 10) 20))) <| bn (sJ σ5 (gR σ5 (gR σ5 x0 10) 20) (ix x3.toInt32) (gJ σ5 x0 18)) fun σ6 =>
        Mdl_readsTables_p83 (Mdl_readsTables_p19 n) σ6 x0 x1 x3))
theorem V.gX17_readsTables_p19 {X : CX}  : ∀ (n : Nat) (σ : HS) (x0 : Nat) (x1 : Int64) (x3 : Int64), G X RX17 "readsTables" cX17_readsTables 6 none 4 87 (enX enV (cxz X)) 19 [(0, av x0), (1, jv x1), (3, jv x3)] [] σ (Mdl_readsTables_p19 n σ x0 x1 x3)
  | 0, σ, x0, x1, x3 => by rw [Mdl_readsTables_p19]; exact G.nul
  | n + 1, σ, x0, x1, x3 => by
    rw [Mdl_readsTables_p19]
    refine g_lload_n 3 2 dX17_readsTables_19 rfl rfl ?_
    refine g_lload_n 1 1 dX17_readsTables_20 rfl rfl ?_
    refine g_lcmp_ge 90 dX17_readsTables_21 dX17_readsTables_22 (by decide) ?_ ?_
    · exact g_return rfl dX17_readsTables_90
    · refine g_aload_n 0 0 dX17_readsTables_25 rfl rfl ?_
      refine g_callVT (fc := fun sς => Mdl_referenceType sς x0 ) (ci := 17) (as := []) rfl rfl rfl q3676 qs226 q3674 mdX17_405 (ctX17_referenceType x0 ) rfl (Nat.le_of_ble_eq_true rfl) (Nat.le_of_ble_eq_true rfl) (Nat.le_of_ble_eq_true rfl) pu_I (by decide) dX17_readsTables_26 (fun r2 σ1 => ?_)
      refine g_istore dX17_readsTables_29 (by decide) rfl ?_
      refine g_aload_n 0 1 dX17_readsTables_31 rfl rfl ?_
      refine g_callVT (fc := fun sς => Mdl_limits sς x0 ) (ci := 17) (as := []) rfl rfl rfl q3680 qs227 q3678 mdX17_408 (ctX17_limits x0 ) rfl (Nat.le_of_ble_eq_true rfl) (Nat.le_of_ble_eq_true rfl) (Nat.le_of_ble_eq_true rfl) pu_V (by decide) dX17_readsTables_32 (fun _ σ3 => ?_)
      refine g_lload_n 3 3 dX17_readsTables_35 rfl rfl ?_
      refine g_ldc2 q3645 dX17_readsTables_36 ?_
      refine g_lcmp_ge 83 dX17_readsTables_39 dX17_readsTables_40 (by decide) ?_ ?_
      · refine G.sub [1, 2, 3] rfl ?_
        exact gX17_readsTables_p83 (Mdl_readsTables_p19 n) (gX17_readsTables_p19 n) _ _ _ _
      · refine g_aload_n 0 1 dX17_readsTables_43 rfl rfl ?_
        refine g_getR fdX17_221 dX17_readsTables_44 ?_
        refine g_getR fdX17_435 dX17_readsTables_47 ?_
        refine g_lload_n 3 3 dX17_readsTables_50 rfl rfl ?_
        refine g_l2i dX17_readsTables_51 ?_
        refine g_iload 0 dX17_readsTables_52 rfl ?_
        refine g_iastore dX17_readsTables_54 (fun σ4 => ?_)
        refine g_aload_n 0 1 dX17_readsTables_55 rfl rfl ?_
        refine g_getR fdX17_221 dX17_readsTables_56 ?_
        refine g_getR fdX17_438 dX17_readsTables_59 ?_
        refine g_lload_n 3 3 dX17_readsTables_62 rfl rfl ?_
        refine g_l2i dX17_readsTables_63 ?_
        refine g_aload_n 0 1 dX17_readsTables_64 rfl rfl ?_
        refine g_getJ fdX17_396 dX17_readsTables_65 ?_
        refine g_lastore dX17_readsTables_68 (fun σ5 => ?_)
        refine g_aload_n 0 1 dX17_readsTables_69 rfl rfl ?_
        refine g_getR fdX17_221 dX17_readsTables_70 ?_
        refine g_getR fdX17_441 dX17_readsTables_73 ?_
        refine g_lload_n 3 3 dX17_readsTables_76 rfl rfl ?_
        refine g_l2i dX17_readsTables_77 ?_
        refine g_aload_n 0 1 dX17_readsTables_78 rfl rfl ?_
        refine g_getJ fdX17_399 dX17_readsTables_79 ?_
        refine g_lastore dX17_readsTables_82 (fun σ6 => ?_)
        refine G.sub [1, 2, 3] rfl ?_
        exact gX17_readsTables_p83 (Mdl_readsTables_p19 n) (gX17_readsTables_p19 n) _ _ _ _
def V.Mdl_readsTables (σ : HS) (x0 : Nat) : Option ((Nat ⊕ Unit) × HS) :=
  ck (tg σ x0 = 18) <| clT (Mdl_number σ x0 ) fun r2 σ1 =>
  ck (tg σ1 x0 = 18) <|
  ck (tg σ1 x0 = 18) <| cl (Mdl_kept σ1 x0 r2) fun r4 σ3 =>
  ck (tg σ3 (gR σ1 x0 10) = 21) <| bn (sI σ3 (gR σ1 x0 10) 17 r4) fun σ5 =>
  Mdl_readsTables_p19 FU σ5 x0 r2 (0 : Int64)
theorem V.ctX17_readsTables (x0 : Nat) : Ct yX17_readsTables  cX17_readsTables 6 none 4 87 eXV [av x0] (fun σ => Mdl_readsTables σ x0) := by
  refine Ct.of (own := RX17) (nm := "readsTables") (desc := "()V") rfl (by decide) (Nat.le_of_ble_eq_true rfl) (by decide) (fun X σ => ?_)
  show G X RX17 "readsTables" cX17_readsTables 6 none 4 87 (enX enV (cxz X)) 0 [(0, av x0)] [] σ (Mdl_readsTables σ x0)
  unfold Mdl_readsTables
  refine g_aload_n 0 0 dX17_readsTables_0 rfl rfl ?_
  refine g_callVT (fc := fun sς => Mdl_number sς x0 ) (ci := 17) (as := []) rfl rfl rfl q3619 qs215 q3617 mdX17_277 (ctX17_number x0 ) rfl (Nat.le_of_ble_eq_true rfl) (Nat.le_of_ble_eq_true rfl) (Nat.le_of_ble_eq_true rfl) pu_J (by decide) dX17_readsTables_1 (fun r2 σ1 => ?_)
  refine g_lstore_n 1 dX17_readsTables_4 rfl (by decide) rfl ?_
  refine g_aload_n 0 1 dX17_readsTables_5 rfl rfl ?_
  refine g_getR fdX17_221 dX17_readsTables_6 ?_
  refine g_aload_n 0 1 dX17_readsTables_9 rfl rfl ?_
  refine g_lload_n 1 0 dX17_readsTables_10 rfl rfl ?_
  refine g_callV (fc := fun sς => Mdl_kept sς x0 r2) (ci := 17) (as := [jv r2]) rfl rfl rfl q3643 qs220 mdX17_377 (ctX17_kept x0 r2) rfl (Nat.le_of_ble_eq_true rfl) (Nat.le_of_ble_eq_true rfl) (Nat.le_of_ble_eq_true rfl) pu_I dX17_readsTables_11 (fun r4 σ3 => ?_)
  refine g_putI fpX17_432 dX17_readsTables_14 (fun σ5 => ?_)
  refine g_lconst (v := 0) dX17_readsTables_17 (by decide) ?_
  refine g_lstore_n 3 dX17_readsTables_18 rfl (by decide) rfl ?_
  refine G.sub [2, 1, 0] rfl ?_
  exact gX17_readsTables_p19 FU _ _ _ _
theorem V.dX17_readsMemories_0 : decode cX17_readsMemories 0 = .ok (.aload_n 0, 1) := by decide +kernel
theorem V.dX17_readsMemories_1 : decode cX17_readsMemories 1 = .ok (.invokevirtual 277, 3) := by decide +kernel
theorem V.dX17_readsMemories_4 : decode cX17_readsMemories 4 = .ok (.lstore_n 1, 1) := by decide +kernel
theorem V.dX17_readsMemories_5 : decode cX17_readsMemories 5 = .ok (.aload_n 0, 1) := by decide +kernel
theorem V.dX17_readsMemories_6 : decode cX17_readsMemories 6 = .ok (.getfield 221, 3) := by decide +kernel
theorem V.dX17_readsMemories_9 : decode cX17_readsMemories 9 = .ok (.aload_n 0, 1) := by decide +kernel
theorem V.dX17_readsMemories_10 : decode cX17_readsMemories 10 = .ok (.lload_n 1, 1) := by decide +kernel
theorem V.dX17_readsMemories_11 : decode cX17_readsMemories 11 = .ok (.invokevirtual 377, 3) := by decide +kernel
theorem V.dX17_readsMemories_14 : decode cX17_readsMemories 14 = .ok (.putfield 444, 3) := by decide +kernel
theorem V.dX17_readsMemories_17 : decode cX17_readsMemories 17 = .ok (.lconst 0, 1) := by decide +kernel
theorem V.dX17_readsMemories_18 : decode cX17_readsMemories 18 = .ok (.lstore_n 3, 1) := by decide +kernel
theorem V.dX17_readsMemories_19 : decode cX17_readsMemories 19 = .ok (.lload_n 3, 1) := by decide +kernel
theorem V.dX17_readsMemories_20 : decode cX17_readsMemories 20 = .ok (.lload_n 1, 1) := by decide +kernel
theorem V.dX17_readsMemories_21 : decode cX17_readsMemories 21 = .ok (.lcmp, 1) := by decide +kernel
theorem V.dX17_readsMemories_22 : decode cX17_readsMemories 22 = .ok (.ifCond .ge 50, 3) := by decide +kernel
theorem V.dX17_readsMemories_25 : decode cX17_readsMemories 25 = .ok (.aload_n 0, 1) := by decide +kernel
theorem V.dX17_readsMemories_26 : decode cX17_readsMemories 26 = .ok (.invokevirtual 408, 3) := by decide +kernel
theorem V.dX17_readsMemories_29 : decode cX17_readsMemories 29 = .ok (.lload_n 3, 1) := by decide +kernel
theorem V.dX17_readsMemories_30 : decode cX17_readsMemories 30 = .ok (.ldc2_w 363, 3) := by decide +kernel
theorem V.dX17_readsMemories_33 : decode cX17_readsMemories 33 = .ok (.lcmp, 1) := by decide +kernel
theorem V.dX17_readsMemories_34 : decode cX17_readsMemories 34 = .ok (.ifCond .ge 31, 3) := by decide +kernel
theorem V.dX17_readsMemories_37 : decode cX17_readsMemories 37 = .ok (.aload_n 0, 1) := by decide +kernel
theorem V.dX17_readsMemories_38 : decode cX17_readsMemories 38 = .ok (.getfield 221, 3) := by decide +kernel
theorem V.dX17_readsMemories_41 : decode cX17_readsMemories 41 = .ok (.getfield 447, 3) := by decide +kernel
theorem V.dX17_readsMemories_44 : decode cX17_readsMemories 44 = .ok (.lload_n 3, 1) := by decide +kernel
theorem V.dX17_readsMemories_45 : decode cX17_readsMemories 45 = .ok (.l2i, 1) := by decide +kernel
theorem V.dX17_readsMemories_46 : decode cX17_readsMemories 46 = .ok (.aload_n 0, 1) := by decide +kernel
theorem V.dX17_readsMemories_47 : decode cX17_readsMemories 47 = .ok (.getfield 396, 3) := by decide +kernel
theorem V.dX17_readsMemories_50 : decode cX17_readsMemories 50 = .ok (.lastore, 1) := by decide +kernel
theorem V.dX17_readsMemories_51 : decode cX17_readsMemories 51 = .ok (.aload_n 0, 1) := by decide +kernel
theorem V.dX17_readsMemories_52 : decode cX17_readsMemories 52 = .ok (.getfield 221, 3) := by decide +kernel
theorem V.dX17_readsMemories_55 : decode cX17_readsMemories 55 = .ok (.getfield 450, 3) := by decide +kernel
theorem V.dX17_readsMemories_58 : decode cX17_readsMemories 58 = .ok (.lload_n 3, 1) := by decide +kernel
theorem V.dX17_readsMemories_59 : decode cX17_readsMemories 59 = .ok (.l2i, 1) := by decide +kernel
theorem V.dX17_readsMemories_60 : decode cX17_readsMemories 60 = .ok (.aload_n 0, 1) := by decide +kernel
theorem V.dX17_readsMemories_61 : decode cX17_readsMemories 61 = .ok (.getfield 399, 3) := by decide +kernel
theorem V.dX17_readsMemories_64 : decode cX17_readsMemories 64 = .ok (.lastore, 1) := by decide +kernel
theorem V.dX17_readsMemories_65 : decode cX17_readsMemories 65 = .ok (.lload_n 3, 1) := by decide +kernel
theorem V.dX17_readsMemories_66 : decode cX17_readsMemories 66 = .ok (.lconst 1, 1) := by decide +kernel
theorem V.dX17_readsMemories_67 : decode cX17_readsMemories 67 = .ok (.ladd, 1) := by decide +kernel
theorem V.dX17_readsMemories_68 : decode cX17_readsMemories 68 = .ok (.lstore_n 3, 1) := by decide +kernel
theorem V.dX17_readsMemories_69 : decode cX17_readsMemories 69 = .ok (.goto (-50), 3) := by decide +kernel
theorem V.dX17_readsMemories_72 : decode cX17_readsMemories 72 = .ok (.return_, 1) := by decide +kernel
theorem V.fpX17_444 {nm : String} : FP RX17 nm 444 20 21 (.int) := ⟨(RX20, TX20, 58), tyX20, rfl, rfl, in_X20, by decide, tyX20_ok, nmX20, rfl, Or.inl ⟨rfl, Or.inr ⟨_, q3402⟩⟩⟩
theorem V.fdX17_447 : FD RX17 447 20 22 2 := ⟨(RX20, TX20, 58), tyX20, rfl, rfl, in_X20, by decide, Or.inr ⟨_, q3404⟩, rfl⟩
theorem V.fdX17_450 : FD RX17 450 20 23 2 := ⟨(RX20, TX20, 58), tyX20, rfl, rfl, in_X20, by decide, Or.inr ⟨_, q3406⟩, rfl⟩
/-! ModuleEngineModel.readsMemories()V -/
def V.Mdl_readsMemories_p65 (rec19 : HS → Nat → Int64 → Int64 → Option ((Nat ⊕ Unit) × HS)) (σ : HS) (x0 : Nat) (x1 : Int64) (x3 : Int64) : Option ((Nat ⊕ Unit) × HS) :=
  bn (x3 + (1 : Int64)) fun y1 =>
  rec19 σ x0 x1 y1
theorem V.gX17_readsMemories_p65 {X : CX} (rec19 : HS → Nat → Int64 → Int64 → Option ((Nat ⊕ Unit) × HS)) (hrec19 : ∀ (σ : HS) (x0 : Nat) (x1 : Int64) (x3 : Int64), G X RX17 "readsMemories" cX17_readsMemories 5 none 4 87 (enX enV (cxz X)) 19 [(0, av x0), (1, jv x1), (3, jv x3)] [] σ (rec19 σ x0 x1 x3)) (σ : HS) (x0 : Nat) (x1 : Int64) (x3 : Int64) : G X RX17 "readsMemories" cX17_readsMemories 5 none 4 87 (enX enV (cxz X)) 65 [(0, av x0), (1, jv x1), (3, jv x3)] [] σ (Mdl_readsMemories_p65 rec19 σ x0 x1 x3) := by
  unfold Mdl_readsMemories_p65
  refine g_lload_n 3 2 dX17_readsMemories_65 rfl rfl ?_
  refine g_lconst (v := 1) dX17_readsMemories_66 (by decide) ?_
  refine g_ladd dX17_readsMemories_67 ?_
  refine g_nmJ (fun y1 => ?_)
  refine g_lstore_n 3 dX17_readsMemories_68 rfl (by decide) rfl ?_
  refine g_goto 19 dX17_readsMemories_69 (by decide) ?_
  refine G.sub [1, 2, 0] rfl ?_
  exact hrec19 _ _ _ _
def V.Mdl_readsMemories_p19  : Nat → HS → Nat → Int64 → Int64 → Option ((Nat ⊕ Unit) × HS)
  | 0, _, _, _, _ => none
  | n + 1, σ, x0, x1, x3 =>
    if x1 ≤ x3 then (
      some (.inr (), σ))
    else (
      ck (tg σ x0 = 18) <| clT (Mdl_limits σ x0 ) fun _ σ1 =>
      if (64 : Int64) ≤ x3 then (
        Mdl_readsMemories_p65 (Mdl_readsMemories_p19 n) σ1 x0 x1 x3)
      else (
        ck (tg σ1 x0 = 18) <|
        ck (tg σ1 (gR σ1 x0 10) = 21) <|
        ck (tg σ1 x0 = 18) <|
        ck (tg σ1 (gR σ1 (gR σ1 x0 10) 22) = 101 ∧ inb x3.toInt32 (ln σ1 (gR σ1 (gR σ1 x0 10) 22))) <| bn (sJ σ1 (gR σ1 (gR σ1 x0 10) 22) (ix x3.toInt32) (gJ σ1 x0 17)) fun σ2 =>
        ck (tg σ2 x0 = 18) <|
        ck (tg σ2 (gR σ2 x0 10) = 21) <|
        ck (tg σ2 x0 = 18) <|
        ck (tg σ2 (gR σ2 (gR σ2 x0 10) 23) = 101 ∧ inb x3.toInt32 (ln σ2 (gR σ2 (gR σ2 x0 10) 23))) <| bn (sJ σ2 (gR σ2 (gR σ2 x0 10) 23) (ix x3.toInt32) (gJ σ2 x0 18)) fun σ3 =>
        Mdl_readsMemories_p65 (Mdl_readsMemories_p19 n) σ3 x0 x1 x3))
theorem V.gX17_readsMemories_p19 {X : CX}  : ∀ (n : Nat) (σ : HS) (x0 : Nat) (x1 : Int64) (x3 : Int64), G X RX17 "readsMemories" cX17_readsMemories 5 none 4 87 (enX enV (cxz X)) 19 [(0, av x0), (1, jv x1), (3, jv x3)] [] σ (Mdl_readsMemories_p19 n σ x0 x1 x3)
  | 0, σ, x0, x1, x3 => by rw [Mdl_readsMemories_p19]; exact G.nul
  | n + 1, σ, x0, x1, x3 => by
    rw [Mdl_readsMemories_p19]
    refine g_lload_n 3 2 dX17_readsMemories_19 rfl rfl ?_
    refine g_lload_n 1 1 dX17_readsMemories_20 rfl rfl ?_
    refine g_lcmp_ge 72 dX17_readsMemories_21 dX17_readsMemories_22 (by decide) ?_ ?_
    · exact g_return rfl dX17_readsMemories_72
    · refine g_aload_n 0 0 dX17_readsMemories_25 rfl rfl ?_
      refine g_callVT (fc := fun sς => Mdl_limits sς x0 ) (ci := 17) (as := []) rfl rfl rfl q3680 qs227 q3678 mdX17_408 (ctX17_limits x0 ) rfl (Nat.le_of_ble_eq_true rfl) (Nat.le_of_ble_eq_true rfl) (Nat.le_of_ble_eq_true rfl) pu_V (by decide) dX17_readsMemories_26 (fun _ σ1 => ?_)
      refine g_lload_n 3 2 dX17_readsMemories_29 rfl rfl ?_
      refine g_ldc2 q3645 dX17_readsMemories_30 ?_
      refine g_lcmp_ge 65 dX17_readsMemories_33 dX17_readsMemories_34 (by decide) ?_ ?_
      · exact gX17_readsMemories_p65 (Mdl_readsMemories_p19 n) (gX17_readsMemories_p19 n) _ _ _ _
      · refine g_aload_n 0 0 dX17_readsMemories_37 rfl rfl ?_
        refine g_getR fdX17_221 dX17_readsMemories_38 ?_
        refine g_getR fdX17_447 dX17_readsMemories_41 ?_
        refine g_lload_n 3 2 dX17_readsMemories_44 rfl rfl ?_
        refine g_l2i dX17_readsMemories_45 ?_
        refine g_aload_n 0 0 dX17_readsMemories_46 rfl rfl ?_
        refine g_getJ fdX17_396 dX17_readsMemories_47 ?_
        refine g_lastore dX17_readsMemories_50 (fun σ2 => ?_)
        refine g_aload_n 0 0 dX17_readsMemories_51 rfl rfl ?_
        refine g_getR fdX17_221 dX17_readsMemories_52 ?_
        refine g_getR fdX17_450 dX17_readsMemories_55 ?_
        refine g_lload_n 3 2 dX17_readsMemories_58 rfl rfl ?_
        refine g_l2i dX17_readsMemories_59 ?_
        refine g_aload_n 0 0 dX17_readsMemories_60 rfl rfl ?_
        refine g_getJ fdX17_399 dX17_readsMemories_61 ?_
        refine g_lastore dX17_readsMemories_64 (fun σ3 => ?_)
        exact gX17_readsMemories_p65 (Mdl_readsMemories_p19 n) (gX17_readsMemories_p19 n) _ _ _ _
def V.Mdl_readsMemories (σ : HS) (x0 : Nat) : Option ((Nat ⊕ Unit) × HS) :=
  ck (tg σ x0 = 18) <| clT (Mdl_number σ x0 ) fun r2 σ1 =>
  ck (tg σ1 x0 = 18) <|
  ck (tg σ1 x0 = 18) <| cl (Mdl_kept σ1 x0 r2) fun r4 σ3 =>
  ck (tg σ3 (gR σ1 x0 10) = 21) <| bn (sI σ3 (gR σ1 x0 10) 21 r4) fun σ5 =>
  Mdl_readsMemories_p19 FU σ5 x0 r2 (0 : Int64)
theorem V.ctX17_readsMemories (x0 : Nat) : Ct yX17_readsMemories  cX17_readsMemories 5 none 4 87 eXV [av x0] (fun σ => Mdl_readsMemories σ x0) := by
  refine Ct.of (own := RX17) (nm := "readsMemories") (desc := "()V") rfl (by decide) (Nat.le_of_ble_eq_true rfl) (by decide) (fun X σ => ?_)
  show G X RX17 "readsMemories" cX17_readsMemories 5 none 4 87 (enX enV (cxz X)) 0 [(0, av x0)] [] σ (Mdl_readsMemories σ x0)
  unfold Mdl_readsMemories
  refine g_aload_n 0 0 dX17_readsMemories_0 rfl rfl ?_
  refine g_callVT (fc := fun sς => Mdl_number sς x0 ) (ci := 17) (as := []) rfl rfl rfl q3619 qs215 q3617 mdX17_277 (ctX17_number x0 ) rfl (Nat.le_of_ble_eq_true rfl) (Nat.le_of_ble_eq_true rfl) (Nat.le_of_ble_eq_true rfl) pu_J (by decide) dX17_readsMemories_1 (fun r2 σ1 => ?_)
  refine g_lstore_n 1 dX17_readsMemories_4 rfl (by decide) rfl ?_
  refine g_aload_n 0 1 dX17_readsMemories_5 rfl rfl ?_
  refine g_getR fdX17_221 dX17_readsMemories_6 ?_
  refine g_aload_n 0 1 dX17_readsMemories_9 rfl rfl ?_
  refine g_lload_n 1 0 dX17_readsMemories_10 rfl rfl ?_
  refine g_callV (fc := fun sς => Mdl_kept sς x0 r2) (ci := 17) (as := [jv r2]) rfl rfl rfl q3643 qs220 mdX17_377 (ctX17_kept x0 r2) rfl (Nat.le_of_ble_eq_true rfl) (Nat.le_of_ble_eq_true rfl) (Nat.le_of_ble_eq_true rfl) pu_I dX17_readsMemories_11 (fun r4 σ3 => ?_)
  refine g_putI fpX17_444 dX17_readsMemories_14 (fun σ5 => ?_)
  refine g_lconst (v := 0) dX17_readsMemories_17 (by decide) ?_
  refine g_lstore_n 3 dX17_readsMemories_18 rfl (by decide) rfl ?_
  refine G.sub [2, 1, 0] rfl ?_
  exact gX17_readsMemories_p19 FU _ _ _ _
