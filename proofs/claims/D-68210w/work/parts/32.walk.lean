set_option maxRecDepth 100000
theorem V.dX17_isSameName_0 : decode cX17_isSameName 0 = .ok (.aload_n 0, 1) := by decide +kernel
theorem V.dX17_isSameName_1 : decode cX17_isSameName 1 = .ok (.getfield 221, 3) := by decide +kernel
theorem V.dX17_isSameName_4 : decode cX17_isSameName 4 = .ok (.getfield 472, 3) := by decide +kernel
theorem V.dX17_isSameName_7 : decode cX17_isSameName 7 = .ok (.iload_n 1, 1) := by decide +kernel
theorem V.dX17_isSameName_8 : decode cX17_isSameName 8 = .ok (.iaload, 1) := by decide +kernel
theorem V.dX17_isSameName_9 : decode cX17_isSameName 9 = .ok (.istore_n 3, 1) := by decide +kernel
theorem V.dX17_isSameName_10 : decode cX17_isSameName 10 = .ok (.iload_n 3, 1) := by decide +kernel
theorem V.dX17_isSameName_11 : decode cX17_isSameName 11 = .ok (.aload_n 0, 1) := by decide +kernel
theorem V.dX17_isSameName_12 : decode cX17_isSameName 12 = .ok (.getfield 221, 3) := by decide +kernel
theorem V.dX17_isSameName_15 : decode cX17_isSameName 15 = .ok (.getfield 472, 3) := by decide +kernel
theorem V.dX17_isSameName_18 : decode cX17_isSameName 18 = .ok (.iload_n 2, 1) := by decide +kernel
theorem V.dX17_isSameName_19 : decode cX17_isSameName 19 = .ok (.iaload, 1) := by decide +kernel
theorem V.dX17_isSameName_20 : decode cX17_isSameName 20 = .ok (.if_icmp .ne 7, 3) := by decide +kernel
theorem V.dX17_isSameName_23 : decode cX17_isSameName 23 = .ok (.iconst 1, 1) := by decide +kernel
theorem V.dX17_isSameName_24 : decode cX17_isSameName 24 = .ok (.goto 4, 3) := by decide +kernel
theorem V.dX17_isSameName_27 : decode cX17_isSameName 27 = .ok (.iconst 0, 1) := by decide +kernel
theorem V.dX17_isSameName_28 : decode cX17_isSameName 28 = .ok (.istore 4, 2) := by decide +kernel
theorem V.dX17_isSameName_30 : decode cX17_isSameName 30 = .ok (.iconst 0, 1) := by decide +kernel
theorem V.dX17_isSameName_31 : decode cX17_isSameName 31 = .ok (.istore 5, 2) := by decide +kernel
theorem V.dX17_isSameName_33 : decode cX17_isSameName 33 = .ok (.iload 5, 2) := by decide +kernel
theorem V.dX17_isSameName_35 : decode cX17_isSameName 35 = .ok (.iload_n 3, 1) := by decide +kernel
theorem V.dX17_isSameName_36 : decode cX17_isSameName 36 = .ok (.if_icmp .ge 62, 3) := by decide +kernel
theorem V.dX17_isSameName_39 : decode cX17_isSameName 39 = .ok (.iload 4, 2) := by decide +kernel
theorem V.dX17_isSameName_41 : decode cX17_isSameName 41 = .ok (.ifCond .eq 57, 3) := by decide +kernel
theorem V.dX17_isSameName_44 : decode cX17_isSameName 44 = .ok (.aload_n 0, 1) := by decide +kernel
theorem V.dX17_isSameName_45 : decode cX17_isSameName 45 = .ok (.getfield 221, 3) := by decide +kernel
theorem V.dX17_isSameName_48 : decode cX17_isSameName 48 = .ok (.aload_n 0, 1) := by decide +kernel
theorem V.dX17_isSameName_49 : decode cX17_isSameName 49 = .ok (.getfield 221, 3) := by decide +kernel
theorem V.dX17_isSameName_52 : decode cX17_isSameName 52 = .ok (.getfield 469, 3) := by decide +kernel
theorem V.dX17_isSameName_55 : decode cX17_isSameName 55 = .ok (.iload_n 1, 1) := by decide +kernel
theorem V.dX17_isSameName_56 : decode cX17_isSameName 56 = .ok (.iaload, 1) := by decide +kernel
theorem V.dX17_isSameName_57 : decode cX17_isSameName 57 = .ok (.iload 5, 2) := by decide +kernel
theorem V.dX17_isSameName_59 : decode cX17_isSameName 59 = .ok (.iadd, 1) := by decide +kernel
theorem V.dX17_isSameName_60 : decode cX17_isSameName 60 = .ok (.invokevirtual 261, 3) := by decide +kernel
theorem V.dX17_isSameName_63 : decode cX17_isSameName 63 = .ok (.aload_n 0, 1) := by decide +kernel
theorem V.dX17_isSameName_64 : decode cX17_isSameName 64 = .ok (.getfield 221, 3) := by decide +kernel
theorem V.dX17_isSameName_67 : decode cX17_isSameName 67 = .ok (.aload_n 0, 1) := by decide +kernel
theorem V.dX17_isSameName_68 : decode cX17_isSameName 68 = .ok (.getfield 221, 3) := by decide +kernel
theorem V.dX17_isSameName_71 : decode cX17_isSameName 71 = .ok (.getfield 469, 3) := by decide +kernel
theorem V.dX17_isSameName_74 : decode cX17_isSameName 74 = .ok (.iload_n 2, 1) := by decide +kernel
theorem V.dX17_isSameName_75 : decode cX17_isSameName 75 = .ok (.iaload, 1) := by decide +kernel
theorem V.dX17_isSameName_76 : decode cX17_isSameName 76 = .ok (.iload 5, 2) := by decide +kernel
theorem V.dX17_isSameName_78 : decode cX17_isSameName 78 = .ok (.iadd, 1) := by decide +kernel
theorem V.dX17_isSameName_79 : decode cX17_isSameName 79 = .ok (.invokevirtual 261, 3) := by decide +kernel
theorem V.dX17_isSameName_82 : decode cX17_isSameName 82 = .ok (.if_icmp .ne 7, 3) := by decide +kernel
theorem V.dX17_isSameName_85 : decode cX17_isSameName 85 = .ok (.iconst 1, 1) := by decide +kernel
theorem V.dX17_isSameName_86 : decode cX17_isSameName 86 = .ok (.goto 4, 3) := by decide +kernel
theorem V.dX17_isSameName_89 : decode cX17_isSameName 89 = .ok (.iconst 0, 1) := by decide +kernel
theorem V.dX17_isSameName_90 : decode cX17_isSameName 90 = .ok (.istore 4, 2) := by decide +kernel
theorem V.dX17_isSameName_92 : decode cX17_isSameName 92 = .ok (.iinc 5 1, 3) := by decide +kernel
theorem V.dX17_isSameName_95 : decode cX17_isSameName 95 = .ok (.goto (-62), 3) := by decide +kernel
theorem V.dX17_isSameName_98 : decode cX17_isSameName 98 = .ok (.iload 4, 2) := by decide +kernel
theorem V.dX17_isSameName_100 : decode cX17_isSameName 100 = .ok (.ireturn, 1) := by decide +kernel
/-! ModuleEngineModel.isSameName(II)Z -/
def V.Mdl_isSameName_p90 (rec33 : HS → Nat → Int32 → Int32 → Int32 → Int32 → Int32 → Option (Int32 × HS)) (σ : HS) (x0 : Nat) (x1 : Int32) (x2 : Int32) (x3 : Int32) (x5 : Int32) (s0 : Int32) : Option (Int32 × HS) :=
  bn (x5 + (1 : Int32)) fun y1 =>
  rec33 σ x0 x1 x2 x3 s0 y1
theorem V.gX17_isSameName_p90 {X : CX} (rec33 : HS → Nat → Int32 → Int32 → Int32 → Int32 → Int32 → Option (Int32 × HS)) (hrec33 : ∀ (σ : HS) (x0 : Nat) (x1 : Int32) (x2 : Int32) (x3 : Int32) (x4 : Int32) (x5 : Int32), G X RX17 "isSameName" cX17_isSameName 6 (some .boolean) 1 21 enI 33 [(0, av x0), (1, iv x1), (2, iv x2), (3, iv x3), (4, iv x4), (5, iv x5)] [] σ (rec33 σ x0 x1 x2 x3 x4 x5)) (σ : HS) (x0 : Nat) (x1 : Int32) (x2 : Int32) (x3 : Int32) (x5 : Int32) (s0 : Int32) : G X RX17 "isSameName" cX17_isSameName 6 (some .boolean) 1 21 enI 90 [(0, av x0), (1, iv x1), (2, iv x2), (3, iv x3), (5, iv x5)] [iv s0] σ (Mdl_isSameName_p90 rec33 σ x0 x1 x2 x3 x5 s0) := by
  unfold Mdl_isSameName_p90
  refine g_istore dX17_isSameName_90 (by decide) rfl ?_
  refine g_iincB (w := 1) 5 dX17_isSameName_92 rfl (by decide) (by decide) (fun _ => rfl) (fun y1 => ?_)
  refine g_goto 33 dX17_isSameName_95 (by decide) ?_
  refine G.sub [2, 3, 4, 5, 1, 0] rfl ?_
  exact hrec33 _ _ _ _ _ _ _
def V.Mdl_isSameName_p33  : Nat → HS → Nat → Int32 → Int32 → Int32 → Int32 → Int32 → Option (Int32 × HS)
  | 0, _, _, _, _, _, _, _ => none
  | n + 1, σ, x0, x1, x2, x3, x4, x5 =>
    if x3 ≤ x5 then (
      ck (zb x4) (some (x4, σ)))
    else (
      if x4 = 0 then (
        ck (zb x4) (some (x4, σ)))
      else (
        ck (tg σ x0 = 18) <|
        ck (tg σ x0 = 18) <|
        ck (tg σ (gR σ x0 10) = 21) <|
        ck (tg σ (gR σ (gR σ x0 10) 29) = 100 ∧ inb x1 (ln σ (gR σ (gR σ x0 10) 29))) <|
        ck (tg σ (gR σ x0 10) = 21) <| cl (Pln_at σ (gR σ x0 10) ((gI σ (gR σ (gR σ x0 10) 29) (ix x1)) + x5)) fun r2 σ1 =>
        ck (tg σ1 x0 = 18) <|
        ck (tg σ1 x0 = 18) <|
        ck (tg σ1 (gR σ1 x0 10) = 21) <|
        ck (tg σ1 (gR σ1 (gR σ1 x0 10) 29) = 100 ∧ inb x2 (ln σ1 (gR σ1 (gR σ1 x0 10) 29))) <|
        ck (tg σ1 (gR σ1 x0 10) = 21) <| cl (Pln_at σ1 (gR σ1 x0 10) ((gI σ1 (gR σ1 (gR σ1 x0 10) 29) (ix x2)) + x5)) fun r4 σ3 =>
        if r2 = r4 then (
          Mdl_isSameName_p90 (Mdl_isSameName_p33 n) σ3 x0 x1 x2 x3 x5 (1 : Int32))
        else (
          Mdl_isSameName_p90 (Mdl_isSameName_p33 n) σ3 x0 x1 x2 x3 x5 (0 : Int32))))
theorem V.gX17_isSameName_p33 {X : CX}  : ∀ (n : Nat) (σ : HS) (x0 : Nat) (x1 : Int32) (x2 : Int32) (x3 : Int32) (x4 : Int32) (x5 : Int32), G X RX17 "isSameName" cX17_isSameName 6 (some .boolean) 1 21 enI 33 [(0, av x0), (1, iv x1), (2, iv x2), (3, iv x3), (4, iv x4), (5, iv x5)] [] σ (Mdl_isSameName_p33 n σ x0 x1 x2 x3 x4 x5)
  | 0, σ, x0, x1, x2, x3, x4, x5 => by rw [Mdl_isSameName_p33]; exact G.nul
  | n + 1, σ, x0, x1, x2, x3, x4, x5 => by
    rw [Mdl_isSameName_p33]
    refine g_iload 5 dX17_isSameName_33 rfl ?_
    refine g_iload_n 3 3 dX17_isSameName_35 rfl rfl ?_
    refine g_icmp_ge 98 dX17_isSameName_36 (by decide) ?_ ?_
    · refine g_iload 4 dX17_isSameName_98 rfl ?_
      exact g_zreturnc rfl dX17_isSameName_100
    · refine g_iload 4 dX17_isSameName_39 rfl ?_
      refine g_if_eq 98 dX17_isSameName_41 (by decide) ?_ ?_
      · refine g_iload 4 dX17_isSameName_98 rfl ?_
        exact g_zreturnc rfl dX17_isSameName_100
      · refine g_aload_n 0 0 dX17_isSameName_44 rfl rfl ?_
        refine g_getR fdX17_221 dX17_isSameName_45 ?_
        refine g_aload_n 0 0 dX17_isSameName_48 rfl rfl ?_
        refine g_getR fdX17_221 dX17_isSameName_49 ?_
        refine g_getR fdX17_469 dX17_isSameName_52 ?_
        refine g_iload_n 1 1 dX17_isSameName_55 rfl rfl ?_
        refine g_iaload dX17_isSameName_56 ?_
        refine g_iload 5 dX17_isSameName_57 rfl ?_
        refine g_iadd dX17_isSameName_59 ?_
        refine g_callV (fc := fun sς => Pln_at sς (gR σ x0 10) ((gI σ (gR σ (gR σ x0 10) 29) (ix x1)) + x5)) (ci := 20) (as := [iv ((gI σ (gR σ (gR σ x0 10) 29) (ix x1)) + x5)]) rfl rfl rfl q3609 q3610 mdX17_261 (ctX20_at (gR σ x0 10) ((gI σ (gR σ (gR σ x0 10) 29) (ix x1)) + x5)) rfl (Nat.le_of_ble_eq_true rfl) (Nat.le_of_ble_eq_true rfl) (Nat.le_of_ble_eq_true rfl) pu_I dX17_isSameName_60 (fun r2 σ1 => ?_)
        refine g_aload_n 0 0 dX17_isSameName_63 rfl rfl ?_
        refine g_getR fdX17_221 dX17_isSameName_64 ?_
        refine g_aload_n 0 0 dX17_isSameName_67 rfl rfl ?_
        refine g_getR fdX17_221 dX17_isSameName_68 ?_
        refine g_getR fdX17_469 dX17_isSameName_71 ?_
        refine g_iload_n 2 2 dX17_isSameName_74 rfl rfl ?_
        refine g_iaload dX17_isSameName_75 ?_
        refine g_iload 5 dX17_isSameName_76 rfl ?_
        refine g_iadd dX17_isSameName_78 ?_
        refine g_callV (fc := fun sς => Pln_at sς (gR σ1 x0 10) ((gI σ1 (gR σ1 (gR σ1 x0 10) 29) (ix x2)) + x5)) (ci := 20) (as := [iv ((gI σ1 (gR σ1 (gR σ1 x0 10) 29) (ix x2)) + x5)]) rfl rfl rfl q3609 q3610 mdX17_261 (ctX20_at (gR σ1 x0 10) ((gI σ1 (gR σ1 (gR σ1 x0 10) 29) (ix x2)) + x5)) rfl (Nat.le_of_ble_eq_true rfl) (Nat.le_of_ble_eq_true rfl) (Nat.le_of_ble_eq_true rfl) pu_I dX17_isSameName_79 (fun r4 σ3 => ?_)
        refine g_icmp_ne 89 dX17_isSameName_82 (by decide) ?_ ?_
        · refine g_iconst (v := 0) dX17_isSameName_89 (by decide) ?_
          refine G.sub [0, 1, 2, 3, 5] rfl ?_
          exact gX17_isSameName_p90 (Mdl_isSameName_p33 n) (gX17_isSameName_p33 n) _ _ _ _ _ _ _
        · refine g_iconst (v := 1) dX17_isSameName_85 (by decide) ?_
          refine g_goto 90 dX17_isSameName_86 (by decide) ?_
          refine G.sub [0, 1, 2, 3, 5] rfl ?_
          exact gX17_isSameName_p90 (Mdl_isSameName_p33 n) (gX17_isSameName_p33 n) _ _ _ _ _ _ _
def V.Mdl_isSameName_p28  (σ : HS) (x0 : Nat) (x1 : Int32) (x2 : Int32) (x3 : Int32) (s0 : Int32) : Option (Int32 × HS) :=
  Mdl_isSameName_p33 FU σ x0 x1 x2 x3 s0 (0 : Int32)
theorem V.gX17_isSameName_p28 {X : CX}  (σ : HS) (x0 : Nat) (x1 : Int32) (x2 : Int32) (x3 : Int32) (s0 : Int32) : G X RX17 "isSameName" cX17_isSameName 6 (some .boolean) 1 21 enI 28 [(0, av x0), (1, iv x1), (2, iv x2), (3, iv x3)] [iv s0] σ (Mdl_isSameName_p28 σ x0 x1 x2 x3 s0) := by
  unfold Mdl_isSameName_p28
  refine g_istore dX17_isSameName_28 (by decide) rfl ?_
  refine g_iconst (v := 0) dX17_isSameName_30 (by decide) ?_
  refine g_istore dX17_isSameName_31 (by decide) rfl ?_
  refine G.sub [2, 3, 4, 5, 1, 0] rfl ?_
  exact gX17_isSameName_p33 FU _ _ _ _ _ _ _
def V.Mdl_isSameName (σ : HS) (x0 : Nat) (x1 : Int32) (x2 : Int32) : Option (Int32 × HS) :=
  ck (tg σ x0 = 18) <|
  ck (tg σ (gR σ x0 10) = 21) <|
  ck (tg σ (gR σ (gR σ x0 10) 30) = 100 ∧ inb x1 (ln σ (gR σ (gR σ x0 10) 30))) <|
  bn (gI σ (gR σ (gR σ x0 10) 30) (ix x1)) fun y1 =>
  ck (tg σ x0 = 18) <|
  ck (tg σ (gR σ x0 10) = 21) <|
  ck (tg σ (gR σ (gR σ x0 10) 30) = 100 ∧ inb x2 (ln σ (gR σ (gR σ x0 10) 30))) <|
  if y1 = (gI σ (gR σ (gR σ x0 10) 30) (ix x2)) then (
    Mdl_isSameName_p28 σ x0 x1 x2 y1 (1 : Int32))
  else (
    Mdl_isSameName_p28 σ x0 x1 x2 y1 (0 : Int32))
theorem V.ctX17_isSameName (x0 : Nat) (x1 : Int32) (x2 : Int32) : Ct yX17_isSameName  cX17_isSameName 6 (some .boolean) 1 21 eI [av x0, iv x1, iv x2] (fun σ => Mdl_isSameName σ x0 x1 x2) := by
  refine Ct.of (own := RX17) (nm := "isSameName") (desc := "(II)Z") rfl (by decide) (Nat.le_of_ble_eq_true rfl) (by decide) (fun X σ => ?_)
  show G X RX17 "isSameName" cX17_isSameName 6 (some .boolean) 1 21 enI 0 [(0, av x0), (1, iv x1), (2, iv x2)] [] σ (Mdl_isSameName σ x0 x1 x2)
  unfold Mdl_isSameName
  refine g_aload_n 0 0 dX17_isSameName_0 rfl rfl ?_
  refine g_getR fdX17_221 dX17_isSameName_1 ?_
  refine g_getR fdX17_472 dX17_isSameName_4 ?_
  refine g_iload_n 1 1 dX17_isSameName_7 rfl rfl ?_
  refine g_iaload dX17_isSameName_8 ?_
  refine g_nmI (fun y1 => ?_)
  refine g_istore_n 3 dX17_isSameName_9 rfl (by decide) rfl ?_
  refine g_iload_n 3 0 dX17_isSameName_10 rfl rfl ?_
  refine g_aload_n 0 1 dX17_isSameName_11 rfl rfl ?_
  refine g_getR fdX17_221 dX17_isSameName_12 ?_
  refine g_getR fdX17_472 dX17_isSameName_15 ?_
  refine g_iload_n 2 3 dX17_isSameName_18 rfl rfl ?_
  refine g_iaload dX17_isSameName_19 ?_
  refine g_icmp_ne 27 dX17_isSameName_20 (by decide) ?_ ?_
  · refine g_iconst (v := 0) dX17_isSameName_27 (by decide) ?_
    refine G.sub [1, 2, 3, 0] rfl ?_
    exact gX17_isSameName_p28 _ _ _ _ _ _
  · refine g_iconst (v := 1) dX17_isSameName_23 (by decide) ?_
    refine g_goto 28 dX17_isSameName_24 (by decide) ?_
    refine G.sub [1, 2, 3, 0] rfl ?_
    exact gX17_isSameName_p28 _ _ _ _ _ _
theorem V.dX17_checksExports_0 : decode cX17_checksExports 0 = .ok (.iconst 0, 1) := by decide +kernel
theorem V.dX17_checksExports_1 : decode cX17_checksExports 1 = .ok (.istore_n 1, 1) := by decide +kernel
theorem V.dX17_checksExports_2 : decode cX17_checksExports 2 = .ok (.iload_n 1, 1) := by decide +kernel
theorem V.dX17_checksExports_3 : decode cX17_checksExports 3 = .ok (.aload_n 0, 1) := by decide +kernel
theorem V.dX17_checksExports_4 : decode cX17_checksExports 4 = .ok (.getfield 221, 3) := by decide +kernel
theorem V.dX17_checksExports_7 : decode cX17_checksExports 7 = .ok (.getfield 466, 3) := by decide +kernel
theorem V.dX17_checksExports_10 : decode cX17_checksExports 10 = .ok (.if_icmp .ge 93, 3) := by decide +kernel
theorem V.dX17_checksExports_13 : decode cX17_checksExports 13 = .ok (.aload_n 0, 1) := by decide +kernel
theorem V.dX17_checksExports_14 : decode cX17_checksExports 14 = .ok (.getfield 221, 3) := by decide +kernel
theorem V.dX17_checksExports_17 : decode cX17_checksExports 17 = .ok (.getfield 478, 3) := by decide +kernel
theorem V.dX17_checksExports_20 : decode cX17_checksExports 20 = .ok (.iload_n 1, 1) := by decide +kernel
theorem V.dX17_checksExports_21 : decode cX17_checksExports 21 = .ok (.laload, 1) := by decide +kernel
theorem V.dX17_checksExports_22 : decode cX17_checksExports 22 = .ok (.aload_n 0, 1) := by decide +kernel
theorem V.dX17_checksExports_23 : decode cX17_checksExports 23 = .ok (.getfield 221, 3) := by decide +kernel
theorem V.dX17_checksExports_26 : decode cX17_checksExports 26 = .ok (.aload_n 0, 1) := by decide +kernel
theorem V.dX17_checksExports_27 : decode cX17_checksExports 27 = .ok (.getfield 221, 3) := by decide +kernel
theorem V.dX17_checksExports_30 : decode cX17_checksExports 30 = .ok (.getfield 475, 3) := by decide +kernel
theorem V.dX17_checksExports_33 : decode cX17_checksExports 33 = .ok (.iload_n 1, 1) := by decide +kernel
theorem V.dX17_checksExports_34 : decode cX17_checksExports 34 = .ok (.iaload, 1) := by decide +kernel
theorem V.dX17_checksExports_35 : decode cX17_checksExports 35 = .ok (.invokevirtual 615, 3) := by decide +kernel
theorem V.dX17_checksExports_38 : decode cX17_checksExports 38 = .ok (.i2l, 1) := by decide +kernel
theorem V.dX17_checksExports_39 : decode cX17_checksExports 39 = .ok (.lcmp, 1) := by decide +kernel
theorem V.dX17_checksExports_40 : decode cX17_checksExports 40 = .ok (.ifCond .lt 19, 3) := by decide +kernel
theorem V.dX17_checksExports_43 : decode cX17_checksExports 43 = .ok (.aload_n 0, 1) := by decide +kernel
theorem V.dX17_checksExports_44 : decode cX17_checksExports 44 = .ok (.bipush 24, 2) := by decide +kernel
theorem V.dX17_checksExports_46 : decode cX17_checksExports 46 = .ok (.aload_n 0, 1) := by decide +kernel
theorem V.dX17_checksExports_47 : decode cX17_checksExports 47 = .ok (.getfield 221, 3) := by decide +kernel
theorem V.dX17_checksExports_50 : decode cX17_checksExports 50 = .ok (.getfield 302, 3) := by decide +kernel
theorem V.dX17_checksExports_53 : decode cX17_checksExports 53 = .ok (.bipush 7, 2) := by decide +kernel
theorem V.dX17_checksExports_55 : decode cX17_checksExports 55 = .ok (.iaload, 1) := by decide +kernel
theorem V.dX17_checksExports_56 : decode cX17_checksExports 56 = .ok (.invokevirtual 257, 3) := by decide +kernel
theorem V.dX17_checksExports_59 : decode cX17_checksExports 59 = .ok (.iconst 0, 1) := by decide +kernel
theorem V.dX17_checksExports_60 : decode cX17_checksExports 60 = .ok (.istore_n 2, 1) := by decide +kernel
theorem V.dX17_checksExports_61 : decode cX17_checksExports 61 = .ok (.iload_n 2, 1) := by decide +kernel
theorem V.dX17_checksExports_62 : decode cX17_checksExports 62 = .ok (.iload_n 1, 1) := by decide +kernel
theorem V.dX17_checksExports_63 : decode cX17_checksExports 63 = .ok (.if_icmp .ge 34, 3) := by decide +kernel
theorem V.dX17_checksExports_66 : decode cX17_checksExports 66 = .ok (.aload_n 0, 1) := by decide +kernel
theorem V.dX17_checksExports_67 : decode cX17_checksExports 67 = .ok (.iload_n 1, 1) := by decide +kernel
theorem V.dX17_checksExports_68 : decode cX17_checksExports 68 = .ok (.iload_n 2, 1) := by decide +kernel
theorem V.dX17_checksExports_69 : decode cX17_checksExports 69 = .ok (.invokevirtual 642, 3) := by decide +kernel
theorem V.dX17_checksExports_72 : decode cX17_checksExports 72 = .ok (.ifCond .eq 19, 3) := by decide +kernel
theorem V.dX17_checksExports_75 : decode cX17_checksExports 75 = .ok (.aload_n 0, 1) := by decide +kernel
theorem V.dX17_checksExports_76 : decode cX17_checksExports 76 = .ok (.bipush 23, 2) := by decide +kernel
theorem V.dX17_checksExports_78 : decode cX17_checksExports 78 = .ok (.aload_n 0, 1) := by decide +kernel
theorem V.dX17_checksExports_79 : decode cX17_checksExports 79 = .ok (.getfield 221, 3) := by decide +kernel
theorem V.dX17_checksExports_82 : decode cX17_checksExports 82 = .ok (.getfield 302, 3) := by decide +kernel
theorem V.dX17_checksExports_85 : decode cX17_checksExports 85 = .ok (.bipush 7, 2) := by decide +kernel
theorem V.dX17_checksExports_87 : decode cX17_checksExports 87 = .ok (.iaload, 1) := by decide +kernel
theorem V.dX17_checksExports_88 : decode cX17_checksExports 88 = .ok (.invokevirtual 257, 3) := by decide +kernel
theorem V.dX17_checksExports_91 : decode cX17_checksExports 91 = .ok (.iinc 2 1, 3) := by decide +kernel
theorem V.dX17_checksExports_94 : decode cX17_checksExports 94 = .ok (.goto (-33), 3) := by decide +kernel
theorem V.dX17_checksExports_97 : decode cX17_checksExports 97 = .ok (.iinc 1 1, 3) := by decide +kernel
theorem V.dX17_checksExports_100 : decode cX17_checksExports 100 = .ok (.goto (-98), 3) := by decide +kernel
theorem V.dX17_checksExports_103 : decode cX17_checksExports 103 = .ok (.return_, 1) := by decide +kernel
theorem V.fdX17_466 : FD RX17 466 20 28 0 := ⟨(RX20, TX20, 58), tyX20, rfl, rfl, in_X20, by decide, Or.inr ⟨_, q3416⟩, rfl⟩
theorem V.mdX17_615 : MD RX17 615 yX20_all cX20_all 2 (some .int) 1 := ⟨Or.inl q3779, q385, q3782, by decide, by decide, by decide +kernel⟩
theorem V.mdX17_642 : MD RX17 642 yX17_isSameName cX17_isSameName 6 (some .boolean) 2 := ⟨Or.inl q3791, q377, q3794, by decide, by decide, by decide +kernel⟩
/-! ModuleEngineModel.checksExports()V -/
def V.Mdl_checksExports_p91 (rec2 : HS → Nat → Int32 → Option ((Nat ⊕ Unit) × HS)) (rec61 : HS → Nat → Int32 → Int32 → Option ((Nat ⊕ Unit) × HS)) (σ : HS) (x0 : Nat) (x1 : Int32) (x2 : Int32) : Option ((Nat ⊕ Unit) × HS) :=
  bn (x2 + (1 : Int32)) fun y1 =>
  rec61 σ x0 x1 y1
theorem V.gX17_checksExports_p91 {X : CX} (rec2 : HS → Nat → Int32 → Option ((Nat ⊕ Unit) × HS)) (hrec2 : ∀ (σ : HS) (x0 : Nat) (x1 : Int32), G X RX17 "checksExports" cX17_checksExports 3 none 2 46 (enX enV (cxz X)) 2 [(0, av x0), (1, iv x1)] [] σ (rec2 σ x0 x1)) (rec61 : HS → Nat → Int32 → Int32 → Option ((Nat ⊕ Unit) × HS)) (hrec61 : ∀ (σ : HS) (x0 : Nat) (x1 : Int32) (x2 : Int32), G X RX17 "checksExports" cX17_checksExports 3 none 2 46 (enX enV (cxz X)) 61 [(0, av x0), (1, iv x1), (2, iv x2)] [] σ (rec61 σ x0 x1 x2)) (σ : HS) (x0 : Nat) (x1 : Int32) (x2 : Int32) : G X RX17 "checksExports" cX17_checksExports 3 none 2 46 (enX enV (cxz X)) 91 [(0, av x0), (1, iv x1), (2, iv x2)] [] σ (Mdl_checksExports_p91 rec2 rec61 σ x0 x1 x2) := by
  unfold Mdl_checksExports_p91
  refine g_iincB (w := 1) 2 dX17_checksExports_91 rfl (by decide) (by decide) (fun _ => rfl) (fun y1 => ?_)
  refine g_goto 61 dX17_checksExports_94 (by decide) ?_
  refine G.sub [1, 2, 0] rfl ?_
  exact hrec61 _ _ _ _
def V.Mdl_checksExports_p61 (rec2 : HS → Nat → Int32 → Option ((Nat ⊕ Unit) × HS)) : Nat → HS → Nat → Int32 → Int32 → Option ((Nat ⊕ Unit) × HS)
  | 0, _, _, _, _ => none
  | n + 1, σ, x0, x1, x2 =>
    if x1 ≤ x2 then (
      bn (x1 + (1 : Int32)) fun y1 =>
      rec2 σ x0 y1)
    else (
      ck (tg σ x0 = 18) <| cl (Mdl_isSameName σ x0 x1 x2) fun r3 σ2 =>
      if r3 = 0 then (
        Mdl_checksExports_p91 rec2 (Mdl_checksExports_p61 rec2 n) σ2 x0 x1 x2)
      else (
        ck (tg σ2 x0 = 18) <|
        ck (tg σ2 (gR σ2 x0 10) = 21) <|
        ck (tg σ2 (gR σ2 (gR σ2 x0 10) 2) = 100 ∧ inb (7 : Int32) (ln σ2 (gR σ2 (gR σ2 x0 10) 2))) <|
        ck (tg σ2 x0 = 18) <| clT (Mdl_stops σ2 x0 (23 : Int32) (gI σ2 (gR σ2 (gR σ2 x0 10) 2) (ix (7 : Int32)))) fun _ σ4 =>
        Mdl_checksExports_p91 rec2 (Mdl_checksExports_p61 rec2 n) σ4 x0 x1 x2))
theorem V.gX17_checksExports_p61 {X : CX} (rec2 : HS → Nat → Int32 → Option ((Nat ⊕ Unit) × HS)) (hrec2 : ∀ (σ : HS) (x0 : Nat) (x1 : Int32), G X RX17 "checksExports" cX17_checksExports 3 none 2 46 (enX enV (cxz X)) 2 [(0, av x0), (1, iv x1)] [] σ (rec2 σ x0 x1)) : ∀ (n : Nat) (σ : HS) (x0 : Nat) (x1 : Int32) (x2 : Int32), G X RX17 "checksExports" cX17_checksExports 3 none 2 46 (enX enV (cxz X)) 61 [(0, av x0), (1, iv x1), (2, iv x2)] [] σ (Mdl_checksExports_p61 rec2 n σ x0 x1 x2)
  | 0, σ, x0, x1, x2 => by rw [Mdl_checksExports_p61]; exact G.nul
  | n + 1, σ, x0, x1, x2 => by
    rw [Mdl_checksExports_p61]
    refine g_iload_n 2 2 dX17_checksExports_61 rfl rfl ?_
    refine g_iload_n 1 1 dX17_checksExports_62 rfl rfl ?_
    refine g_icmp_ge 97 dX17_checksExports_63 (by decide) ?_ ?_
    · refine g_iincB (w := 1) 1 dX17_checksExports_97 rfl (by decide) (by decide) (fun _ => rfl) (fun y1 => ?_)
      refine g_goto 2 dX17_checksExports_100 (by decide) ?_
      refine G.sub [1, 0] rfl ?_
      exact hrec2 _ _ _
    · refine g_aload_n 0 0 dX17_checksExports_66 rfl rfl ?_
      refine g_iload_n 1 1 dX17_checksExports_67 rfl rfl ?_
      refine g_iload_n 2 2 dX17_checksExports_68 rfl rfl ?_
      refine g_callV (fc := fun sς => Mdl_isSameName sς x0 x1 x2) (ci := 17) (as := [iv x1, iv x2]) rfl rfl rfl q3793 qs247 mdX17_642 (ctX17_isSameName x0 x1 x2) rfl (Nat.le_of_ble_eq_true rfl) (Nat.le_of_ble_eq_true rfl) (Nat.le_of_ble_eq_true rfl) pu_I dX17_checksExports_69 (fun r3 σ2 => ?_)
      refine g_if_eq 91 dX17_checksExports_72 (by decide) ?_ ?_
      · exact gX17_checksExports_p91 rec2 hrec2 (Mdl_checksExports_p61 rec2 n) (gX17_checksExports_p61 rec2 hrec2 n) _ _ _ _
      · refine g_aload_n 0 0 dX17_checksExports_75 rfl rfl ?_
        refine g_bipush (v := 23) dX17_checksExports_76 (by decide) ?_
        refine g_aload_n 0 0 dX17_checksExports_78 rfl rfl ?_
        refine g_getR fdX17_221 dX17_checksExports_79 ?_
        refine g_getR fdX17_302 dX17_checksExports_82 ?_
        refine g_bipush (v := 7) dX17_checksExports_85 (by decide) ?_
        refine g_iaload dX17_checksExports_87 ?_
        refine g_callVT (fc := fun sς => Mdl_stops sς x0 (23 : Int32) (gI σ2 (gR σ2 (gR σ2 x0 10) 2) (ix (7 : Int32)))) (ci := 17) (as := [iv (23 : Int32), iv (gI σ2 (gR σ2 (gR σ2 x0 10) 2) (ix (7 : Int32)))]) rfl rfl rfl q3606 qs214 q3604 mdX17_257 (ctX17_stops x0 (23 : Int32) (gI σ2 (gR σ2 (gR σ2 x0 10) 2) (ix (7 : Int32)))) rfl (Nat.le_of_ble_eq_true rfl) (Nat.le_of_ble_eq_true rfl) (Nat.le_of_ble_eq_true rfl) pu_V (by decide) dX17_checksExports_88 (fun _ σ4 => ?_)
        exact gX17_checksExports_p91 rec2 hrec2 (Mdl_checksExports_p61 rec2 n) (gX17_checksExports_p61 rec2 hrec2 n) _ _ _ _
def V.Mdl_checksExports_p59 (rec2 : HS → Nat → Int32 → Option ((Nat ⊕ Unit) × HS)) (σ : HS) (x0 : Nat) (x1 : Int32) : Option ((Nat ⊕ Unit) × HS) :=
  Mdl_checksExports_p61 rec2 FU σ x0 x1 (0 : Int32)
theorem V.gX17_checksExports_p59 {X : CX} (rec2 : HS → Nat → Int32 → Option ((Nat ⊕ Unit) × HS)) (hrec2 : ∀ (σ : HS) (x0 : Nat) (x1 : Int32), G X RX17 "checksExports" cX17_checksExports 3 none 2 46 (enX enV (cxz X)) 2 [(0, av x0), (1, iv x1)] [] σ (rec2 σ x0 x1)) (σ : HS) (x0 : Nat) (x1 : Int32) : G X RX17 "checksExports" cX17_checksExports 3 none 2 46 (enX enV (cxz X)) 59 [(0, av x0), (1, iv x1)] [] σ (Mdl_checksExports_p59 rec2 σ x0 x1) := by
  unfold Mdl_checksExports_p59
  refine g_iconst (v := 0) dX17_checksExports_59 (by decide) ?_
  refine g_istore_n 2 dX17_checksExports_60 rfl (by decide) rfl ?_
  refine G.sub [1, 2, 0] rfl ?_
  exact gX17_checksExports_p61 rec2 hrec2 FU _ _ _ _
def V.Mdl_checksExports_p2  : Nat → HS → Nat → Int32 → Option ((Nat ⊕ Unit) × HS)
  | 0, _, _, _ => none
  | n + 1, σ, x0, x1 =>
    ck (tg σ x0 = 18) <|
    ck (tg σ (gR σ x0 10) = 21) <|
    if (gI σ (gR σ x0 10) 28) ≤ x1 then (
      some (.inr (), σ))
    else (
      ck (tg σ x0 = 18) <|
      ck (tg σ (gR σ x0 10) = 21) <|
      ck (tg σ (gR σ (gR σ x0 10) 32) = 101 ∧ inb x1 (ln σ (gR σ (gR σ x0 10) 32))) <|
      ck (tg σ x0 = 18) <|
      ck (tg σ x0 = 18) <|
      ck (tg σ (gR σ x0 10) = 21) <|
      ck (tg σ (gR σ (gR σ x0 10) 31) = 100 ∧ inb x1 (ln σ (gR σ (gR σ x0 10) 31))) <|
      ck (tg σ (gR σ x0 10) = 21) <| cl (Pln_all σ (gR σ x0 10) (gI σ (gR σ (gR σ x0 10) 31) (ix x1))) fun r2 σ1 =>
      if (gJ σ (gR σ (gR σ x0 10) 32) (ix x1)) < r2.toInt64 then (
        Mdl_checksExports_p59 (Mdl_checksExports_p2 n) σ1 x0 x1)
      else (
        ck (tg σ1 x0 = 18) <|
        ck (tg σ1 (gR σ1 x0 10) = 21) <|
        ck (tg σ1 (gR σ1 (gR σ1 x0 10) 2) = 100 ∧ inb (7 : Int32) (ln σ1 (gR σ1 (gR σ1 x0 10) 2))) <|
        ck (tg σ1 x0 = 18) <| clT (Mdl_stops σ1 x0 (24 : Int32) (gI σ1 (gR σ1 (gR σ1 x0 10) 2) (ix (7 : Int32)))) fun _ σ3 =>
        Mdl_checksExports_p59 (Mdl_checksExports_p2 n) σ3 x0 x1))
theorem V.gX17_checksExports_p2 {X : CX}  : ∀ (n : Nat) (σ : HS) (x0 : Nat) (x1 : Int32), G X RX17 "checksExports" cX17_checksExports 3 none 2 46 (enX enV (cxz X)) 2 [(0, av x0), (1, iv x1)] [] σ (Mdl_checksExports_p2 n σ x0 x1)
  | 0, σ, x0, x1 => by rw [Mdl_checksExports_p2]; exact G.nul
  | n + 1, σ, x0, x1 => by
    rw [Mdl_checksExports_p2]
    refine g_iload_n 1 1 dX17_checksExports_2 rfl rfl ?_
    refine g_aload_n 0 0 dX17_checksExports_3 rfl rfl ?_
    refine g_getR fdX17_221 dX17_checksExports_4 ?_
    refine g_getI fdX17_466 dX17_checksExports_7 ?_
    refine g_icmp_ge 103 dX17_checksExports_10 (by decide) ?_ ?_
    · exact g_return rfl dX17_checksExports_103
    · refine g_aload_n 0 0 dX17_checksExports_13 rfl rfl ?_
      refine g_getR fdX17_221 dX17_checksExports_14 ?_
      refine g_getR fdX17_478 dX17_checksExports_17 ?_
      refine g_iload_n 1 1 dX17_checksExports_20 rfl rfl ?_
      refine g_laload dX17_checksExports_21 ?_
      refine g_aload_n 0 0 dX17_checksExports_22 rfl rfl ?_
      refine g_getR fdX17_221 dX17_checksExports_23 ?_
      refine g_aload_n 0 0 dX17_checksExports_26 rfl rfl ?_
      refine g_getR fdX17_221 dX17_checksExports_27 ?_
      refine g_getR fdX17_475 dX17_checksExports_30 ?_
      refine g_iload_n 1 1 dX17_checksExports_33 rfl rfl ?_
      refine g_iaload dX17_checksExports_34 ?_
      refine g_callV (fc := fun sς => Pln_all sς (gR σ x0 10) (gI σ (gR σ (gR σ x0 10) 31) (ix x1))) (ci := 20) (as := [iv (gI σ (gR σ (gR σ x0 10) 31) (ix x1))]) rfl rfl rfl q3780 q3781 mdX17_615 (ctX20_all (gR σ x0 10) (gI σ (gR σ (gR σ x0 10) 31) (ix x1))) rfl (Nat.le_of_ble_eq_true rfl) (Nat.le_of_ble_eq_true rfl) (Nat.le_of_ble_eq_true rfl) pu_I dX17_checksExports_35 (fun r2 σ1 => ?_)
      refine g_i2l dX17_checksExports_38 ?_
      refine g_lcmp_lt 59 dX17_checksExports_39 dX17_checksExports_40 (by decide) ?_ ?_
      · exact gX17_checksExports_p59 (Mdl_checksExports_p2 n) (gX17_checksExports_p2 n) _ _ _
      · refine g_aload_n 0 0 dX17_checksExports_43 rfl rfl ?_
        refine g_bipush (v := 24) dX17_checksExports_44 (by decide) ?_
        refine g_aload_n 0 0 dX17_checksExports_46 rfl rfl ?_
        refine g_getR fdX17_221 dX17_checksExports_47 ?_
        refine g_getR fdX17_302 dX17_checksExports_50 ?_
        refine g_bipush (v := 7) dX17_checksExports_53 (by decide) ?_
        refine g_iaload dX17_checksExports_55 ?_
        refine g_callVT (fc := fun sς => Mdl_stops sς x0 (24 : Int32) (gI σ1 (gR σ1 (gR σ1 x0 10) 2) (ix (7 : Int32)))) (ci := 17) (as := [iv (24 : Int32), iv (gI σ1 (gR σ1 (gR σ1 x0 10) 2) (ix (7 : Int32)))]) rfl rfl rfl q3606 qs214 q3604 mdX17_257 (ctX17_stops x0 (24 : Int32) (gI σ1 (gR σ1 (gR σ1 x0 10) 2) (ix (7 : Int32)))) rfl (Nat.le_of_ble_eq_true rfl) (Nat.le_of_ble_eq_true rfl) (Nat.le_of_ble_eq_true rfl) pu_V (by decide) dX17_checksExports_56 (fun _ σ3 => ?_)
        exact gX17_checksExports_p59 (Mdl_checksExports_p2 n) (gX17_checksExports_p2 n) _ _ _
def V.Mdl_checksExports (σ : HS) (x0 : Nat) : Option ((Nat ⊕ Unit) × HS) :=
  Mdl_checksExports_p2 FU σ x0 (0 : Int32)
theorem V.ctX17_checksExports (x0 : Nat) : Ct yX17_checksExports  cX17_checksExports 3 none 2 46 eXV [av x0] (fun σ => Mdl_checksExports σ x0) := by
  refine Ct.of (own := RX17) (nm := "checksExports") (desc := "()V") rfl (by decide) (Nat.le_of_ble_eq_true rfl) (by decide) (fun X σ => ?_)
  show G X RX17 "checksExports" cX17_checksExports 3 none 2 46 (enX enV (cxz X)) 0 [(0, av x0)] [] σ (Mdl_checksExports σ x0)
  unfold Mdl_checksExports
  refine g_iconst (v := 0) dX17_checksExports_0 (by decide) ?_
  refine g_istore_n 1 dX17_checksExports_1 rfl (by decide) rfl ?_
  refine G.sub [1, 0] rfl ?_
  exact gX17_checksExports_p2 FU _ _ _
theorem V.dX17_word_0 : decode cX17_word 0 = .ok (.lconst 0, 1) := by decide +kernel
theorem V.dX17_word_1 : decode cX17_word 1 = .ok (.lstore_n 1, 1) := by decide +kernel
theorem V.dX17_word_2 : decode cX17_word 2 = .ok (.iconst 0, 1) := by decide +kernel
theorem V.dX17_word_3 : decode cX17_word 3 = .ok (.istore_n 3, 1) := by decide +kernel
theorem V.dX17_word_4 : decode cX17_word 4 = .ok (.sipush 128, 3) := by decide +kernel
theorem V.dX17_word_7 : decode cX17_word 7 = .ok (.istore 4, 2) := by decide +kernel
theorem V.dX17_word_9 : decode cX17_word 9 = .ok (.iload 4, 2) := by decide +kernel
theorem V.dX17_word_11 : decode cX17_word 11 = .ok (.bipush 127, 2) := by decide +kernel
theorem V.dX17_word_13 : decode cX17_word 13 = .ok (.if_icmp .le 43, 3) := by decide +kernel
theorem V.dX17_word_16 : decode cX17_word 16 = .ok (.aload_n 0, 1) := by decide +kernel
theorem V.dX17_word_17 : decode cX17_word 17 = .ok (.getfield 221, 3) := by decide +kernel
theorem V.dX17_word_20 : decode cX17_word 20 = .ok (.aload_n 0, 1) := by decide +kernel
theorem V.dX17_word_21 : decode cX17_word 21 = .ok (.getfield 594, 3) := by decide +kernel
theorem V.dX17_word_24 : decode cX17_word 24 = .ok (.invokevirtual 261, 3) := by decide +kernel
theorem V.dX17_word_27 : decode cX17_word 27 = .ok (.istore 4, 2) := by decide +kernel
theorem V.dX17_word_29 : decode cX17_word 29 = .ok (.lload_n 1, 1) := by decide +kernel
theorem V.dX17_word_30 : decode cX17_word 30 = .ok (.iload 4, 2) := by decide +kernel
theorem V.dX17_word_32 : decode cX17_word 32 = .ok (.bipush 127, 2) := by decide +kernel
theorem V.dX17_word_34 : decode cX17_word 34 = .ok (.iand, 1) := by decide +kernel
theorem V.dX17_word_35 : decode cX17_word 35 = .ok (.i2l, 1) := by decide +kernel
theorem V.dX17_word_36 : decode cX17_word 36 = .ok (.iload_n 3, 1) := by decide +kernel
theorem V.dX17_word_37 : decode cX17_word 37 = .ok (.lshl, 1) := by decide +kernel
theorem V.dX17_word_38 : decode cX17_word 38 = .ok (.lor, 1) := by decide +kernel
theorem V.dX17_word_39 : decode cX17_word 39 = .ok (.lstore_n 1, 1) := by decide +kernel
theorem V.dX17_word_40 : decode cX17_word 40 = .ok (.iinc 3 7, 3) := by decide +kernel
theorem V.dX17_word_43 : decode cX17_word 43 = .ok (.aload_n 0, 1) := by decide +kernel
theorem V.dX17_word_44 : decode cX17_word 44 = .ok (.dup, 1) := by decide +kernel
theorem V.dX17_word_45 : decode cX17_word 45 = .ok (.getfield 594, 3) := by decide +kernel
theorem V.dX17_word_48 : decode cX17_word 48 = .ok (.iconst 1, 1) := by decide +kernel
theorem V.dX17_word_49 : decode cX17_word 49 = .ok (.iadd, 1) := by decide +kernel
theorem V.dX17_word_50 : decode cX17_word 50 = .ok (.putfield 594, 3) := by decide +kernel
theorem V.dX17_word_53 : decode cX17_word 53 = .ok (.goto (-44), 3) := by decide +kernel
theorem V.dX17_word_56 : decode cX17_word 56 = .ok (.lload_n 1, 1) := by decide +kernel
theorem V.dX17_word_57 : decode cX17_word 57 = .ok (.lreturn, 1) := by decide +kernel
theorem V.fdX17_594 : FD RX17 594 17 19 0 := ⟨(RX17, TX17, 101), tyX17, rfl, rfl, in_X17, by decide, Or.inl q3055, rfl⟩
theorem V.fpX17_594 {nm : String} : FP RX17 nm 594 17 19 (.int) := ⟨(RX17, TX17, 101), tyX17, rfl, rfl, in_X17, by decide, tyX17_ok, nmX17, rfl, Or.inl ⟨rfl, Or.inl q3055⟩⟩
/-! ModuleEngineModel.word()J -/
def V.Mdl_word_p9  : Nat → HS → Nat → Int64 → Int32 → Int32 → Option (Int64 × HS)
  | 0, _, _, _, _, _ => none
  | n + 1, σ, x0, x1, x3, x4 =>
    if x4 ≤ (127 : Int32) then (
      some (x1, σ))
    else (
      ck (tg σ x0 = 18) <|
      ck (tg σ x0 = 18) <|
      ck (tg σ (gR σ x0 10) = 21) <| cl (Pln_at σ (gR σ x0 10) (gI σ x0 19)) fun r2 σ1 =>
      bn (x1 ||| (lshl ((r2 &&& (127 : Int32)).toInt64) x3)) fun y3 =>
      bn (x3 + (7 : Int32)) fun y4 =>
      ck (tg σ1 x0 = 18) <|
      ck (tg σ1 x0 = 18) <| bn (sI σ1 x0 19 ((gI σ1 x0 19) + (1 : Int32))) fun σ5 =>
      Mdl_word_p9 n σ5 x0 y3 y4 r2)
theorem V.gX17_word_p9 {X : CX}  : ∀ (n : Nat) (σ : HS) (x0 : Nat) (x1 : Int64) (x3 : Int32) (x4 : Int32), G X RX17 "word" cX17_word 5 (some .long) 1 21 enJ 9 [(0, av x0), (1, jv x1), (3, iv x3), (4, iv x4)] [] σ (Mdl_word_p9 n σ x0 x1 x3 x4)
  | 0, σ, x0, x1, x3, x4 => by rw [Mdl_word_p9]; exact G.nul
  | n + 1, σ, x0, x1, x3, x4 => by
    rw [Mdl_word_p9]
    refine g_iload 3 dX17_word_9 rfl ?_
    refine g_bipush (v := 127) dX17_word_11 (by decide) ?_
    refine g_icmp_le 56 dX17_word_13 (by decide) ?_ ?_
    · refine g_lload_n 1 1 dX17_word_56 rfl rfl ?_
      exact g_lreturn rfl dX17_word_57
    · refine g_aload_n 0 0 dX17_word_16 rfl rfl ?_
      refine g_getR fdX17_221 dX17_word_17 ?_
      refine g_aload_n 0 0 dX17_word_20 rfl rfl ?_
      refine g_getI fdX17_594 dX17_word_21 ?_
      refine g_callV (fc := fun sς => Pln_at sς (gR σ x0 10) (gI σ x0 19)) (ci := 20) (as := [iv (gI σ x0 19)]) rfl rfl rfl q3609 q3610 mdX17_261 (ctX20_at (gR σ x0 10) (gI σ x0 19)) rfl (Nat.le_of_ble_eq_true rfl) (Nat.le_of_ble_eq_true rfl) (Nat.le_of_ble_eq_true rfl) pu_I dX17_word_24 (fun r2 σ1 => ?_)
      refine g_istore dX17_word_27 (by decide) rfl ?_
      refine g_lload_n 1 2 dX17_word_29 rfl rfl ?_
      refine g_iload 0 dX17_word_30 rfl ?_
      refine g_bipush (v := 127) dX17_word_32 (by decide) ?_
      refine g_iand dX17_word_34 ?_
      refine g_i2l dX17_word_35 ?_
      refine g_iload_n 3 3 dX17_word_36 rfl rfl ?_
      refine g_lshl dX17_word_37 ?_
      refine g_lor dX17_word_38 ?_
      refine g_nmJ (fun y3 => ?_)
      refine g_lstore_n 1 dX17_word_39 rfl (by decide) rfl ?_
      refine g_iincB (w := 7) 3 dX17_word_40 rfl (by decide) (by decide) (fun _ => rfl) (fun y4 => ?_)
      refine g_aload_n 0 3 dX17_word_43 rfl rfl ?_
      refine g_dup dX17_word_44 rfl ?_
      refine g_getI fdX17_594 dX17_word_45 ?_
      refine g_iconst (v := 1) dX17_word_48 (by decide) ?_
      refine g_iadd dX17_word_49 ?_
      refine g_putI fpX17_594 dX17_word_50 (fun σ5 => ?_)
      refine g_goto 9 dX17_word_53 (by decide) ?_
      refine G.sub [3, 1, 0, 2] rfl ?_
      exact gX17_word_p9 n _ _ _ _ _
def V.Mdl_word (σ : HS) (x0 : Nat) : Option (Int64 × HS) :=
  Mdl_word_p9 FU σ x0 (0 : Int64) (0 : Int32) (128 : Int32)
theorem V.ctX17_word (x0 : Nat) : Ct yX17_word  cX17_word 5 (some .long) 1 21 eJ [av x0] (fun σ => Mdl_word σ x0) := by
  refine Ct.of (own := RX17) (nm := "word") (desc := "()J") rfl (by decide) (Nat.le_of_ble_eq_true rfl) (by decide) (fun X σ => ?_)
  show G X RX17 "word" cX17_word 5 (some .long) 1 21 enJ 0 [(0, av x0)] [] σ (Mdl_word σ x0)
  unfold Mdl_word
  refine g_lconst (v := 0) dX17_word_0 (by decide) ?_
  refine g_lstore_n 1 dX17_word_1 rfl (by decide) rfl ?_
  refine g_iconst (v := 0) dX17_word_2 (by decide) ?_
  refine g_istore_n 3 dX17_word_3 rfl (by decide) rfl ?_
  refine g_sipush (v := 128) dX17_word_4 (by decide) ?_
  refine g_istore dX17_word_7 (by decide) rfl ?_
  refine G.sub [3, 2, 1, 0] rfl ?_
  exact gX17_word_p9 FU _ _ _ _ _
theorem V.dX17_declare_0 : decode cX17_declare 0 = .ok (.lload_n 1, 1) := by decide +kernel
theorem V.dX17_declare_1 : decode cX17_declare 1 = .ok (.ldc2_w 646, 3) := by decide +kernel
theorem V.dX17_declare_4 : decode cX17_declare 4 = .ok (.lcmp, 1) := by decide +kernel
theorem V.dX17_declare_5 : decode cX17_declare 5 = .ok (.ifCond .ge 11, 3) := by decide +kernel
theorem V.dX17_declare_8 : decode cX17_declare 8 = .ok (.aload_n 0, 1) := by decide +kernel
theorem V.dX17_declare_9 : decode cX17_declare 9 = .ok (.getfield 35, 3) := by decide +kernel
theorem V.dX17_declare_12 : decode cX17_declare 12 = .ok (.lload_n 1, 1) := by decide +kernel
theorem V.dX17_declare_13 : decode cX17_declare 13 = .ok (.l2i, 1) := by decide +kernel
theorem V.dX17_declare_14 : decode cX17_declare 14 = .ok (.iconst 1, 1) := by decide +kernel
theorem V.dX17_declare_15 : decode cX17_declare 15 = .ok (.bastore, 1) := by decide +kernel
theorem V.dX17_declare_16 : decode cX17_declare 16 = .ok (.return_, 1) := by decide +kernel
theorem V.fdX17_35 : FD RX17 35 17 20 2 := ⟨(RX17, TX17, 101), tyX17, rfl, rfl, in_X17, by decide, Or.inl q3056, rfl⟩
/-! ModuleEngineModel.declare(J)V -/
def V.Mdl_declare (σ : HS) (x0 : Nat) (x1 : Int64) : Option (Unit × HS) :=
  if (128 : Int64) ≤ x1 then (
    some ((), σ))
  else (
    ck (tg σ x0 = 18) <|
    ck (tg σ (gR σ x0 20) = 103 ∧ inb x1.toInt32 (ln σ (gR σ x0 20)) ∧ zb (1 : Int32)) <| bn (sI σ (gR σ x0 20) (ix x1.toInt32) (1 : Int32)) fun σ1 =>
    some ((), σ1))
theorem V.ctX17_declare (x0 : Nat) (x1 : Int64) : Ct yX17_declare  cX17_declare 3 none 0 0 eV [av x0, jv x1] (fun σ => Mdl_declare σ x0 x1) := by
  refine Ct.of (own := RX17) (nm := "declare") (desc := "(J)V") rfl (by decide) (Nat.le_of_ble_eq_true rfl) (by decide) (fun X σ => ?_)
  show G X RX17 "declare" cX17_declare 3 none 0 0 enV 0 [(0, av x0), (1, jv x1)] [] σ (Mdl_declare σ x0 x1)
  unfold Mdl_declare
  refine g_lload_n 1 1 dX17_declare_0 rfl rfl ?_
  refine g_ldc2 q3819 dX17_declare_1 ?_
  refine g_lcmp_ge 16 dX17_declare_4 dX17_declare_5 (by decide) ?_ ?_
  · exact g_return rfl dX17_declare_16
  · refine g_aload_n 0 0 dX17_declare_8 rfl rfl ?_
    refine g_getR fdX17_35 dX17_declare_9 ?_
    refine g_lload_n 1 1 dX17_declare_12 rfl rfl ?_
    refine g_l2i dX17_declare_13 ?_
    refine g_iconst (v := 1) dX17_declare_14 (by decide) ?_
    refine g_zastore dX17_declare_15 (fun σ1 => ?_)
    exact g_return rfl dX17_declare_16
theorem V.dX17_signedWord_0 : decode cX17_signedWord 0 = .ok (.lconst 0, 1) := by decide +kernel
theorem V.dX17_signedWord_1 : decode cX17_signedWord 1 = .ok (.lstore_n 1, 1) := by decide +kernel
theorem V.dX17_signedWord_2 : decode cX17_signedWord 2 = .ok (.iconst 0, 1) := by decide +kernel
theorem V.dX17_signedWord_3 : decode cX17_signedWord 3 = .ok (.istore_n 3, 1) := by decide +kernel
theorem V.dX17_signedWord_4 : decode cX17_signedWord 4 = .ok (.sipush 128, 3) := by decide +kernel
theorem V.dX17_signedWord_7 : decode cX17_signedWord 7 = .ok (.istore 4, 2) := by decide +kernel
theorem V.dX17_signedWord_9 : decode cX17_signedWord 9 = .ok (.iload 4, 2) := by decide +kernel
theorem V.dX17_signedWord_11 : decode cX17_signedWord 11 = .ok (.bipush 127, 2) := by decide +kernel
theorem V.dX17_signedWord_13 : decode cX17_signedWord 13 = .ok (.if_icmp .le 43, 3) := by decide +kernel
theorem V.dX17_signedWord_16 : decode cX17_signedWord 16 = .ok (.aload_n 0, 1) := by decide +kernel
theorem V.dX17_signedWord_17 : decode cX17_signedWord 17 = .ok (.getfield 221, 3) := by decide +kernel
theorem V.dX17_signedWord_20 : decode cX17_signedWord 20 = .ok (.aload_n 0, 1) := by decide +kernel
theorem V.dX17_signedWord_21 : decode cX17_signedWord 21 = .ok (.getfield 594, 3) := by decide +kernel
theorem V.dX17_signedWord_24 : decode cX17_signedWord 24 = .ok (.invokevirtual 261, 3) := by decide +kernel
theorem V.dX17_signedWord_27 : decode cX17_signedWord 27 = .ok (.istore 4, 2) := by decide +kernel
theorem V.dX17_signedWord_29 : decode cX17_signedWord 29 = .ok (.lload_n 1, 1) := by decide +kernel
theorem V.dX17_signedWord_30 : decode cX17_signedWord 30 = .ok (.iload 4, 2) := by decide +kernel
theorem V.dX17_signedWord_32 : decode cX17_signedWord 32 = .ok (.bipush 127, 2) := by decide +kernel
theorem V.dX17_signedWord_34 : decode cX17_signedWord 34 = .ok (.iand, 1) := by decide +kernel
theorem V.dX17_signedWord_35 : decode cX17_signedWord 35 = .ok (.i2l, 1) := by decide +kernel
theorem V.dX17_signedWord_36 : decode cX17_signedWord 36 = .ok (.iload_n 3, 1) := by decide +kernel
theorem V.dX17_signedWord_37 : decode cX17_signedWord 37 = .ok (.lshl, 1) := by decide +kernel
theorem V.dX17_signedWord_38 : decode cX17_signedWord 38 = .ok (.lor, 1) := by decide +kernel
theorem V.dX17_signedWord_39 : decode cX17_signedWord 39 = .ok (.lstore_n 1, 1) := by decide +kernel
theorem V.dX17_signedWord_40 : decode cX17_signedWord 40 = .ok (.iinc 3 7, 3) := by decide +kernel
theorem V.dX17_signedWord_43 : decode cX17_signedWord 43 = .ok (.aload_n 0, 1) := by decide +kernel
theorem V.dX17_signedWord_44 : decode cX17_signedWord 44 = .ok (.dup, 1) := by decide +kernel
theorem V.dX17_signedWord_45 : decode cX17_signedWord 45 = .ok (.getfield 594, 3) := by decide +kernel
theorem V.dX17_signedWord_48 : decode cX17_signedWord 48 = .ok (.iconst 1, 1) := by decide +kernel
theorem V.dX17_signedWord_49 : decode cX17_signedWord 49 = .ok (.iadd, 1) := by decide +kernel
theorem V.dX17_signedWord_50 : decode cX17_signedWord 50 = .ok (.putfield 594, 3) := by decide +kernel
theorem V.dX17_signedWord_53 : decode cX17_signedWord 53 = .ok (.goto (-44), 3) := by decide +kernel
theorem V.dX17_signedWord_56 : decode cX17_signedWord 56 = .ok (.iload_n 3, 1) := by decide +kernel
theorem V.dX17_signedWord_57 : decode cX17_signedWord 57 = .ok (.bipush 64, 2) := by decide +kernel
theorem V.dX17_signedWord_59 : decode cX17_signedWord 59 = .ok (.if_icmp .ge 21, 3) := by decide +kernel
theorem V.dX17_signedWord_62 : decode cX17_signedWord 62 = .ok (.iload 4, 2) := by decide +kernel
theorem V.dX17_signedWord_64 : decode cX17_signedWord 64 = .ok (.bipush 64, 2) := by decide +kernel
theorem V.dX17_signedWord_66 : decode cX17_signedWord 66 = .ok (.iand, 1) := by decide +kernel
theorem V.dX17_signedWord_67 : decode cX17_signedWord 67 = .ok (.ifCond .eq 13, 3) := by decide +kernel
theorem V.dX17_signedWord_70 : decode cX17_signedWord 70 = .ok (.lload_n 1, 1) := by decide +kernel
theorem V.dX17_signedWord_71 : decode cX17_signedWord 71 = .ok (.ldc2_w 268, 3) := by decide +kernel
theorem V.dX17_signedWord_74 : decode cX17_signedWord 74 = .ok (.iload_n 3, 1) := by decide +kernel
theorem V.dX17_signedWord_75 : decode cX17_signedWord 75 = .ok (.lshl, 1) := by decide +kernel
theorem V.dX17_signedWord_76 : decode cX17_signedWord 76 = .ok (.lor, 1) := by decide +kernel
theorem V.dX17_signedWord_77 : decode cX17_signedWord 77 = .ok (.goto 4, 3) := by decide +kernel
theorem V.dX17_signedWord_80 : decode cX17_signedWord 80 = .ok (.lload_n 1, 1) := by decide +kernel
theorem V.dX17_signedWord_81 : decode cX17_signedWord 81 = .ok (.lreturn, 1) := by decide +kernel
/-! ModuleEngineModel.signedWord()J -/
def V.Mdl_signedWord_p9  : Nat → HS → Nat → Int64 → Int32 → Int32 → Option (Int64 × HS)
  | 0, _, _, _, _, _ => none
  | n + 1, σ, x0, x1, x3, x4 =>
    if x4 ≤ (127 : Int32) then (
      if (64 : Int32) ≤ x3 then (
        some (x1, σ))
      else (
        if (x4 &&& (64 : Int32)) = 0 then (
          some (x1, σ))
        else (
          some (x1 ||| (lshl (-1 : Int64) x3), σ))))
    else (
      ck (tg σ x0 = 18) <|
      ck (tg σ x0 = 18) <|
      ck (tg σ (gR σ x0 10) = 21) <| cl (Pln_at σ (gR σ x0 10) (gI σ x0 19)) fun r2 σ1 =>
      bn (x1 ||| (lshl ((r2 &&& (127 : Int32)).toInt64) x3)) fun y3 =>
      bn (x3 + (7 : Int32)) fun y4 =>
      ck (tg σ1 x0 = 18) <|
      ck (tg σ1 x0 = 18) <| bn (sI σ1 x0 19 ((gI σ1 x0 19) + (1 : Int32))) fun σ5 =>
      Mdl_signedWord_p9 n σ5 x0 y3 y4 r2)
theorem V.gX17_signedWord_p9 {X : CX}  : ∀ (n : Nat) (σ : HS) (x0 : Nat) (x1 : Int64) (x3 : Int32) (x4 : Int32), G X RX17 "signedWord" cX17_signedWord 5 (some .long) 1 21 enJ 9 [(0, av x0), (1, jv x1), (3, iv x3), (4, iv x4)] [] σ (Mdl_signedWord_p9 n σ x0 x1 x3 x4)
  | 0, σ, x0, x1, x3, x4 => by rw [Mdl_signedWord_p9]; exact G.nul
  | n + 1, σ, x0, x1, x3, x4 => by
    rw [Mdl_signedWord_p9]
    refine g_iload 3 dX17_signedWord_9 rfl ?_
    refine g_bipush (v := 127) dX17_signedWord_11 (by decide) ?_
    refine g_icmp_le 56 dX17_signedWord_13 (by decide) ?_ ?_
    · refine g_iload_n 3 2 dX17_signedWord_56 rfl rfl ?_
      refine g_bipush (v := 64) dX17_signedWord_57 (by decide) ?_
      refine g_icmp_ge 80 dX17_signedWord_59 (by decide) ?_ ?_
      · refine g_lload_n 1 1 dX17_signedWord_80 rfl rfl ?_
        exact g_lreturn rfl dX17_signedWord_81
      · refine g_iload 3 dX17_signedWord_62 rfl ?_
        refine g_bipush (v := 64) dX17_signedWord_64 (by decide) ?_
        refine g_iand dX17_signedWord_66 ?_
        refine g_if_eq 80 dX17_signedWord_67 (by decide) ?_ ?_
        · refine g_lload_n 1 1 dX17_signedWord_80 rfl rfl ?_
          exact g_lreturn rfl dX17_signedWord_81
        · refine g_lload_n 1 1 dX17_signedWord_70 rfl rfl ?_
          refine g_ldc2 q3673 dX17_signedWord_71 ?_
          refine g_iload_n 3 2 dX17_signedWord_74 rfl rfl ?_
          refine g_lshl dX17_signedWord_75 ?_
          refine g_lor dX17_signedWord_76 ?_
          refine g_goto 81 dX17_signedWord_77 (by decide) ?_
          exact g_lreturn rfl dX17_signedWord_81
    · refine g_aload_n 0 0 dX17_signedWord_16 rfl rfl ?_
      refine g_getR fdX17_221 dX17_signedWord_17 ?_
      refine g_aload_n 0 0 dX17_signedWord_20 rfl rfl ?_
      refine g_getI fdX17_594 dX17_signedWord_21 ?_
      refine g_callV (fc := fun sς => Pln_at sς (gR σ x0 10) (gI σ x0 19)) (ci := 20) (as := [iv (gI σ x0 19)]) rfl rfl rfl q3609 q3610 mdX17_261 (ctX20_at (gR σ x0 10) (gI σ x0 19)) rfl (Nat.le_of_ble_eq_true rfl) (Nat.le_of_ble_eq_true rfl) (Nat.le_of_ble_eq_true rfl) pu_I dX17_signedWord_24 (fun r2 σ1 => ?_)
      refine g_istore dX17_signedWord_27 (by decide) rfl ?_
      refine g_lload_n 1 2 dX17_signedWord_29 rfl rfl ?_
      refine g_iload 0 dX17_signedWord_30 rfl ?_
      refine g_bipush (v := 127) dX17_signedWord_32 (by decide) ?_
      refine g_iand dX17_signedWord_34 ?_
      refine g_i2l dX17_signedWord_35 ?_
      refine g_iload_n 3 3 dX17_signedWord_36 rfl rfl ?_
      refine g_lshl dX17_signedWord_37 ?_
      refine g_lor dX17_signedWord_38 ?_
      refine g_nmJ (fun y3 => ?_)
      refine g_lstore_n 1 dX17_signedWord_39 rfl (by decide) rfl ?_
      refine g_iincB (w := 7) 3 dX17_signedWord_40 rfl (by decide) (by decide) (fun _ => rfl) (fun y4 => ?_)
      refine g_aload_n 0 3 dX17_signedWord_43 rfl rfl ?_
      refine g_dup dX17_signedWord_44 rfl ?_
      refine g_getI fdX17_594 dX17_signedWord_45 ?_
      refine g_iconst (v := 1) dX17_signedWord_48 (by decide) ?_
      refine g_iadd dX17_signedWord_49 ?_
      refine g_putI fpX17_594 dX17_signedWord_50 (fun σ5 => ?_)
      refine g_goto 9 dX17_signedWord_53 (by decide) ?_
      refine G.sub [3, 1, 0, 2] rfl ?_
      exact gX17_signedWord_p9 n _ _ _ _ _
def V.Mdl_signedWord (σ : HS) (x0 : Nat) : Option (Int64 × HS) :=
  Mdl_signedWord_p9 FU σ x0 (0 : Int64) (0 : Int32) (128 : Int32)
theorem V.ctX17_signedWord (x0 : Nat) : Ct yX17_signedWord  cX17_signedWord 5 (some .long) 1 21 eJ [av x0] (fun σ => Mdl_signedWord σ x0) := by
  refine Ct.of (own := RX17) (nm := "signedWord") (desc := "()J") rfl (by decide) (Nat.le_of_ble_eq_true rfl) (by decide) (fun X σ => ?_)
  show G X RX17 "signedWord" cX17_signedWord 5 (some .long) 1 21 enJ 0 [(0, av x0)] [] σ (Mdl_signedWord σ x0)
  unfold Mdl_signedWord
  refine g_lconst (v := 0) dX17_signedWord_0 (by decide) ?_
  refine g_lstore_n 1 dX17_signedWord_1 rfl (by decide) rfl ?_
  refine g_iconst (v := 0) dX17_signedWord_2 (by decide) ?_
  refine g_istore_n 3 dX17_signedWord_3 rfl (by decide) rfl ?_
  refine g_sipush (v := 128) dX17_signedWord_4 (by decide) ?_
  refine g_istore dX17_signedWord_7 (by decide) rfl ?_
  refine G.sub [3, 2, 1, 0] rfl ?_
  exact gX17_signedWord_p9 FU _ _ _ _ _
theorem V.dX17_blockWord_0 : decode cX17_blockWord 0 = .ok (.aload_n 0, 1) := by decide +kernel
theorem V.dX17_blockWord_1 : decode cX17_blockWord 1 = .ok (.getfield 221, 3) := by decide +kernel
theorem V.dX17_blockWord_4 : decode cX17_blockWord 4 = .ok (.aload_n 0, 1) := by decide +kernel
theorem V.dX17_blockWord_5 : decode cX17_blockWord 5 = .ok (.getfield 594, 3) := by decide +kernel
theorem V.dX17_blockWord_8 : decode cX17_blockWord 8 = .ok (.invokevirtual 261, 3) := by decide +kernel
theorem V.dX17_blockWord_11 : decode cX17_blockWord 11 = .ok (.istore_n 1, 1) := by decide +kernel
theorem V.dX17_blockWord_12 : decode cX17_blockWord 12 = .ok (.iload_n 1, 1) := by decide +kernel
theorem V.dX17_blockWord_13 : decode cX17_blockWord 13 = .ok (.bipush 64, 2) := by decide +kernel
theorem V.dX17_blockWord_15 : decode cX17_blockWord 15 = .ok (.if_icmp .eq 15, 3) := by decide +kernel
theorem V.dX17_blockWord_18 : decode cX17_blockWord 18 = .ok (.iload_n 1, 1) := by decide +kernel
theorem V.dX17_blockWord_19 : decode cX17_blockWord 19 = .ok (.invokestatic 274, 3) := by decide +kernel
theorem V.dX17_blockWord_22 : decode cX17_blockWord 22 = .ok (.ifCond .ne 8, 3) := by decide +kernel
theorem V.dX17_blockWord_25 : decode cX17_blockWord 25 = .ok (.aload_n 0, 1) := by decide +kernel
theorem V.dX17_blockWord_26 : decode cX17_blockWord 26 = .ok (.invokevirtual 597, 3) := by decide +kernel
theorem V.dX17_blockWord_29 : decode cX17_blockWord 29 = .ok (.lreturn, 1) := by decide +kernel
theorem V.dX17_blockWord_30 : decode cX17_blockWord 30 = .ok (.aload_n 0, 1) := by decide +kernel
theorem V.dX17_blockWord_31 : decode cX17_blockWord 31 = .ok (.dup, 1) := by decide +kernel
theorem V.dX17_blockWord_32 : decode cX17_blockWord 32 = .ok (.getfield 594, 3) := by decide +kernel
theorem V.dX17_blockWord_35 : decode cX17_blockWord 35 = .ok (.iconst 1, 1) := by decide +kernel
theorem V.dX17_blockWord_36 : decode cX17_blockWord 36 = .ok (.iadd, 1) := by decide +kernel
theorem V.dX17_blockWord_37 : decode cX17_blockWord 37 = .ok (.putfield 594, 3) := by decide +kernel
theorem V.dX17_blockWord_40 : decode cX17_blockWord 40 = .ok (.iload_n 1, 1) := by decide +kernel
theorem V.dX17_blockWord_41 : decode cX17_blockWord 41 = .ok (.ineg, 1) := by decide +kernel
theorem V.dX17_blockWord_42 : decode cX17_blockWord 42 = .ok (.i2l, 1) := by decide +kernel
theorem V.dX17_blockWord_43 : decode cX17_blockWord 43 = .ok (.lreturn, 1) := by decide +kernel
theorem V.mdX17_597 : MD RX17 597 yX17_signedWord cX17_signedWord 5 (some .long) 0 := ⟨Or.inl q3828, q377, q3831, by decide, by decide, by decide +kernel⟩
/-! ModuleEngineModel.blockWord()J -/
def V.Mdl_blockWord_p30  (σ : HS) (x0 : Nat) (x1 : Int32) : Option (Int64 × HS) :=
  ck (tg σ x0 = 18) <|
  ck (tg σ x0 = 18) <| bn (sI σ x0 19 ((gI σ x0 19) + (1 : Int32))) fun σ1 =>
  some ((-x1).toInt64, σ1)
theorem V.gX17_blockWord_p30 {X : CX}  (σ : HS) (x0 : Nat) (x1 : Int32) : G X RX17 "blockWord" cX17_blockWord 2 (some .long) 2 45 enJ 30 [(0, av x0), (1, iv x1)] [] σ (Mdl_blockWord_p30 σ x0 x1) := by
  unfold Mdl_blockWord_p30
  refine g_aload_n 0 0 dX17_blockWord_30 rfl rfl ?_
  refine g_dup dX17_blockWord_31 rfl ?_
  refine g_getI fdX17_594 dX17_blockWord_32 ?_
  refine g_iconst (v := 1) dX17_blockWord_35 (by decide) ?_
  refine g_iadd dX17_blockWord_36 ?_
  refine g_putI fpX17_594 dX17_blockWord_37 (fun σ1 => ?_)
  refine g_iload_n 1 1 dX17_blockWord_40 rfl rfl ?_
  refine g_ineg dX17_blockWord_41 ?_
  refine g_i2l dX17_blockWord_42 ?_
  exact g_lreturn rfl dX17_blockWord_43
def V.Mdl_blockWord (σ : HS) (x0 : Nat) : Option (Int64 × HS) :=
  ck (tg σ x0 = 18) <|
  ck (tg σ x0 = 18) <|
  ck (tg σ (gR σ x0 10) = 21) <| cl (Pln_at σ (gR σ x0 10) (gI σ x0 19)) fun r2 σ1 =>
  if r2 = (64 : Int32) then (
    Mdl_blockWord_p30 σ1 x0 r2)
  else (
    cl (Mdl_isType σ1 r2) fun r4 σ3 =>
    if r4 = 0 then (
      ck (tg σ3 x0 = 18) <| cl (Mdl_signedWord σ3 x0 ) fun r6 σ5 =>
      some (r6, σ5))
    else (
      Mdl_blockWord_p30 σ3 x0 r2))
theorem V.ctX17_blockWord (x0 : Nat) : Ct yX17_blockWord  cX17_blockWord 2 (some .long) 2 45 eJ [av x0] (fun σ => Mdl_blockWord σ x0) := by
  refine Ct.of (own := RX17) (nm := "blockWord") (desc := "()J") rfl (by decide) (Nat.le_of_ble_eq_true rfl) (by decide) (fun X σ => ?_)
  show G X RX17 "blockWord" cX17_blockWord 2 (some .long) 2 45 enJ 0 [(0, av x0)] [] σ (Mdl_blockWord σ x0)
  unfold Mdl_blockWord
  refine g_aload_n 0 0 dX17_blockWord_0 rfl rfl ?_
  refine g_getR fdX17_221 dX17_blockWord_1 ?_
  refine g_aload_n 0 0 dX17_blockWord_4 rfl rfl ?_
  refine g_getI fdX17_594 dX17_blockWord_5 ?_
  refine g_callV (fc := fun sς => Pln_at sς (gR σ x0 10) (gI σ x0 19)) (ci := 20) (as := [iv (gI σ x0 19)]) rfl rfl rfl q3609 q3610 mdX17_261 (ctX20_at (gR σ x0 10) (gI σ x0 19)) rfl (Nat.le_of_ble_eq_true rfl) (Nat.le_of_ble_eq_true rfl) (Nat.le_of_ble_eq_true rfl) pu_I dX17_blockWord_8 (fun r2 σ1 => ?_)
  refine g_istore_n 1 dX17_blockWord_11 rfl (by decide) rfl ?_
  refine g_iload_n 1 0 dX17_blockWord_12 rfl rfl ?_
  refine g_bipush (v := 64) dX17_blockWord_13 (by decide) ?_
  refine g_icmp_eq 30 dX17_blockWord_15 (by decide) ?_ ?_
  · refine G.sub [1, 0] rfl ?_
    exact gX17_blockWord_p30 _ _ _
  · refine g_iload_n 1 0 dX17_blockWord_18 rfl rfl ?_
    refine g_callS (fc := fun sς => Mdl_isType sς r2) (as := [iv r2]) q3660 mdX17_274 (ctX17_isType r2) rfl (Nat.le_of_ble_eq_true rfl) (Nat.le_of_ble_eq_true rfl) (Nat.le_of_ble_eq_true rfl) pu_I dX17_blockWord_19 (fun r4 σ3 => ?_)
    refine g_if_ne 30 dX17_blockWord_22 (by decide) ?_ ?_
    · refine G.sub [1, 0] rfl ?_
      exact gX17_blockWord_p30 _ _ _
    · refine g_aload_n 0 1 dX17_blockWord_25 rfl rfl ?_
      refine g_callV (fc := fun sς => Mdl_signedWord sς x0 ) (ci := 17) (as := []) rfl rfl rfl q3830 qs254 mdX17_597 (ctX17_signedWord x0 ) rfl (Nat.le_of_ble_eq_true rfl) (Nat.le_of_ble_eq_true rfl) (Nat.le_of_ble_eq_true rfl) pu_J dX17_blockWord_26 (fun r6 σ5 => ?_)
      exact g_lreturn rfl dX17_blockWord_29
theorem V.dX17_passesFurther_0 : decode cX17_passesFurther 0 = .ok (.aload_n 0, 1) := by decide +kernel
theorem V.dX17_passesFurther_1 : decode cX17_passesFurther 1 = .ok (.invokevirtual 603, 3) := by decide +kernel
theorem V.dX17_passesFurther_4 : decode cX17_passesFurther 4 = .ok (.lstore_n 1, 1) := by decide +kernel
theorem V.dX17_passesFurther_5 : decode cX17_passesFurther 5 = .ok (.lload_n 1, 1) := by decide +kernel
theorem V.dX17_passesFurther_6 : decode cX17_passesFurther 6 = .ok (.ldc2_w 588, 3) := by decide +kernel
theorem V.dX17_passesFurther_9 : decode cX17_passesFurther 9 = .ok (.lcmp, 1) := by decide +kernel
theorem V.dX17_passesFurther_10 : decode cX17_passesFurther 10 = .ok (.ifCond .eq 11, 3) := by decide +kernel
theorem V.dX17_passesFurther_13 : decode cX17_passesFurther 13 = .ok (.lload_n 1, 1) := by decide +kernel
theorem V.dX17_passesFurther_14 : decode cX17_passesFurther 14 = .ok (.ldc2_w 590, 3) := by decide +kernel
theorem V.dX17_passesFurther_17 : decode cX17_passesFurther 17 = .ok (.lcmp, 1) := by decide +kernel
theorem V.dX17_passesFurther_18 : decode cX17_passesFurther 18 = .ok (.ifCond .ne 8, 3) := by decide +kernel
theorem V.dX17_passesFurther_21 : decode cX17_passesFurther 21 = .ok (.aload_n 0, 1) := by decide +kernel
theorem V.dX17_passesFurther_22 : decode cX17_passesFurther 22 = .ok (.invokevirtual 603, 3) := by decide +kernel
theorem V.dX17_passesFurther_25 : decode cX17_passesFurther 25 = .ok (.lstore_n 3, 1) := by decide +kernel
theorem V.dX17_passesFurther_26 : decode cX17_passesFurther 26 = .ok (.lload_n 1, 1) := by decide +kernel
theorem V.dX17_passesFurther_27 : decode cX17_passesFurther 27 = .ok (.ldc2_w 582, 3) := by decide +kernel
theorem V.dX17_passesFurther_30 : decode cX17_passesFurther 30 = .ok (.lcmp, 1) := by decide +kernel
theorem V.dX17_passesFurther_31 : decode cX17_passesFurther 31 = .ok (.ifCond .eq 19, 3) := by decide +kernel
theorem V.dX17_passesFurther_34 : decode cX17_passesFurther 34 = .ok (.lload_n 1, 1) := by decide +kernel
theorem V.dX17_passesFurther_35 : decode cX17_passesFurther 35 = .ok (.ldc2_w 584, 3) := by decide +kernel
theorem V.dX17_passesFurther_38 : decode cX17_passesFurther 38 = .ok (.lcmp, 1) := by decide +kernel
theorem V.dX17_passesFurther_39 : decode cX17_passesFurther 39 = .ok (.ifCond .eq 11, 3) := by decide +kernel
theorem V.dX17_passesFurther_42 : decode cX17_passesFurther 42 = .ok (.lload_n 1, 1) := by decide +kernel
theorem V.dX17_passesFurther_43 : decode cX17_passesFurther 43 = .ok (.ldc2_w 592, 3) := by decide +kernel
theorem V.dX17_passesFurther_46 : decode cX17_passesFurther 46 = .ok (.lcmp, 1) := by decide +kernel
theorem V.dX17_passesFurther_47 : decode cX17_passesFurther 47 = .ok (.ifCond .le 8, 3) := by decide +kernel
theorem V.dX17_passesFurther_50 : decode cX17_passesFurther 50 = .ok (.aload_n 0, 1) := by decide +kernel
theorem V.dX17_passesFurther_51 : decode cX17_passesFurther 51 = .ok (.invokevirtual 603, 3) := by decide +kernel
theorem V.dX17_passesFurther_54 : decode cX17_passesFurther 54 = .ok (.lstore_n 3, 1) := by decide +kernel
theorem V.dX17_passesFurther_55 : decode cX17_passesFurther 55 = .ok (.aload_n 0, 1) := by decide +kernel
theorem V.dX17_passesFurther_56 : decode cX17_passesFurther 56 = .ok (.dup, 1) := by decide +kernel
theorem V.dX17_passesFurther_57 : decode cX17_passesFurther 57 = .ok (.getfield 594, 3) := by decide +kernel
theorem V.dX17_passesFurther_60 : decode cX17_passesFurther 60 = .ok (.lload_n 1, 1) := by decide +kernel
theorem V.dX17_passesFurther_61 : decode cX17_passesFurther 61 = .ok (.ldc2_w 586, 3) := by decide +kernel
theorem V.dX17_passesFurther_64 : decode cX17_passesFurther 64 = .ok (.lcmp, 1) := by decide +kernel
theorem V.dX17_passesFurther_65 : decode cX17_passesFurther 65 = .ok (.ifCond .ne 7, 3) := by decide +kernel
theorem V.dX17_passesFurther_68 : decode cX17_passesFurther 68 = .ok (.iconst 2, 1) := by decide +kernel
theorem V.dX17_passesFurther_69 : decode cX17_passesFurther 69 = .ok (.goto 24, 3) := by decide +kernel
theorem V.dX17_passesFurther_72 : decode cX17_passesFurther 72 = .ok (.lload_n 1, 1) := by decide +kernel
theorem V.dX17_passesFurther_73 : decode cX17_passesFurther 73 = .ok (.ldc2_w 582, 3) := by decide +kernel
theorem V.dX17_passesFurther_76 : decode cX17_passesFurther 76 = .ok (.lcmp, 1) := by decide +kernel
theorem V.dX17_passesFurther_77 : decode cX17_passesFurther 77 = .ok (.ifCond .eq 11, 3) := by decide +kernel
theorem V.dX17_passesFurther_80 : decode cX17_passesFurther 80 = .ok (.lload_n 1, 1) := by decide +kernel
theorem V.dX17_passesFurther_81 : decode cX17_passesFurther 81 = .ok (.ldc2_w 592, 3) := by decide +kernel
theorem V.dX17_passesFurther_84 : decode cX17_passesFurther 84 = .ok (.lcmp, 1) := by decide +kernel
theorem V.dX17_passesFurther_85 : decode cX17_passesFurther 85 = .ok (.ifCond .ne 7, 3) := by decide +kernel
theorem V.dX17_passesFurther_88 : decode cX17_passesFurther 88 = .ok (.iconst 1, 1) := by decide +kernel
theorem V.dX17_passesFurther_89 : decode cX17_passesFurther 89 = .ok (.goto 4, 3) := by decide +kernel
theorem V.dX17_passesFurther_92 : decode cX17_passesFurther 92 = .ok (.iconst 0, 1) := by decide +kernel
theorem V.dX17_passesFurther_93 : decode cX17_passesFurther 93 = .ok (.iadd, 1) := by decide +kernel
theorem V.dX17_passesFurther_94 : decode cX17_passesFurther 94 = .ok (.putfield 594, 3) := by decide +kernel
theorem V.dX17_passesFurther_97 : decode cX17_passesFurther 97 = .ok (.return_, 1) := by decide +kernel
theorem V.mdX17_603 : MD RX17 603 yX17_word cX17_word 5 (some .long) 0 := ⟨Or.inl q3811, q377, q3814, by decide, by decide, by decide +kernel⟩
/-! ModuleEngineModel.passesFurther()V -/
def V.Mdl_passesFurther_p93  (σ : HS) (s0 : Int32) (s1 : Int32) (s2 : Nat) : Option (Unit × HS) :=
  ck (tg σ s2 = 18) <| bn (sI σ s2 19 (s1 + s0)) fun σ1 =>
  some ((), σ1)
theorem V.gX17_passesFurther_p93 {X : CX}  (σ : HS) (s0 : Int32) (s1 : Int32) (s2 : Nat) : G X RX17 "passesFurther" cX17_passesFurther 5 none 2 45 enV 93 [] [iv s0, iv s1, av s2] σ (Mdl_passesFurther_p93 σ s0 s1 s2) := by
  unfold Mdl_passesFurther_p93
  refine g_iadd dX17_passesFurther_93 ?_
  refine g_putI fpX17_594 dX17_passesFurther_94 (fun σ1 => ?_)
  exact g_return rfl dX17_passesFurther_97
def V.Mdl_passesFurther_p88  (σ : HS) (s0 : Int32) (s1 : Nat) : Option (Unit × HS) :=
  Mdl_passesFurther_p93 σ (1 : Int32) s0 s1
theorem V.gX17_passesFurther_p88 {X : CX}  (σ : HS) (s0 : Int32) (s1 : Nat) : G X RX17 "passesFurther" cX17_passesFurther 5 none 2 45 enV 88 [] [iv s0, av s1] σ (Mdl_passesFurther_p88 σ s0 s1) := by
  unfold Mdl_passesFurther_p88
  refine g_iconst (v := 1) dX17_passesFurther_88 (by decide) ?_
  refine g_goto 93 dX17_passesFurther_89 (by decide) ?_
  exact gX17_passesFurther_p93 _ _ _ _
def V.Mdl_passesFurther_p55  (σ : HS) (x0 : Nat) (x1 : Int64) : Option (Unit × HS) :=
  ck (tg σ x0 = 18) <|
  if x1 = (10 : Int64) then (
    Mdl_passesFurther_p93 σ (2 : Int32) (gI σ x0 19) x0)
  else (
    if x1 = (8 : Int64) then (
      Mdl_passesFurther_p88 σ (gI σ x0 19) x0)
    else (
      if x1 = (11 : Int64) then (
        Mdl_passesFurther_p88 σ (gI σ x0 19) x0)
      else (
        Mdl_passesFurther_p93 σ (0 : Int32) (gI σ x0 19) x0)))
theorem V.gX17_passesFurther_p55 {X : CX}  (σ : HS) (x0 : Nat) (x1 : Int64) : G X RX17 "passesFurther" cX17_passesFurther 5 none 2 45 enV 55 [(0, av x0), (1, jv x1)] [] σ (Mdl_passesFurther_p55 σ x0 x1) := by
  unfold Mdl_passesFurther_p55
  refine g_aload_n 0 0 dX17_passesFurther_55 rfl rfl ?_
  refine g_dup dX17_passesFurther_56 rfl ?_
  refine g_getI fdX17_594 dX17_passesFurther_57 ?_
  refine g_lload_n 1 1 dX17_passesFurther_60 rfl rfl ?_
  refine g_ldc2 q3731 dX17_passesFurther_61 ?_
  refine g_lcmp_ne 72 dX17_passesFurther_64 dX17_passesFurther_65 (by decide) ?_ ?_
  · refine g_lload_n 1 1 dX17_passesFurther_72 rfl rfl ?_
    refine g_ldc2 q3729 dX17_passesFurther_73 ?_
    refine g_lcmp_eq 88 dX17_passesFurther_76 dX17_passesFurther_77 (by decide) ?_ ?_
    · refine G.sub [] rfl ?_
      exact gX17_passesFurther_p88 _ _ _
    · refine g_lload_n 1 1 dX17_passesFurther_80 rfl rfl ?_
      refine g_ldc2 q3734 dX17_passesFurther_81 ?_
      refine g_lcmp_ne 92 dX17_passesFurther_84 dX17_passesFurther_85 (by decide) ?_ ?_
      · refine g_iconst (v := 0) dX17_passesFurther_92 (by decide) ?_
        refine G.sub [] rfl ?_
        exact gX17_passesFurther_p93 _ _ _ _
      · refine G.sub [] rfl ?_
        exact gX17_passesFurther_p88 _ _ _
  · refine g_iconst (v := 2) dX17_passesFurther_68 (by decide) ?_
    refine g_goto 93 dX17_passesFurther_69 (by decide) ?_
    refine G.sub [] rfl ?_
    exact gX17_passesFurther_p93 _ _ _ _
def V.Mdl_passesFurther_p50  (σ : HS) (x0 : Nat) (x1 : Int64) : Option (Unit × HS) :=
  ck (tg σ x0 = 18) <| cl (Mdl_word σ x0 ) fun r2 σ1 =>
  Mdl_passesFurther_p55 σ1 x0 x1
theorem V.gX17_passesFurther_p50 {X : CX}  (σ : HS) (x0 : Nat) (x1 : Int64) : G X RX17 "passesFurther" cX17_passesFurther 5 none 2 45 enV 50 [(0, av x0), (1, jv x1)] [] σ (Mdl_passesFurther_p50 σ x0 x1) := by
  unfold Mdl_passesFurther_p50
  refine g_aload_n 0 0 dX17_passesFurther_50 rfl rfl ?_
  refine g_callV (fc := fun sς => Mdl_word sς x0 ) (ci := 17) (as := []) rfl rfl rfl q3813 qs250 mdX17_603 (ctX17_word x0 ) rfl (Nat.le_of_ble_eq_true rfl) (Nat.le_of_ble_eq_true rfl) (Nat.le_of_ble_eq_true rfl) pu_J dX17_passesFurther_51 (fun r2 σ1 => ?_)
  refine g_lstore_n 3 dX17_passesFurther_54 rfl (by decide) rfl ?_
  refine G.sub [1, 2] rfl ?_
  exact gX17_passesFurther_p55 _ _ _
def V.Mdl_passesFurther_p26  (σ : HS) (x0 : Nat) (x1 : Int64) : Option (Unit × HS) :=
  if x1 = (8 : Int64) then (
    Mdl_passesFurther_p50 σ x0 x1)
  else (
    if x1 = (9 : Int64) then (
      Mdl_passesFurther_p50 σ x0 x1)
    else (
      if x1 ≤ (11 : Int64) then (
        Mdl_passesFurther_p55 σ x0 x1)
      else (
        Mdl_passesFurther_p50 σ x0 x1)))
theorem V.gX17_passesFurther_p26 {X : CX}  (σ : HS) (x0 : Nat) (x1 : Int64) : G X RX17 "passesFurther" cX17_passesFurther 5 none 2 45 enV 26 [(0, av x0), (1, jv x1)] [] σ (Mdl_passesFurther_p26 σ x0 x1) := by
  unfold Mdl_passesFurther_p26
  refine g_lload_n 1 1 dX17_passesFurther_26 rfl rfl ?_
  refine g_ldc2 q3729 dX17_passesFurther_27 ?_
  refine g_lcmp_eq 50 dX17_passesFurther_30 dX17_passesFurther_31 (by decide) ?_ ?_
  · exact gX17_passesFurther_p50 _ _ _
  · refine g_lload_n 1 1 dX17_passesFurther_34 rfl rfl ?_
    refine g_ldc2 q3730 dX17_passesFurther_35 ?_
    refine g_lcmp_eq 50 dX17_passesFurther_38 dX17_passesFurther_39 (by decide) ?_ ?_
    · exact gX17_passesFurther_p50 _ _ _
    · refine g_lload_n 1 1 dX17_passesFurther_42 rfl rfl ?_
      refine g_ldc2 q3734 dX17_passesFurther_43 ?_
      refine g_lcmp_le 55 dX17_passesFurther_46 dX17_passesFurther_47 (by decide) ?_ ?_
      · exact gX17_passesFurther_p55 _ _ _
      · exact gX17_passesFurther_p50 _ _ _
def V.Mdl_passesFurther_p21  (σ : HS) (x0 : Nat) (x1 : Int64) : Option (Unit × HS) :=
  ck (tg σ x0 = 18) <| cl (Mdl_word σ x0 ) fun r2 σ1 =>
  Mdl_passesFurther_p26 σ1 x0 x1
theorem V.gX17_passesFurther_p21 {X : CX}  (σ : HS) (x0 : Nat) (x1 : Int64) : G X RX17 "passesFurther" cX17_passesFurther 5 none 2 45 enV 21 [(0, av x0), (1, jv x1)] [] σ (Mdl_passesFurther_p21 σ x0 x1) := by
  unfold Mdl_passesFurther_p21
  refine g_aload_n 0 0 dX17_passesFurther_21 rfl rfl ?_
  refine g_callV (fc := fun sς => Mdl_word sς x0 ) (ci := 17) (as := []) rfl rfl rfl q3813 qs250 mdX17_603 (ctX17_word x0 ) rfl (Nat.le_of_ble_eq_true rfl) (Nat.le_of_ble_eq_true rfl) (Nat.le_of_ble_eq_true rfl) pu_J dX17_passesFurther_22 (fun r2 σ1 => ?_)
  refine g_lstore_n 3 dX17_passesFurther_25 rfl (by decide) rfl ?_
  refine G.sub [1, 2] rfl ?_
  exact gX17_passesFurther_p26 _ _ _
def V.Mdl_passesFurther (σ : HS) (x0 : Nat) : Option (Unit × HS) :=
  ck (tg σ x0 = 18) <| cl (Mdl_word σ x0 ) fun r2 σ1 =>
  if r2 = (12 : Int64) then (
    Mdl_passesFurther_p21 σ1 x0 r2)
  else (
    if r2 = (14 : Int64) then (
      Mdl_passesFurther_p21 σ1 x0 r2)
    else (
      Mdl_passesFurther_p26 σ1 x0 r2))
theorem V.ctX17_passesFurther (x0 : Nat) : Ct yX17_passesFurther  cX17_passesFurther 5 none 2 45 eV [av x0] (fun σ => Mdl_passesFurther σ x0) := by
  refine Ct.of (own := RX17) (nm := "passesFurther") (desc := "()V") rfl (by decide) (Nat.le_of_ble_eq_true rfl) (by decide) (fun X σ => ?_)
  show G X RX17 "passesFurther" cX17_passesFurther 5 none 2 45 enV 0 [(0, av x0)] [] σ (Mdl_passesFurther σ x0)
  unfold Mdl_passesFurther
  refine g_aload_n 0 0 dX17_passesFurther_0 rfl rfl ?_
  refine g_callV (fc := fun sς => Mdl_word sς x0 ) (ci := 17) (as := []) rfl rfl rfl q3813 qs250 mdX17_603 (ctX17_word x0 ) rfl (Nat.le_of_ble_eq_true rfl) (Nat.le_of_ble_eq_true rfl) (Nat.le_of_ble_eq_true rfl) pu_J dX17_passesFurther_1 (fun r2 σ1 => ?_)
  refine g_lstore_n 1 dX17_passesFurther_4 rfl (by decide) rfl ?_
  refine g_lload_n 1 0 dX17_passesFurther_5 rfl rfl ?_
  refine g_ldc2 q3732 dX17_passesFurther_6 ?_
  refine g_lcmp_eq 21 dX17_passesFurther_9 dX17_passesFurther_10 (by decide) ?_ ?_
  · refine G.sub [1, 0] rfl ?_
    exact gX17_passesFurther_p21 _ _ _
  · refine g_lload_n 1 0 dX17_passesFurther_13 rfl rfl ?_
    refine g_ldc2 q3733 dX17_passesFurther_14 ?_
    refine g_lcmp_ne 26 dX17_passesFurther_17 dX17_passesFurther_18 (by decide) ?_ ?_
    · refine G.sub [1, 0] rfl ?_
      exact gX17_passesFurther_p26 _ _ _
    · refine G.sub [1, 0] rfl ?_
      exact gX17_passesFurther_p21 _ _ _
theorem V.dX17_behind_0 : decode cX17_behind 0 = .ok (.aload_n 0, 1) := by decide +kernel
theorem V.dX17_behind_1 : decode cX17_behind 1 = .ok (.getfield 221, 3) := by decide +kernel
theorem V.dX17_behind_4 : decode cX17_behind 4 = .ok (.iload_n 1, 1) := by decide +kernel
theorem V.dX17_behind_5 : decode cX17_behind 5 = .ok (.invokevirtual 261, 3) := by decide +kernel
theorem V.dX17_behind_8 : decode cX17_behind 8 = .ok (.istore_n 2, 1) := by decide +kernel
theorem V.dX17_behind_9 : decode cX17_behind 9 = .ok (.aload_n 0, 1) := by decide +kernel
theorem V.dX17_behind_10 : decode cX17_behind 10 = .ok (.iload_n 1, 1) := by decide +kernel
theorem V.dX17_behind_11 : decode cX17_behind 11 = .ok (.iconst 1, 1) := by decide +kernel
theorem V.dX17_behind_12 : decode cX17_behind 12 = .ok (.iadd, 1) := by decide +kernel
theorem V.dX17_behind_13 : decode cX17_behind 13 = .ok (.putfield 594, 3) := by decide +kernel
theorem V.dX17_behind_16 : decode cX17_behind 16 = .ok (.iload_n 2, 1) := by decide +kernel
theorem V.dX17_behind_17 : decode cX17_behind 17 = .ok (.iconst 2, 1) := by decide +kernel
theorem V.dX17_behind_18 : decode cX17_behind 18 = .ok (.if_icmp .lt 16, 3) := by decide +kernel
theorem V.dX17_behind_21 : decode cX17_behind 21 = .ok (.iload_n 2, 1) := by decide +kernel
theorem V.dX17_behind_22 : decode cX17_behind 22 = .ok (.iconst 4, 1) := by decide +kernel
theorem V.dX17_behind_23 : decode cX17_behind 23 = .ok (.if_icmp .gt 11, 3) := by decide +kernel
theorem V.dX17_behind_26 : decode cX17_behind 26 = .ok (.aload_n 0, 1) := by decide +kernel
theorem V.dX17_behind_27 : decode cX17_behind 27 = .ok (.invokevirtual 600, 3) := by decide +kernel
theorem V.dX17_behind_30 : decode cX17_behind 30 = .ok (.lstore_n 3, 1) := by decide +kernel
theorem V.dX17_behind_31 : decode cX17_behind 31 = .ok (.goto 208, 3) := by decide +kernel
theorem V.dX17_behind_34 : decode cX17_behind 34 = .ok (.iload_n 2, 1) := by decide +kernel
theorem V.dX17_behind_35 : decode cX17_behind 35 = .ok (.invokestatic 569, 3) := by decide +kernel
theorem V.dX17_behind_38 : decode cX17_behind 38 = .ok (.ifCond .eq 11, 3) := by decide +kernel
theorem V.dX17_behind_41 : decode cX17_behind 41 = .ok (.aload_n 0, 1) := by decide +kernel
theorem V.dX17_behind_42 : decode cX17_behind 42 = .ok (.invokevirtual 603, 3) := by decide +kernel
theorem V.dX17_behind_45 : decode cX17_behind 45 = .ok (.lstore_n 3, 1) := by decide +kernel
theorem V.dX17_behind_46 : decode cX17_behind 46 = .ok (.goto 193, 3) := by decide +kernel
theorem V.dX17_behind_49 : decode cX17_behind 49 = .ok (.iload_n 2, 1) := by decide +kernel
theorem V.dX17_behind_50 : decode cX17_behind 50 = .ok (.invokestatic 572, 3) := by decide +kernel
theorem V.dX17_behind_53 : decode cX17_behind 53 = .ok (.ifCond .ne 9, 3) := by decide +kernel
theorem V.dX17_behind_56 : decode cX17_behind 56 = .ok (.iload_n 2, 1) := by decide +kernel
theorem V.dX17_behind_57 : decode cX17_behind 57 = .ok (.bipush 17, 2) := by decide +kernel
theorem V.dX17_behind_59 : decode cX17_behind 59 = .ok (.if_icmp .ne 17, 3) := by decide +kernel
theorem V.dX17_behind_62 : decode cX17_behind 62 = .ok (.aload_n 0, 1) := by decide +kernel
theorem V.dX17_behind_63 : decode cX17_behind 63 = .ok (.invokevirtual 603, 3) := by decide +kernel
theorem V.dX17_behind_66 : decode cX17_behind 66 = .ok (.lstore_n 3, 1) := by decide +kernel
theorem V.dX17_behind_67 : decode cX17_behind 67 = .ok (.aload_n 0, 1) := by decide +kernel
theorem V.dX17_behind_68 : decode cX17_behind 68 = .ok (.invokevirtual 603, 3) := by decide +kernel
theorem V.dX17_behind_71 : decode cX17_behind 71 = .ok (.lstore 5, 2) := by decide +kernel
theorem V.dX17_behind_73 : decode cX17_behind 73 = .ok (.goto 166, 3) := by decide +kernel
theorem V.dX17_behind_76 : decode cX17_behind 76 = .ok (.iload_n 2, 1) := by decide +kernel
theorem V.dX17_behind_77 : decode cX17_behind 77 = .ok (.bipush 14, 2) := by decide +kernel
theorem V.dX17_behind_79 : decode cX17_behind 79 = .ok (.if_icmp .ne 36, 3) := by decide +kernel
theorem V.dX17_behind_82 : decode cX17_behind 82 = .ok (.aload_n 0, 1) := by decide +kernel
theorem V.dX17_behind_83 : decode cX17_behind 83 = .ok (.invokevirtual 603, 3) := by decide +kernel
theorem V.dX17_behind_86 : decode cX17_behind 86 = .ok (.lstore_n 3, 1) := by decide +kernel
theorem V.dX17_behind_87 : decode cX17_behind 87 = .ok (.lconst 0, 1) := by decide +kernel
theorem V.dX17_behind_88 : decode cX17_behind 88 = .ok (.lstore 5, 2) := by decide +kernel
theorem V.dX17_behind_90 : decode cX17_behind 90 = .ok (.lload 5, 2) := by decide +kernel
theorem V.dX17_behind_92 : decode cX17_behind 92 = .ok (.lload_n 3, 1) := by decide +kernel
theorem V.dX17_behind_93 : decode cX17_behind 93 = .ok (.lcmp, 1) := by decide +kernel
theorem V.dX17_behind_94 : decode cX17_behind 94 = .ok (.ifCond .gt 18, 3) := by decide +kernel
theorem V.dX17_behind_97 : decode cX17_behind 97 = .ok (.aload_n 0, 1) := by decide +kernel
theorem V.dX17_behind_98 : decode cX17_behind 98 = .ok (.invokevirtual 603, 3) := by decide +kernel
theorem V.dX17_behind_101 : decode cX17_behind 101 = .ok (.lstore 7, 2) := by decide +kernel
theorem V.dX17_behind_103 : decode cX17_behind 103 = .ok (.lload 5, 2) := by decide +kernel
theorem V.dX17_behind_105 : decode cX17_behind 105 = .ok (.lconst 1, 1) := by decide +kernel
theorem V.dX17_behind_106 : decode cX17_behind 106 = .ok (.ladd, 1) := by decide +kernel
theorem V.dX17_behind_107 : decode cX17_behind 107 = .ok (.lstore 5, 2) := by decide +kernel
theorem V.dX17_behind_109 : decode cX17_behind 109 = .ok (.goto (-19), 3) := by decide +kernel
theorem V.dX17_behind_112 : decode cX17_behind 112 = .ok (.goto 127, 3) := by decide +kernel
theorem V.dX17_behind_115 : decode cX17_behind 115 = .ok (.iload_n 2, 1) := by decide +kernel
theorem V.dX17_behind_116 : decode cX17_behind 116 = .ok (.bipush 28, 2) := by decide +kernel
theorem V.dX17_behind_118 : decode cX17_behind 118 = .ok (.if_icmp .ne 22, 3) := by decide +kernel
theorem V.dX17_behind_121 : decode cX17_behind 121 = .ok (.aload_n 0, 1) := by decide +kernel
theorem V.dX17_behind_122 : decode cX17_behind 122 = .ok (.invokevirtual 603, 3) := by decide +kernel
theorem V.dX17_behind_125 : decode cX17_behind 125 = .ok (.lstore_n 3, 1) := by decide +kernel
theorem V.dX17_behind_126 : decode cX17_behind 126 = .ok (.aload_n 0, 1) := by decide +kernel
theorem V.dX17_behind_127 : decode cX17_behind 127 = .ok (.dup, 1) := by decide +kernel
theorem V.dX17_behind_128 : decode cX17_behind 128 = .ok (.getfield 594, 3) := by decide +kernel
theorem V.dX17_behind_131 : decode cX17_behind 131 = .ok (.lload_n 3, 1) := by decide +kernel
theorem V.dX17_behind_132 : decode cX17_behind 132 = .ok (.l2i, 1) := by decide +kernel
theorem V.dX17_behind_133 : decode cX17_behind 133 = .ok (.iadd, 1) := by decide +kernel
theorem V.dX17_behind_134 : decode cX17_behind 134 = .ok (.putfield 594, 3) := by decide +kernel
theorem V.dX17_behind_137 : decode cX17_behind 137 = .ok (.goto 102, 3) := by decide +kernel
theorem V.dX17_behind_140 : decode cX17_behind 140 = .ok (.iload_n 2, 1) := by decide +kernel
theorem V.dX17_behind_141 : decode cX17_behind 141 = .ok (.bipush 63, 2) := by decide +kernel
theorem V.dX17_behind_143 : decode cX17_behind 143 = .ok (.if_icmp .eq 16, 3) := by decide +kernel
theorem V.dX17_behind_146 : decode cX17_behind 146 = .ok (.iload_n 2, 1) := by decide +kernel
theorem V.dX17_behind_147 : decode cX17_behind 147 = .ok (.bipush 64, 2) := by decide +kernel
theorem V.dX17_behind_149 : decode cX17_behind 149 = .ok (.if_icmp .eq 10, 3) := by decide +kernel
theorem V.dX17_behind_152 : decode cX17_behind 152 = .ok (.iload_n 2, 1) := by decide +kernel
theorem V.dX17_behind_153 : decode cX17_behind 153 = .ok (.sipush 208, 3) := by decide +kernel
theorem V.dX17_behind_156 : decode cX17_behind 156 = .ok (.if_icmp .ne 16, 3) := by decide +kernel
theorem V.dX17_behind_159 : decode cX17_behind 159 = .ok (.aload_n 0, 1) := by decide +kernel
theorem V.dX17_behind_160 : decode cX17_behind 160 = .ok (.dup, 1) := by decide +kernel
theorem V.dX17_behind_161 : decode cX17_behind 161 = .ok (.getfield 594, 3) := by decide +kernel
theorem V.dX17_behind_164 : decode cX17_behind 164 = .ok (.iconst 1, 1) := by decide +kernel
theorem V.dX17_behind_165 : decode cX17_behind 165 = .ok (.iadd, 1) := by decide +kernel
theorem V.dX17_behind_166 : decode cX17_behind 166 = .ok (.putfield 594, 3) := by decide +kernel
theorem V.dX17_behind_169 : decode cX17_behind 169 = .ok (.goto 70, 3) := by decide +kernel
theorem V.dX17_behind_172 : decode cX17_behind 172 = .ok (.iload_n 2, 1) := by decide +kernel
theorem V.dX17_behind_173 : decode cX17_behind 173 = .ok (.bipush 65, 2) := by decide +kernel
theorem V.dX17_behind_175 : decode cX17_behind 175 = .ok (.if_icmp .eq 9, 3) := by decide +kernel
theorem V.dX17_behind_178 : decode cX17_behind 178 = .ok (.iload_n 2, 1) := by decide +kernel
theorem V.dX17_behind_179 : decode cX17_behind 179 = .ok (.bipush 66, 2) := by decide +kernel
theorem V.dX17_behind_181 : decode cX17_behind 181 = .ok (.if_icmp .ne 11, 3) := by decide +kernel
theorem V.dX17_behind_184 : decode cX17_behind 184 = .ok (.aload_n 0, 1) := by decide +kernel
theorem V.dX17_behind_185 : decode cX17_behind 185 = .ok (.invokevirtual 597, 3) := by decide +kernel
theorem V.dX17_behind_188 : decode cX17_behind 188 = .ok (.lstore_n 3, 1) := by decide +kernel
theorem V.dX17_behind_189 : decode cX17_behind 189 = .ok (.goto 50, 3) := by decide +kernel
theorem V.dX17_behind_192 : decode cX17_behind 192 = .ok (.iload_n 2, 1) := by decide +kernel
theorem V.dX17_behind_193 : decode cX17_behind 193 = .ok (.bipush 67, 2) := by decide +kernel
theorem V.dX17_behind_195 : decode cX17_behind 195 = .ok (.if_icmp .eq 9, 3) := by decide +kernel
theorem V.dX17_behind_198 : decode cX17_behind 198 = .ok (.iload_n 2, 1) := by decide +kernel
theorem V.dX17_behind_199 : decode cX17_behind 199 = .ok (.bipush 68, 2) := by decide +kernel
theorem V.dX17_behind_201 : decode cX17_behind 201 = .ok (.if_icmp .ne 27, 3) := by decide +kernel
theorem V.dX17_behind_204 : decode cX17_behind 204 = .ok (.aload_n 0, 1) := by decide +kernel
theorem V.dX17_behind_205 : decode cX17_behind 205 = .ok (.dup, 1) := by decide +kernel
theorem V.dX17_behind_206 : decode cX17_behind 206 = .ok (.getfield 594, 3) := by decide +kernel
theorem V.dX17_behind_209 : decode cX17_behind 209 = .ok (.iload_n 2, 1) := by decide +kernel
theorem V.dX17_behind_210 : decode cX17_behind 210 = .ok (.bipush 67, 2) := by decide +kernel
theorem V.dX17_behind_212 : decode cX17_behind 212 = .ok (.if_icmp .ne 7, 3) := by decide +kernel
theorem V.dX17_behind_215 : decode cX17_behind 215 = .ok (.iconst 4, 1) := by decide +kernel
theorem V.dX17_behind_216 : decode cX17_behind 216 = .ok (.goto 5, 3) := by decide +kernel
theorem V.dX17_behind_219 : decode cX17_behind 219 = .ok (.bipush 8, 2) := by decide +kernel
theorem V.dX17_behind_221 : decode cX17_behind 221 = .ok (.iadd, 1) := by decide +kernel
theorem V.dX17_behind_222 : decode cX17_behind 222 = .ok (.putfield 594, 3) := by decide +kernel
theorem V.dX17_behind_225 : decode cX17_behind 225 = .ok (.goto 14, 3) := by decide +kernel
theorem V.dX17_behind_228 : decode cX17_behind 228 = .ok (.iload_n 2, 1) := by decide +kernel
theorem V.dX17_behind_229 : decode cX17_behind 229 = .ok (.sipush 252, 3) := by decide +kernel
theorem V.dX17_behind_232 : decode cX17_behind 232 = .ok (.if_icmp .ne 7, 3) := by decide +kernel
theorem V.dX17_behind_235 : decode cX17_behind 235 = .ok (.aload_n 0, 1) := by decide +kernel
theorem V.dX17_behind_236 : decode cX17_behind 236 = .ok (.invokevirtual 606, 3) := by decide +kernel
theorem V.dX17_behind_239 : decode cX17_behind 239 = .ok (.aload_n 0, 1) := by decide +kernel
theorem V.dX17_behind_240 : decode cX17_behind 240 = .ok (.getfield 594, 3) := by decide +kernel
theorem V.dX17_behind_243 : decode cX17_behind 243 = .ok (.ireturn, 1) := by decide +kernel
theorem V.mdX17_600 : MD RX17 600 yX17_blockWord cX17_blockWord 2 (some .long) 0 := ⟨Or.inl q3824, q377, q3827, by decide, by decide, by decide +kernel⟩
theorem V.mdX17_606 : MD RX17 606 yX17_passesFurther cX17_passesFurther 5 none 0 := ⟨Or.inl q3832, q377, q3835, by decide, by decide, by decide +kernel⟩
/-! ModuleEngineModel.behind(I)I -/
def V.Mdl_behind_p239  (σ : HS) (x0 : Nat) : Option (Int32 × HS) :=
  ck (tg σ x0 = 18) <|
  some (gI σ x0 19, σ)
theorem V.gX17_behind_p239 {X : CX}  (σ : HS) (x0 : Nat) : G X RX17 "behind" cX17_behind 9 (some .int) 3 69 enI 239 [(0, av x0)] [] σ (Mdl_behind_p239 σ x0) := by
  unfold Mdl_behind_p239
  refine g_aload_n 0 0 dX17_behind_239 rfl rfl ?_
  refine g_getI fdX17_594 dX17_behind_240 ?_
  exact g_ireturn rfl dX17_behind_243
def V.Mdl_behind_p62  (σ : HS) (x0 : Nat) : Option (Int32 × HS) :=
  ck (tg σ x0 = 18) <| cl (Mdl_word σ x0 ) fun r2 σ1 =>
  ck (tg σ1 x0 = 18) <| cl (Mdl_word σ1 x0 ) fun r4 σ3 =>
  Mdl_behind_p239 σ3 x0
theorem V.gX17_behind_p62 {X : CX}  (σ : HS) (x0 : Nat) : G X RX17 "behind" cX17_behind 9 (some .int) 3 69 enI 62 [(0, av x0)] [] σ (Mdl_behind_p62 σ x0) := by
  unfold Mdl_behind_p62
  refine g_aload_n 0 0 dX17_behind_62 rfl rfl ?_
  refine g_callV (fc := fun sς => Mdl_word sς x0 ) (ci := 17) (as := []) rfl rfl rfl q3813 qs250 mdX17_603 (ctX17_word x0 ) rfl (Nat.le_of_ble_eq_true rfl) (Nat.le_of_ble_eq_true rfl) (Nat.le_of_ble_eq_true rfl) pu_J dX17_behind_63 (fun r2 σ1 => ?_)
  refine g_lstore_n 3 dX17_behind_66 rfl (by decide) rfl ?_
  refine g_aload_n 0 1 dX17_behind_67 rfl rfl ?_
  refine g_callV (fc := fun sς => Mdl_word sς x0 ) (ci := 17) (as := []) rfl rfl rfl q3813 qs250 mdX17_603 (ctX17_word x0 ) rfl (Nat.le_of_ble_eq_true rfl) (Nat.le_of_ble_eq_true rfl) (Nat.le_of_ble_eq_true rfl) pu_J dX17_behind_68 (fun r4 σ3 => ?_)
  refine g_lstore dX17_behind_71 (by decide) rfl ?_
  refine g_goto 239 dX17_behind_73 (by decide) ?_
  refine G.sub [2] rfl ?_
  exact gX17_behind_p239 _ _
def V.Mdl_behind_p159  (σ : HS) (x0 : Nat) : Option (Int32 × HS) :=
  ck (tg σ x0 = 18) <|
  ck (tg σ x0 = 18) <| bn (sI σ x0 19 ((gI σ x0 19) + (1 : Int32))) fun σ1 =>
  Mdl_behind_p239 σ1 x0
theorem V.gX17_behind_p159 {X : CX}  (σ : HS) (x0 : Nat) : G X RX17 "behind" cX17_behind 9 (some .int) 3 69 enI 159 [(0, av x0)] [] σ (Mdl_behind_p159 σ x0) := by
  unfold Mdl_behind_p159
  refine g_aload_n 0 0 dX17_behind_159 rfl rfl ?_
  refine g_dup dX17_behind_160 rfl ?_
  refine g_getI fdX17_594 dX17_behind_161 ?_
  refine g_iconst (v := 1) dX17_behind_164 (by decide) ?_
  refine g_iadd dX17_behind_165 ?_
  refine g_putI fpX17_594 dX17_behind_166 (fun σ1 => ?_)
  refine g_goto 239 dX17_behind_169 (by decide) ?_
  exact gX17_behind_p239 _ _
def V.Mdl_behind_p184  (σ : HS) (x0 : Nat) : Option (Int32 × HS) :=
  ck (tg σ x0 = 18) <| cl (Mdl_signedWord σ x0 ) fun r2 σ1 =>
  Mdl_behind_p239 σ1 x0
theorem V.gX17_behind_p184 {X : CX}  (σ : HS) (x0 : Nat) : G X RX17 "behind" cX17_behind 9 (some .int) 3 69 enI 184 [(0, av x0)] [] σ (Mdl_behind_p184 σ x0) := by
  unfold Mdl_behind_p184
  refine g_aload_n 0 0 dX17_behind_184 rfl rfl ?_
  refine g_callV (fc := fun sς => Mdl_signedWord sς x0 ) (ci := 17) (as := []) rfl rfl rfl q3830 qs254 mdX17_597 (ctX17_signedWord x0 ) rfl (Nat.le_of_ble_eq_true rfl) (Nat.le_of_ble_eq_true rfl) (Nat.le_of_ble_eq_true rfl) pu_J dX17_behind_185 (fun r2 σ1 => ?_)
  refine g_lstore_n 3 dX17_behind_188 rfl (by decide) rfl ?_
  refine g_goto 239 dX17_behind_189 (by decide) ?_
  refine G.sub [1] rfl ?_
  exact gX17_behind_p239 _ _
def V.Mdl_behind_p221  (σ : HS) (x0 : Nat) (s0 : Int32) (s1 : Int32) (s2 : Nat) : Option (Int32 × HS) :=
  ck (tg σ s2 = 18) <| bn (sI σ s2 19 (s1 + s0)) fun σ1 =>
  Mdl_behind_p239 σ1 x0
theorem V.gX17_behind_p221 {X : CX}  (σ : HS) (x0 : Nat) (s0 : Int32) (s1 : Int32) (s2 : Nat) : G X RX17 "behind" cX17_behind 9 (some .int) 3 69 enI 221 [(0, av x0)] [iv s0, iv s1, av s2] σ (Mdl_behind_p221 σ x0 s0 s1 s2) := by
  unfold Mdl_behind_p221
  refine g_iadd dX17_behind_221 ?_
  refine g_putI fpX17_594 dX17_behind_222 (fun σ1 => ?_)
  refine g_goto 239 dX17_behind_225 (by decide) ?_
  exact gX17_behind_p239 _ _
def V.Mdl_behind_p204  (σ : HS) (x0 : Nat) (x2 : Int32) : Option (Int32 × HS) :=
  ck (tg σ x0 = 18) <|
  if x2 = (67 : Int32) then (
    Mdl_behind_p221 σ x0 (4 : Int32) (gI σ x0 19) x0)
  else (
    Mdl_behind_p221 σ x0 (8 : Int32) (gI σ x0 19) x0)
theorem V.gX17_behind_p204 {X : CX}  (σ : HS) (x0 : Nat) (x2 : Int32) : G X RX17 "behind" cX17_behind 9 (some .int) 3 69 enI 204 [(0, av x0), (2, iv x2)] [] σ (Mdl_behind_p204 σ x0 x2) := by
  unfold Mdl_behind_p204
  refine g_aload_n 0 0 dX17_behind_204 rfl rfl ?_
  refine g_dup dX17_behind_205 rfl ?_
  refine g_getI fdX17_594 dX17_behind_206 ?_
  refine g_iload_n 2 1 dX17_behind_209 rfl rfl ?_
  refine g_bipush (v := 67) dX17_behind_210 (by decide) ?_
  refine g_icmp_ne 219 dX17_behind_212 (by decide) ?_ ?_
  · refine g_bipush (v := 8) dX17_behind_219 (by decide) ?_
    refine G.sub [0] rfl ?_
    exact gX17_behind_p221 _ _ _ _ _
  · refine g_iconst (v := 4) dX17_behind_215 (by decide) ?_
    refine g_goto 221 dX17_behind_216 (by decide) ?_
    refine G.sub [0] rfl ?_
    exact gX17_behind_p221 _ _ _ _ _
def V.Mdl_behind_p90  : Nat → HS → Nat → Int64 → Int64 → Option (Int32 × HS)
  | 0, _, _, _, _ => none
  | n + 1, σ, x0, x3, x5 =>
    if x3 < x5 then (
      Mdl_behind_p239 σ x0)
    else (
      ck (tg σ x0 = 18) <| cl (Mdl_word σ x0 ) fun r2 σ1 =>
      bn (x5 + (1 : Int64)) fun y3 =>
      Mdl_behind_p90 n σ1 x0 x3 y3)
theorem V.gX17_behind_p90 {X : CX}  : ∀ (n : Nat) (σ : HS) (x0 : Nat) (x3 : Int64) (x5 : Int64), G X RX17 "behind" cX17_behind 9 (some .int) 3 69 enI 90 [(0, av x0), (3, jv x3), (5, jv x5)] [] σ (Mdl_behind_p90 n σ x0 x3 x5)
  | 0, σ, x0, x3, x5 => by rw [Mdl_behind_p90]; exact G.nul
  | n + 1, σ, x0, x3, x5 => by
    rw [Mdl_behind_p90]
    refine g_lload 2 dX17_behind_90 rfl ?_
    refine g_lload_n 3 1 dX17_behind_92 rfl rfl ?_
    refine g_lcmp_gt 112 dX17_behind_93 dX17_behind_94 (by decide) ?_ ?_
    · refine g_goto 239 dX17_behind_112 (by decide) ?_
      refine G.sub [0] rfl ?_
      exact gX17_behind_p239 _ _
    · refine g_aload_n 0 0 dX17_behind_97 rfl rfl ?_
      refine g_callV (fc := fun sς => Mdl_word sς x0 ) (ci := 17) (as := []) rfl rfl rfl q3813 qs250 mdX17_603 (ctX17_word x0 ) rfl (Nat.le_of_ble_eq_true rfl) (Nat.le_of_ble_eq_true rfl) (Nat.le_of_ble_eq_true rfl) pu_J dX17_behind_98 (fun r2 σ1 => ?_)
      refine g_lstore dX17_behind_101 (by decide) rfl ?_
      refine g_lload 3 dX17_behind_103 rfl ?_
      refine g_lconst (v := 1) dX17_behind_105 (by decide) ?_
      refine g_ladd dX17_behind_106 ?_
      refine g_nmJ (fun y3 => ?_)
      refine g_lstore dX17_behind_107 (by decide) rfl ?_
      refine g_goto 90 dX17_behind_109 (by decide) ?_
      refine G.sub [2, 3, 0] rfl ?_
      exact gX17_behind_p90 n _ _ _ _
def V.Mdl_behind_p34  (σ : HS) (x0 : Nat) (x2 : Int32) : Option (Int32 × HS) :=
  cl (Mdl_hasNumber σ x2) fun r2 σ1 =>
  if r2 = 0 then (
    cl (Mdl_isAccess σ1 x2) fun r4 σ3 =>
    if r4 = 0 then (
      if x2 = (17 : Int32) then (
        Mdl_behind_p62 σ3 x0)
      else (
        if x2 = (14 : Int32) then (
          ck (tg σ3 x0 = 18) <| cl (Mdl_word σ3 x0 ) fun r10 σ9 =>
          Mdl_behind_p90 FU σ9 x0 r10 (0 : Int64))
        else (
          if x2 = (28 : Int32) then (
            ck (tg σ3 x0 = 18) <| cl (Mdl_word σ3 x0 ) fun r7 σ6 =>
            ck (tg σ6 x0 = 18) <|
            ck (tg σ6 x0 = 18) <| bn (sI σ6 x0 19 ((gI σ6 x0 19) + r7.toInt32)) fun σ8 =>
            Mdl_behind_p239 σ8 x0)
          else (
            if x2 = (63 : Int32) then (
              Mdl_behind_p159 σ3 x0)
            else (
              if x2 = (64 : Int32) then (
                Mdl_behind_p159 σ3 x0)
              else (
                if x2 = (208 : Int32) then (
                  Mdl_behind_p159 σ3 x0)
                else (
                  if x2 = (65 : Int32) then (
                    Mdl_behind_p184 σ3 x0)
                  else (
                    if x2 = (66 : Int32) then (
                      Mdl_behind_p184 σ3 x0)
                    else (
                      if x2 = (67 : Int32) then (
                        Mdl_behind_p204 σ3 x0 x2)
                      else (
                        if x2 = (68 : Int32) then (
                          Mdl_behind_p204 σ3 x0 x2)
                        else (
                          if x2 = (252 : Int32) then (
                            ck (tg σ3 x0 = 18) <| cl (Mdl_passesFurther σ3 x0 ) fun _ σ5 =>
                            Mdl_behind_p239 σ5 x0)
                          else (
                            Mdl_behind_p239 σ3 x0))))))))))))
    else (
      Mdl_behind_p62 σ3 x0))
  else (
    ck (tg σ1 x0 = 18) <| cl (Mdl_word σ1 x0 ) fun r12 σ11 =>
    Mdl_behind_p239 σ11 x0)
theorem V.gX17_behind_p34 {X : CX}  (σ : HS) (x0 : Nat) (x2 : Int32) : G X RX17 "behind" cX17_behind 9 (some .int) 3 69 enI 34 [(0, av x0), (2, iv x2)] [] σ (Mdl_behind_p34 σ x0 x2) := by
  unfold Mdl_behind_p34
  refine g_iload_n 2 1 dX17_behind_34 rfl rfl ?_
  refine g_callS (fc := fun sς => Mdl_hasNumber sς x2) (as := [iv x2]) q3718 mdX17_569 (ctX17_hasNumber x2) rfl (Nat.le_of_ble_eq_true rfl) (Nat.le_of_ble_eq_true rfl) (Nat.le_of_ble_eq_true rfl) pu_I dX17_behind_35 (fun r2 σ1 => ?_)
  refine g_if_eq 49 dX17_behind_38 (by decide) ?_ ?_
  · refine g_iload_n 2 1 dX17_behind_49 rfl rfl ?_
    refine g_callS (fc := fun sς => Mdl_isAccess sς x2) (as := [iv x2]) q3721 mdX17_572 (ctX17_isAccess x2) rfl (Nat.le_of_ble_eq_true rfl) (Nat.le_of_ble_eq_true rfl) (Nat.le_of_ble_eq_true rfl) pu_I dX17_behind_50 (fun r4 σ3 => ?_)
    refine g_if_ne 62 dX17_behind_53 (by decide) ?_ ?_
    · refine G.sub [0] rfl ?_
      exact gX17_behind_p62 _ _
    · refine g_iload_n 2 1 dX17_behind_56 rfl rfl ?_
      refine g_bipush (v := 17) dX17_behind_57 (by decide) ?_
      refine g_icmp_ne 76 dX17_behind_59 (by decide) ?_ ?_
      · refine g_iload_n 2 1 dX17_behind_76 rfl rfl ?_
        refine g_bipush (v := 14) dX17_behind_77 (by decide) ?_
        refine g_icmp_ne 115 dX17_behind_79 (by decide) ?_ ?_
        · refine g_iload_n 2 1 dX17_behind_115 rfl rfl ?_
          refine g_bipush (v := 28) dX17_behind_116 (by decide) ?_
          refine g_icmp_ne 140 dX17_behind_118 (by decide) ?_ ?_
          · refine g_iload_n 2 1 dX17_behind_140 rfl rfl ?_
            refine g_bipush (v := 63) dX17_behind_141 (by decide) ?_
            refine g_icmp_eq 159 dX17_behind_143 (by decide) ?_ ?_
            · refine G.sub [0] rfl ?_
              exact gX17_behind_p159 _ _
            · refine g_iload_n 2 1 dX17_behind_146 rfl rfl ?_
              refine g_bipush (v := 64) dX17_behind_147 (by decide) ?_
              refine g_icmp_eq 159 dX17_behind_149 (by decide) ?_ ?_
              · refine G.sub [0] rfl ?_
                exact gX17_behind_p159 _ _
              · refine g_iload_n 2 1 dX17_behind_152 rfl rfl ?_
                refine g_sipush (v := 208) dX17_behind_153 (by decide) ?_
                refine g_icmp_ne 172 dX17_behind_156 (by decide) ?_ ?_
                · refine g_iload_n 2 1 dX17_behind_172 rfl rfl ?_
                  refine g_bipush (v := 65) dX17_behind_173 (by decide) ?_
                  refine g_icmp_eq 184 dX17_behind_175 (by decide) ?_ ?_
                  · refine G.sub [0] rfl ?_
                    exact gX17_behind_p184 _ _
                  · refine g_iload_n 2 1 dX17_behind_178 rfl rfl ?_
                    refine g_bipush (v := 66) dX17_behind_179 (by decide) ?_
                    refine g_icmp_ne 192 dX17_behind_181 (by decide) ?_ ?_
                    · refine g_iload_n 2 1 dX17_behind_192 rfl rfl ?_
                      refine g_bipush (v := 67) dX17_behind_193 (by decide) ?_
                      refine g_icmp_eq 204 dX17_behind_195 (by decide) ?_ ?_
                      · exact gX17_behind_p204 _ _ _
                      · refine g_iload_n 2 1 dX17_behind_198 rfl rfl ?_
                        refine g_bipush (v := 68) dX17_behind_199 (by decide) ?_
                        refine g_icmp_ne 228 dX17_behind_201 (by decide) ?_ ?_
                        · refine g_iload_n 2 1 dX17_behind_228 rfl rfl ?_
                          refine g_sipush (v := 252) dX17_behind_229 (by decide) ?_
                          refine g_icmp_ne 239 dX17_behind_232 (by decide) ?_ ?_
                          · refine G.sub [0] rfl ?_
                            exact gX17_behind_p239 _ _
                          · refine g_aload_n 0 0 dX17_behind_235 rfl rfl ?_
                            refine g_callV (fc := fun sς => Mdl_passesFurther sς x0 ) (ci := 17) (as := []) rfl rfl rfl q3834 qs255 mdX17_606 (ctX17_passesFurther x0 ) rfl (Nat.le_of_ble_eq_true rfl) (Nat.le_of_ble_eq_true rfl) (Nat.le_of_ble_eq_true rfl) pu_V dX17_behind_236 (fun _ σ5 => ?_)
                            refine G.sub [0] rfl ?_
                            exact gX17_behind_p239 _ _
                        · exact gX17_behind_p204 _ _ _
                    · refine G.sub [0] rfl ?_
                      exact gX17_behind_p184 _ _
                · refine G.sub [0] rfl ?_
                  exact gX17_behind_p159 _ _
          · refine g_aload_n 0 0 dX17_behind_121 rfl rfl ?_
            refine g_callV (fc := fun sς => Mdl_word sς x0 ) (ci := 17) (as := []) rfl rfl rfl q3813 qs250 mdX17_603 (ctX17_word x0 ) rfl (Nat.le_of_ble_eq_true rfl) (Nat.le_of_ble_eq_true rfl) (Nat.le_of_ble_eq_true rfl) pu_J dX17_behind_122 (fun r7 σ6 => ?_)
            refine g_lstore_n 3 dX17_behind_125 rfl (by decide) rfl ?_
            refine g_aload_n 0 1 dX17_behind_126 rfl rfl ?_
            refine g_dup dX17_behind_127 rfl ?_
            refine g_getI fdX17_594 dX17_behind_128 ?_
            refine g_lload_n 3 0 dX17_behind_131 rfl rfl ?_
            refine g_l2i dX17_behind_132 ?_
            refine g_iadd dX17_behind_133 ?_
            refine g_putI fpX17_594 dX17_behind_134 (fun σ8 => ?_)
            refine g_goto 239 dX17_behind_137 (by decide) ?_
            refine G.sub [1] rfl ?_
            exact gX17_behind_p239 _ _
        · refine g_aload_n 0 0 dX17_behind_82 rfl rfl ?_
          refine g_callV (fc := fun sς => Mdl_word sς x0 ) (ci := 17) (as := []) rfl rfl rfl q3813 qs250 mdX17_603 (ctX17_word x0 ) rfl (Nat.le_of_ble_eq_true rfl) (Nat.le_of_ble_eq_true rfl) (Nat.le_of_ble_eq_true rfl) pu_J dX17_behind_83 (fun r10 σ9 => ?_)
          refine g_lstore_n 3 dX17_behind_86 rfl (by decide) rfl ?_
          refine g_lconst (v := 0) dX17_behind_87 (by decide) ?_
          refine g_lstore dX17_behind_88 (by decide) rfl ?_
          refine G.sub [2, 1, 0] rfl ?_
          exact gX17_behind_p90 FU _ _ _ _
      · refine G.sub [0] rfl ?_
        exact gX17_behind_p62 _ _
  · refine g_aload_n 0 0 dX17_behind_41 rfl rfl ?_
    refine g_callV (fc := fun sς => Mdl_word sς x0 ) (ci := 17) (as := []) rfl rfl rfl q3813 qs250 mdX17_603 (ctX17_word x0 ) rfl (Nat.le_of_ble_eq_true rfl) (Nat.le_of_ble_eq_true rfl) (Nat.le_of_ble_eq_true rfl) pu_J dX17_behind_42 (fun r12 σ11 => ?_)
    refine g_lstore_n 3 dX17_behind_45 rfl (by decide) rfl ?_
    refine g_goto 239 dX17_behind_46 (by decide) ?_
    refine G.sub [1] rfl ?_
    exact gX17_behind_p239 _ _
def V.Mdl_behind (σ : HS) (x0 : Nat) (x1 : Int32) : Option (Int32 × HS) :=
  ck (tg σ x0 = 18) <|
  ck (tg σ (gR σ x0 10) = 21) <| cl (Pln_at σ (gR σ x0 10) x1) fun r2 σ1 =>
  ck (tg σ1 x0 = 18) <| bn (sI σ1 x0 19 (x1 + (1 : Int32))) fun σ3 =>
  if r2 < (2 : Int32) then (
    Mdl_behind_p34 σ3 x0 r2)
  else (
    if (4 : Int32) < r2 then (
      Mdl_behind_p34 σ3 x0 r2)
    else (
      ck (tg σ3 x0 = 18) <| cl (Mdl_blockWord σ3 x0 ) fun r5 σ4 =>
      Mdl_behind_p239 σ4 x0))
theorem V.ctX17_behind (x0 : Nat) (x1 : Int32) : Ct yX17_behind  cX17_behind 9 (some .int) 3 69 eI [av x0, iv x1] (fun σ => Mdl_behind σ x0 x1) := by
  refine Ct.of (own := RX17) (nm := "behind") (desc := "(I)I") rfl (by decide) (Nat.le_of_ble_eq_true rfl) (by decide) (fun X σ => ?_)
  show G X RX17 "behind" cX17_behind 9 (some .int) 3 69 enI 0 [(0, av x0), (1, iv x1)] [] σ (Mdl_behind σ x0 x1)
  unfold Mdl_behind
  refine g_aload_n 0 0 dX17_behind_0 rfl rfl ?_
  refine g_getR fdX17_221 dX17_behind_1 ?_
  refine g_iload_n 1 1 dX17_behind_4 rfl rfl ?_
  refine g_callV (fc := fun sς => Pln_at sς (gR σ x0 10) x1) (ci := 20) (as := [iv x1]) rfl rfl rfl q3609 q3610 mdX17_261 (ctX20_at (gR σ x0 10) x1) rfl (Nat.le_of_ble_eq_true rfl) (Nat.le_of_ble_eq_true rfl) (Nat.le_of_ble_eq_true rfl) pu_I dX17_behind_5 (fun r2 σ1 => ?_)
  refine g_istore_n 2 dX17_behind_8 rfl (by decide) rfl ?_
  refine g_aload_n 0 1 dX17_behind_9 rfl rfl ?_
  refine g_iload_n 1 2 dX17_behind_10 rfl rfl ?_
  refine g_iconst (v := 1) dX17_behind_11 (by decide) ?_
  refine g_iadd dX17_behind_12 ?_
  refine g_putI fpX17_594 dX17_behind_13 (fun σ3 => ?_)
  refine g_iload_n 2 0 dX17_behind_16 rfl rfl ?_
  refine g_iconst (v := 2) dX17_behind_17 (by decide) ?_
  refine g_icmp_lt 34 dX17_behind_18 (by decide) ?_ ?_
  · refine G.sub [1, 0] rfl ?_
    exact gX17_behind_p34 _ _ _
  · refine g_iload_n 2 0 dX17_behind_21 rfl rfl ?_
    refine g_iconst (v := 4) dX17_behind_22 (by decide) ?_
    refine g_icmp_gt 34 dX17_behind_23 (by decide) ?_ ?_
    · refine G.sub [1, 0] rfl ?_
      exact gX17_behind_p34 _ _ _
    · refine g_aload_n 0 1 dX17_behind_26 rfl rfl ?_
      refine g_callV (fc := fun sς => Mdl_blockWord sς x0 ) (ci := 17) (as := []) rfl rfl rfl q3826 qs253 mdX17_600 (ctX17_blockWord x0 ) rfl (Nat.le_of_ble_eq_true rfl) (Nat.le_of_ble_eq_true rfl) (Nat.le_of_ble_eq_true rfl) pu_J dX17_behind_27 (fun r5 σ4 => ?_)
      refine g_lstore_n 3 dX17_behind_30 rfl (by decide) rfl ?_
      refine g_goto 239 dX17_behind_31 (by decide) ?_
      refine G.sub [2] rfl ?_
      exact gX17_behind_p239 _ _
theorem V.dX17_declaresIn_0 : decode cX17_declaresIn 0 = .ok (.iload_n 1, 1) := by decide +kernel
theorem V.dX17_declaresIn_1 : decode cX17_declaresIn 1 = .ok (.istore_n 2, 1) := by decide +kernel
theorem V.dX17_declaresIn_2 : decode cX17_declaresIn 2 = .ok (.aload_n 0, 1) := by decide +kernel
theorem V.dX17_declaresIn_3 : decode cX17_declaresIn 3 = .ok (.getfield 221, 3) := by decide +kernel
theorem V.dX17_declaresIn_6 : decode cX17_declaresIn 6 = .ok (.iload_n 2, 1) := by decide +kernel
theorem V.dX17_declaresIn_7 : decode cX17_declaresIn 7 = .ok (.invokevirtual 261, 3) := by decide +kernel
theorem V.dX17_declaresIn_10 : decode cX17_declaresIn 10 = .ok (.bipush 11, 2) := by decide +kernel
theorem V.dX17_declaresIn_12 : decode cX17_declaresIn 12 = .ok (.if_icmp .ne 10, 3) := by decide +kernel
theorem V.dX17_declaresIn_15 : decode cX17_declaresIn 15 = .ok (.aload_n 0, 1) := by decide +kernel
theorem V.dX17_declaresIn_16 : decode cX17_declaresIn 16 = .ok (.getfield 648, 3) := by decide +kernel
theorem V.dX17_declaresIn_19 : decode cX17_declaresIn 19 = .ok (.ifCond .le 77, 3) := by decide +kernel
theorem V.dX17_declaresIn_22 : decode cX17_declaresIn 22 = .ok (.aload_n 0, 1) := by decide +kernel
theorem V.dX17_declaresIn_23 : decode cX17_declaresIn 23 = .ok (.getfield 221, 3) := by decide +kernel
theorem V.dX17_declaresIn_26 : decode cX17_declaresIn 26 = .ok (.iload_n 2, 1) := by decide +kernel
theorem V.dX17_declaresIn_27 : decode cX17_declaresIn 27 = .ok (.invokevirtual 261, 3) := by decide +kernel
theorem V.dX17_declaresIn_30 : decode cX17_declaresIn 30 = .ok (.istore_n 3, 1) := by decide +kernel
theorem V.dX17_declaresIn_31 : decode cX17_declaresIn 31 = .ok (.aload_n 0, 1) := by decide +kernel
theorem V.dX17_declaresIn_32 : decode cX17_declaresIn 32 = .ok (.dup, 1) := by decide +kernel
theorem V.dX17_declaresIn_33 : decode cX17_declaresIn 33 = .ok (.getfield 648, 3) := by decide +kernel
theorem V.dX17_declaresIn_36 : decode cX17_declaresIn 36 = .ok (.iload_n 3, 1) := by decide +kernel
theorem V.dX17_declaresIn_37 : decode cX17_declaresIn 37 = .ok (.iconst 2, 1) := by decide +kernel
theorem V.dX17_declaresIn_38 : decode cX17_declaresIn 38 = .ok (.if_icmp .lt 12, 3) := by decide +kernel
theorem V.dX17_declaresIn_41 : decode cX17_declaresIn 41 = .ok (.iload_n 3, 1) := by decide +kernel
theorem V.dX17_declaresIn_42 : decode cX17_declaresIn 42 = .ok (.iconst 4, 1) := by decide +kernel
theorem V.dX17_declaresIn_43 : decode cX17_declaresIn 43 = .ok (.if_icmp .gt 7, 3) := by decide +kernel
theorem V.dX17_declaresIn_46 : decode cX17_declaresIn 46 = .ok (.iconst 1, 1) := by decide +kernel
theorem V.dX17_declaresIn_47 : decode cX17_declaresIn 47 = .ok (.goto 14, 3) := by decide +kernel
theorem V.dX17_declaresIn_50 : decode cX17_declaresIn 50 = .ok (.iload_n 3, 1) := by decide +kernel
theorem V.dX17_declaresIn_51 : decode cX17_declaresIn 51 = .ok (.bipush 11, 2) := by decide +kernel
theorem V.dX17_declaresIn_53 : decode cX17_declaresIn 53 = .ok (.if_icmp .ne 7, 3) := by decide +kernel
theorem V.dX17_declaresIn_56 : decode cX17_declaresIn 56 = .ok (.iconst (-1), 1) := by decide +kernel
theorem V.dX17_declaresIn_57 : decode cX17_declaresIn 57 = .ok (.goto 4, 3) := by decide +kernel
theorem V.dX17_declaresIn_60 : decode cX17_declaresIn 60 = .ok (.iconst 0, 1) := by decide +kernel
theorem V.dX17_declaresIn_61 : decode cX17_declaresIn 61 = .ok (.iadd, 1) := by decide +kernel
theorem V.dX17_declaresIn_62 : decode cX17_declaresIn 62 = .ok (.putfield 648, 3) := by decide +kernel
theorem V.dX17_declaresIn_65 : decode cX17_declaresIn 65 = .ok (.aload_n 0, 1) := by decide +kernel
theorem V.dX17_declaresIn_66 : decode cX17_declaresIn 66 = .ok (.iload_n 2, 1) := by decide +kernel
theorem V.dX17_declaresIn_67 : decode cX17_declaresIn 67 = .ok (.iconst 1, 1) := by decide +kernel
theorem V.dX17_declaresIn_68 : decode cX17_declaresIn 68 = .ok (.iadd, 1) := by decide +kernel
theorem V.dX17_declaresIn_69 : decode cX17_declaresIn 69 = .ok (.putfield 594, 3) := by decide +kernel
theorem V.dX17_declaresIn_72 : decode cX17_declaresIn 72 = .ok (.iload_n 3, 1) := by decide +kernel
theorem V.dX17_declaresIn_73 : decode cX17_declaresIn 73 = .ok (.sipush 210, 3) := by decide +kernel
theorem V.dX17_declaresIn_76 : decode cX17_declaresIn 76 = .ok (.if_icmp .ne 11, 3) := by decide +kernel
theorem V.dX17_declaresIn_79 : decode cX17_declaresIn 79 = .ok (.aload_n 0, 1) := by decide +kernel
theorem V.dX17_declaresIn_80 : decode cX17_declaresIn 80 = .ok (.aload_n 0, 1) := by decide +kernel
theorem V.dX17_declaresIn_81 : decode cX17_declaresIn 81 = .ok (.invokevirtual 603, 3) := by decide +kernel
theorem V.dX17_declaresIn_84 : decode cX17_declaresIn 84 = .ok (.invokevirtual 651, 3) := by decide +kernel
theorem V.dX17_declaresIn_87 : decode cX17_declaresIn 87 = .ok (.aload_n 0, 1) := by decide +kernel
theorem V.dX17_declaresIn_88 : decode cX17_declaresIn 88 = .ok (.iload_n 2, 1) := by decide +kernel
theorem V.dX17_declaresIn_89 : decode cX17_declaresIn 89 = .ok (.invokevirtual 655, 3) := by decide +kernel
theorem V.dX17_declaresIn_92 : decode cX17_declaresIn 92 = .ok (.istore_n 2, 1) := by decide +kernel
theorem V.dX17_declaresIn_93 : decode cX17_declaresIn 93 = .ok (.goto (-91), 3) := by decide +kernel
theorem V.dX17_declaresIn_96 : decode cX17_declaresIn 96 = .ok (.aload_n 0, 1) := by decide +kernel
theorem V.dX17_declaresIn_97 : decode cX17_declaresIn 97 = .ok (.iload_n 2, 1) := by decide +kernel
theorem V.dX17_declaresIn_98 : decode cX17_declaresIn 98 = .ok (.iconst 1, 1) := by decide +kernel
theorem V.dX17_declaresIn_99 : decode cX17_declaresIn 99 = .ok (.iadd, 1) := by decide +kernel
theorem V.dX17_declaresIn_100 : decode cX17_declaresIn 100 = .ok (.putfield 594, 3) := by decide +kernel
theorem V.dX17_declaresIn_103 : decode cX17_declaresIn 103 = .ok (.return_, 1) := by decide +kernel
theorem V.fdX17_648 : FD RX17 648 17 21 0 := ⟨(RX17, TX17, 101), tyX17, rfl, rfl, in_X17, by decide, Or.inl q3057, rfl⟩
theorem V.fpX17_648 {nm : String} : FP RX17 nm 648 17 21 (.int) := ⟨(RX17, TX17, 101), tyX17, rfl, rfl, in_X17, by decide, tyX17_ok, nmX17, rfl, Or.inl ⟨rfl, Or.inl q3057⟩⟩
theorem V.mdX17_651 : MD RX17 651 yX17_declare cX17_declare 3 none 1 := ⟨Or.inl q3815, q377, q3818, by decide, by decide, by decide +kernel⟩
theorem V.mdX17_655 : MD RX17 655 yX17_behind cX17_behind 9 (some .int) 1 := ⟨Or.inl q3820, q377, q3823, by decide, by decide, by decide +kernel⟩
/-! ModuleEngineModel.declaresIn(I)V -/
def V.Mdl_declaresIn_p87 (rec2 : HS → Nat → Int32 → Option (Unit × HS)) (σ : HS) (x0 : Nat) (x2 : Int32) : Option (Unit × HS) :=
  ck (tg σ x0 = 18) <| cl (Mdl_behind σ x0 x2) fun r2 σ1 =>
  rec2 σ1 x0 r2
theorem V.gX17_declaresIn_p87 {X : CX} (rec2 : HS → Nat → Int32 → Option (Unit × HS)) (hrec2 : ∀ (σ : HS) (x0 : Nat) (x2 : Int32), G X RX17 "declaresIn" cX17_declaresIn 4 none 4 97 enV 2 [(0, av x0), (2, iv x2)] [] σ (rec2 σ x0 x2)) (σ : HS) (x0 : Nat) (x2 : Int32) : G X RX17 "declaresIn" cX17_declaresIn 4 none 4 97 enV 87 [(0, av x0), (2, iv x2)] [] σ (Mdl_declaresIn_p87 rec2 σ x0 x2) := by
  unfold Mdl_declaresIn_p87
  refine g_aload_n 0 0 dX17_declaresIn_87 rfl rfl ?_
  refine g_iload_n 2 1 dX17_declaresIn_88 rfl rfl ?_
  refine g_callV (fc := fun sς => Mdl_behind sς x0 x2) (ci := 17) (as := [iv x2]) rfl rfl rfl q3822 qs252 mdX17_655 (ctX17_behind x0 x2) rfl (Nat.le_of_ble_eq_true rfl) (Nat.le_of_ble_eq_true rfl) (Nat.le_of_ble_eq_true rfl) pu_I dX17_declaresIn_89 (fun r2 σ1 => ?_)
  refine g_istore_n 2 dX17_declaresIn_92 rfl (by decide) rfl ?_
  refine g_goto 2 dX17_declaresIn_93 (by decide) ?_
  refine G.sub [1, 0] rfl ?_
  exact hrec2 _ _ _
def V.Mdl_declaresIn_p61 (rec2 : HS → Nat → Int32 → Option (Unit × HS)) (σ : HS) (x0 : Nat) (x2 : Int32) (x3 : Int32) (s0 : Int32) (s1 : Int32) (s2 : Nat) : Option (Unit × HS) :=
  ck (tg σ s2 = 18) <| bn (sI σ s2 21 (s1 + s0)) fun σ1 =>
  ck (tg σ1 x0 = 18) <| bn (sI σ1 x0 19 (x2 + (1 : Int32))) fun σ2 =>
  if x3 = (210 : Int32) then (
    ck (tg σ2 x0 = 18) <| cl (Mdl_word σ2 x0 ) fun r4 σ3 =>
    ck (tg σ3 x0 = 18) <| cl (Mdl_declare σ3 x0 r4) fun _ σ5 =>
    Mdl_declaresIn_p87 rec2 σ5 x0 x2)
  else (
    Mdl_declaresIn_p87 rec2 σ2 x0 x2)
theorem V.gX17_declaresIn_p61 {X : CX} (rec2 : HS → Nat → Int32 → Option (Unit × HS)) (hrec2 : ∀ (σ : HS) (x0 : Nat) (x2 : Int32), G X RX17 "declaresIn" cX17_declaresIn 4 none 4 97 enV 2 [(0, av x0), (2, iv x2)] [] σ (rec2 σ x0 x2)) (σ : HS) (x0 : Nat) (x2 : Int32) (x3 : Int32) (s0 : Int32) (s1 : Int32) (s2 : Nat) : G X RX17 "declaresIn" cX17_declaresIn 4 none 4 97 enV 61 [(0, av x0), (2, iv x2), (3, iv x3)] [iv s0, iv s1, av s2] σ (Mdl_declaresIn_p61 rec2 σ x0 x2 x3 s0 s1 s2) := by
  unfold Mdl_declaresIn_p61
  refine g_iadd dX17_declaresIn_61 ?_
  refine g_putI fpX17_648 dX17_declaresIn_62 (fun σ1 => ?_)
  refine g_aload_n 0 0 dX17_declaresIn_65 rfl rfl ?_
  refine g_iload_n 2 1 dX17_declaresIn_66 rfl rfl ?_
  refine g_iconst (v := 1) dX17_declaresIn_67 (by decide) ?_
  refine g_iadd dX17_declaresIn_68 ?_
  refine g_putI fpX17_594 dX17_declaresIn_69 (fun σ2 => ?_)
  refine g_iload_n 3 2 dX17_declaresIn_72 rfl rfl ?_
  refine g_sipush (v := 210) dX17_declaresIn_73 (by decide) ?_
  refine g_icmp_ne 87 dX17_declaresIn_76 (by decide) ?_ ?_
  · refine G.sub [0, 1] rfl ?_
    exact gX17_declaresIn_p87 rec2 hrec2 _ _ _
  · refine g_aload_n 0 0 dX17_declaresIn_79 rfl rfl ?_
    refine g_aload_n 0 0 dX17_declaresIn_80 rfl rfl ?_
    refine g_callV (fc := fun sς => Mdl_word sς x0 ) (ci := 17) (as := []) rfl rfl rfl q3813 qs250 mdX17_603 (ctX17_word x0 ) rfl (Nat.le_of_ble_eq_true rfl) (Nat.le_of_ble_eq_true rfl) (Nat.le_of_ble_eq_true rfl) pu_J dX17_declaresIn_81 (fun r4 σ3 => ?_)
    refine g_callV (fc := fun sς => Mdl_declare sς x0 r4) (ci := 17) (as := [jv r4]) rfl rfl rfl q3817 qs251 mdX17_651 (ctX17_declare x0 r4) rfl (Nat.le_of_ble_eq_true rfl) (Nat.le_of_ble_eq_true rfl) (Nat.le_of_ble_eq_true rfl) pu_V dX17_declaresIn_84 (fun _ σ5 => ?_)
    refine G.sub [0, 1] rfl ?_
    exact gX17_declaresIn_p87 rec2 hrec2 _ _ _
def V.Mdl_declaresIn_p50 (rec2 : HS → Nat → Int32 → Option (Unit × HS)) (σ : HS) (x0 : Nat) (x2 : Int32) (x3 : Int32) (s0 : Int32) (s1 : Nat) : Option (Unit × HS) :=
  if x3 = (11 : Int32) then (
    Mdl_declaresIn_p61 rec2 σ x0 x2 x3 (-1 : Int32) s0 s1)
  else (
    Mdl_declaresIn_p61 rec2 σ x0 x2 x3 (0 : Int32) s0 s1)
theorem V.gX17_declaresIn_p50 {X : CX} (rec2 : HS → Nat → Int32 → Option (Unit × HS)) (hrec2 : ∀ (σ : HS) (x0 : Nat) (x2 : Int32), G X RX17 "declaresIn" cX17_declaresIn 4 none 4 97 enV 2 [(0, av x0), (2, iv x2)] [] σ (rec2 σ x0 x2)) (σ : HS) (x0 : Nat) (x2 : Int32) (x3 : Int32) (s0 : Int32) (s1 : Nat) : G X RX17 "declaresIn" cX17_declaresIn 4 none 4 97 enV 50 [(0, av x0), (2, iv x2), (3, iv x3)] [iv s0, av s1] σ (Mdl_declaresIn_p50 rec2 σ x0 x2 x3 s0 s1) := by
  unfold Mdl_declaresIn_p50
  refine g_iload_n 3 2 dX17_declaresIn_50 rfl rfl ?_
  refine g_bipush (v := 11) dX17_declaresIn_51 (by decide) ?_
  refine g_icmp_ne 60 dX17_declaresIn_53 (by decide) ?_ ?_
  · refine g_iconst (v := 0) dX17_declaresIn_60 (by decide) ?_
    exact gX17_declaresIn_p61 rec2 hrec2 _ _ _ _ _ _ _
  · refine g_iconst (v := (-1)) dX17_declaresIn_56 (by decide) ?_
    refine g_goto 61 dX17_declaresIn_57 (by decide) ?_
    exact gX17_declaresIn_p61 rec2 hrec2 _ _ _ _ _ _ _
def V.Mdl_declaresIn_p22 (rec2 : HS → Nat → Int32 → Option (Unit × HS)) (σ : HS) (x0 : Nat) (x2 : Int32) : Option (Unit × HS) :=
  ck (tg σ x0 = 18) <|
  ck (tg σ (gR σ x0 10) = 21) <| cl (Pln_at σ (gR σ x0 10) x2) fun r2 σ1 =>
  ck (tg σ1 x0 = 18) <|
  if r2 < (2 : Int32) then (
    Mdl_declaresIn_p50 rec2 σ1 x0 x2 r2 (gI σ1 x0 21) x0)
  else (
    if (4 : Int32) < r2 then (
      Mdl_declaresIn_p50 rec2 σ1 x0 x2 r2 (gI σ1 x0 21) x0)
    else (
      Mdl_declaresIn_p61 rec2 σ1 x0 x2 r2 (1 : Int32) (gI σ1 x0 21) x0))
theorem V.gX17_declaresIn_p22 {X : CX} (rec2 : HS → Nat → Int32 → Option (Unit × HS)) (hrec2 : ∀ (σ : HS) (x0 : Nat) (x2 : Int32), G X RX17 "declaresIn" cX17_declaresIn 4 none 4 97 enV 2 [(0, av x0), (2, iv x2)] [] σ (rec2 σ x0 x2)) (σ : HS) (x0 : Nat) (x2 : Int32) : G X RX17 "declaresIn" cX17_declaresIn 4 none 4 97 enV 22 [(0, av x0), (2, iv x2)] [] σ (Mdl_declaresIn_p22 rec2 σ x0 x2) := by
  unfold Mdl_declaresIn_p22
  refine g_aload_n 0 0 dX17_declaresIn_22 rfl rfl ?_
  refine g_getR fdX17_221 dX17_declaresIn_23 ?_
  refine g_iload_n 2 1 dX17_declaresIn_26 rfl rfl ?_
  refine g_callV (fc := fun sς => Pln_at sς (gR σ x0 10) x2) (ci := 20) (as := [iv x2]) rfl rfl rfl q3609 q3610 mdX17_261 (ctX20_at (gR σ x0 10) x2) rfl (Nat.le_of_ble_eq_true rfl) (Nat.le_of_ble_eq_true rfl) (Nat.le_of_ble_eq_true rfl) pu_I dX17_declaresIn_27 (fun r2 σ1 => ?_)
  refine g_istore_n 3 dX17_declaresIn_30 rfl (by decide) rfl ?_
  refine g_aload_n 0 1 dX17_declaresIn_31 rfl rfl ?_
  refine g_dup dX17_declaresIn_32 rfl ?_
  refine g_getI fdX17_648 dX17_declaresIn_33 ?_
  refine g_iload_n 3 0 dX17_declaresIn_36 rfl rfl ?_
  refine g_iconst (v := 2) dX17_declaresIn_37 (by decide) ?_
  refine g_icmp_lt 50 dX17_declaresIn_38 (by decide) ?_ ?_
  · refine G.sub [1, 2, 0] rfl ?_
    exact gX17_declaresIn_p50 rec2 hrec2 _ _ _ _ _ _
  · refine g_iload_n 3 0 dX17_declaresIn_41 rfl rfl ?_
    refine g_iconst (v := 4) dX17_declaresIn_42 (by decide) ?_
    refine g_icmp_gt 50 dX17_declaresIn_43 (by decide) ?_ ?_
    · refine G.sub [1, 2, 0] rfl ?_
      exact gX17_declaresIn_p50 rec2 hrec2 _ _ _ _ _ _
    · refine g_iconst (v := 1) dX17_declaresIn_46 (by decide) ?_
      refine g_goto 61 dX17_declaresIn_47 (by decide) ?_
      refine G.sub [1, 2, 0] rfl ?_
      exact gX17_declaresIn_p61 rec2 hrec2 _ _ _ _ _ _ _
def V.Mdl_declaresIn_p2  : Nat → HS → Nat → Int32 → Option (Unit × HS)
  | 0, _, _, _ => none
  | n + 1, σ, x0, x2 =>
    ck (tg σ x0 = 18) <|
    ck (tg σ (gR σ x0 10) = 21) <| cl (Pln_at σ (gR σ x0 10) x2) fun r2 σ1 =>
    if r2 = (11 : Int32) then (
      ck (tg σ1 x0 = 18) <|
      if (gI σ1 x0 21) ≤ 0 then (
        ck (tg σ1 x0 = 18) <| bn (sI σ1 x0 19 (x2 + (1 : Int32))) fun σ3 =>
        some ((), σ3))
      else (
        Mdl_declaresIn_p22 (Mdl_declaresIn_p2 n) σ1 x0 x2))
    else (
      Mdl_declaresIn_p22 (Mdl_declaresIn_p2 n) σ1 x0 x2)
theorem V.gX17_declaresIn_p2 {X : CX}  : ∀ (n : Nat) (σ : HS) (x0 : Nat) (x2 : Int32), G X RX17 "declaresIn" cX17_declaresIn 4 none 4 97 enV 2 [(0, av x0), (2, iv x2)] [] σ (Mdl_declaresIn_p2 n σ x0 x2)
  | 0, σ, x0, x2 => by rw [Mdl_declaresIn_p2]; exact G.nul
  | n + 1, σ, x0, x2 => by
    rw [Mdl_declaresIn_p2]
    refine g_aload_n 0 0 dX17_declaresIn_2 rfl rfl ?_
    refine g_getR fdX17_221 dX17_declaresIn_3 ?_
    refine g_iload_n 2 1 dX17_declaresIn_6 rfl rfl ?_
    refine g_callV (fc := fun sς => Pln_at sς (gR σ x0 10) x2) (ci := 20) (as := [iv x2]) rfl rfl rfl q3609 q3610 mdX17_261 (ctX20_at (gR σ x0 10) x2) rfl (Nat.le_of_ble_eq_true rfl) (Nat.le_of_ble_eq_true rfl) (Nat.le_of_ble_eq_true rfl) pu_I dX17_declaresIn_7 (fun r2 σ1 => ?_)
    refine g_bipush (v := 11) dX17_declaresIn_10 (by decide) ?_
    refine g_icmp_ne 22 dX17_declaresIn_12 (by decide) ?_ ?_
    · exact gX17_declaresIn_p22 (Mdl_declaresIn_p2 n) (gX17_declaresIn_p2 n) _ _ _
    · refine g_aload_n 0 0 dX17_declaresIn_15 rfl rfl ?_
      refine g_getI fdX17_648 dX17_declaresIn_16 ?_
      refine g_if_le 96 dX17_declaresIn_19 (by decide) ?_ ?_
      · refine g_aload_n 0 0 dX17_declaresIn_96 rfl rfl ?_
        refine g_iload_n 2 1 dX17_declaresIn_97 rfl rfl ?_
        refine g_iconst (v := 1) dX17_declaresIn_98 (by decide) ?_
        refine g_iadd dX17_declaresIn_99 ?_
        refine g_putI fpX17_594 dX17_declaresIn_100 (fun σ3 => ?_)
        exact g_return rfl dX17_declaresIn_103
      · exact gX17_declaresIn_p22 (Mdl_declaresIn_p2 n) (gX17_declaresIn_p2 n) _ _ _
def V.Mdl_declaresIn (σ : HS) (x0 : Nat) (x1 : Int32) : Option (Unit × HS) :=
  Mdl_declaresIn_p2 FU σ x0 x1
theorem V.ctX17_declaresIn (x0 : Nat) (x1 : Int32) : Ct yX17_declaresIn  cX17_declaresIn 4 none 4 97 eV [av x0, iv x1] (fun σ => Mdl_declaresIn σ x0 x1) := by
  refine Ct.of (own := RX17) (nm := "declaresIn") (desc := "(I)V") rfl (by decide) (Nat.le_of_ble_eq_true rfl) (by decide) (fun X σ => ?_)
  show G X RX17 "declaresIn" cX17_declaresIn 4 none 4 97 enV 0 [(0, av x0), (1, iv x1)] [] σ (Mdl_declaresIn σ x0 x1)
  unfold Mdl_declaresIn
  refine g_iload_n 1 1 dX17_declaresIn_0 rfl rfl ?_
  refine g_istore_n 2 dX17_declaresIn_1 rfl (by decide) rfl ?_
  refine G.sub [1, 0] rfl ?_
  exact gX17_declaresIn_p2 FU _ _ _
theorem V.dX17_declares_0 : decode cX17_declares 0 = .ok (.iconst 0, 1) := by decide +kernel
theorem V.dX17_declares_1 : decode cX17_declares 1 = .ok (.istore_n 1, 1) := by decide +kernel
theorem V.dX17_declares_2 : decode cX17_declares 2 = .ok (.iload_n 1, 1) := by decide +kernel
theorem V.dX17_declares_3 : decode cX17_declares 3 = .ok (.sipush 128, 3) := by decide +kernel
theorem V.dX17_declares_6 : decode cX17_declares 6 = .ok (.if_icmp .ge 16, 3) := by decide +kernel
theorem V.dX17_declares_9 : decode cX17_declares 9 = .ok (.aload_n 0, 1) := by decide +kernel
theorem V.dX17_declares_10 : decode cX17_declares 10 = .ok (.getfield 35, 3) := by decide +kernel
theorem V.dX17_declares_13 : decode cX17_declares 13 = .ok (.iload_n 1, 1) := by decide +kernel
theorem V.dX17_declares_14 : decode cX17_declares 14 = .ok (.iconst 0, 1) := by decide +kernel
theorem V.dX17_declares_15 : decode cX17_declares 15 = .ok (.bastore, 1) := by decide +kernel
theorem V.dX17_declares_16 : decode cX17_declares 16 = .ok (.iinc 1 1, 3) := by decide +kernel
theorem V.dX17_declares_19 : decode cX17_declares 19 = .ok (.goto (-17), 3) := by decide +kernel
theorem V.dX17_declares_22 : decode cX17_declares 22 = .ok (.aload_n 0, 1) := by decide +kernel
theorem V.dX17_declares_23 : decode cX17_declares 23 = .ok (.iconst 0, 1) := by decide +kernel
theorem V.dX17_declares_24 : decode cX17_declares 24 = .ok (.putfield 648, 3) := by decide +kernel
theorem V.dX17_declares_27 : decode cX17_declares 27 = .ok (.iconst 0, 1) := by decide +kernel
theorem V.dX17_declares_28 : decode cX17_declares 28 = .ok (.istore_n 1, 1) := by decide +kernel
theorem V.dX17_declares_29 : decode cX17_declares 29 = .ok (.iload_n 1, 1) := by decide +kernel
theorem V.dX17_declares_30 : decode cX17_declares 30 = .ok (.aload_n 0, 1) := by decide +kernel
theorem V.dX17_declares_31 : decode cX17_declares 31 = .ok (.getfield 221, 3) := by decide +kernel
theorem V.dX17_declares_34 : decode cX17_declares 34 = .ok (.getfield 453, 3) := by decide +kernel
theorem V.dX17_declares_37 : decode cX17_declares 37 = .ok (.if_icmp .ge 22, 3) := by decide +kernel
theorem V.dX17_declares_40 : decode cX17_declares 40 = .ok (.aload_n 0, 1) := by decide +kernel
theorem V.dX17_declares_41 : decode cX17_declares 41 = .ok (.aload_n 0, 1) := by decide +kernel
theorem V.dX17_declares_42 : decode cX17_declares 42 = .ok (.getfield 221, 3) := by decide +kernel
theorem V.dX17_declares_45 : decode cX17_declares 45 = .ok (.getfield 463, 3) := by decide +kernel
theorem V.dX17_declares_48 : decode cX17_declares 48 = .ok (.iload_n 1, 1) := by decide +kernel
theorem V.dX17_declares_49 : decode cX17_declares 49 = .ok (.iaload, 1) := by decide +kernel
theorem V.dX17_declares_50 : decode cX17_declares 50 = .ok (.invokevirtual 658, 3) := by decide +kernel
theorem V.dX17_declares_53 : decode cX17_declares 53 = .ok (.iinc 1 1, 3) := by decide +kernel
theorem V.dX17_declares_56 : decode cX17_declares 56 = .ok (.goto (-27), 3) := by decide +kernel
theorem V.dX17_declares_59 : decode cX17_declares 59 = .ok (.iconst 0, 1) := by decide +kernel
theorem V.dX17_declares_60 : decode cX17_declares 60 = .ok (.istore_n 1, 1) := by decide +kernel
theorem V.dX17_declares_61 : decode cX17_declares 61 = .ok (.iload_n 1, 1) := by decide +kernel
theorem V.dX17_declares_62 : decode cX17_declares 62 = .ok (.aload_n 0, 1) := by decide +kernel
theorem V.dX17_declares_63 : decode cX17_declares 63 = .ok (.getfield 221, 3) := by decide +kernel
theorem V.dX17_declares_66 : decode cX17_declares 66 = .ok (.getfield 481, 3) := by decide +kernel
theorem V.dX17_declares_69 : decode cX17_declares 69 = .ok (.if_icmp .ge 99, 3) := by decide +kernel
theorem V.dX17_declares_72 : decode cX17_declares 72 = .ok (.aload_n 0, 1) := by decide +kernel
theorem V.dX17_declares_73 : decode cX17_declares 73 = .ok (.getfield 221, 3) := by decide +kernel
theorem V.dX17_declares_76 : decode cX17_declares 76 = .ok (.getfield 489, 3) := by decide +kernel
theorem V.dX17_declares_79 : decode cX17_declares 79 = .ok (.iload_n 1, 1) := by decide +kernel
theorem V.dX17_declares_80 : decode cX17_declares 80 = .ok (.iaload, 1) := by decide +kernel
theorem V.dX17_declares_81 : decode cX17_declares 81 = .ok (.ifCond .ne 16, 3) := by decide +kernel
theorem V.dX17_declares_84 : decode cX17_declares 84 = .ok (.aload_n 0, 1) := by decide +kernel
theorem V.dX17_declares_85 : decode cX17_declares 85 = .ok (.aload_n 0, 1) := by decide +kernel
theorem V.dX17_declares_86 : decode cX17_declares 86 = .ok (.getfield 221, 3) := by decide +kernel
theorem V.dX17_declares_89 : decode cX17_declares 89 = .ok (.getfield 495, 3) := by decide +kernel
theorem V.dX17_declares_92 : decode cX17_declares 92 = .ok (.iload_n 1, 1) := by decide +kernel
theorem V.dX17_declares_93 : decode cX17_declares 93 = .ok (.iaload, 1) := by decide +kernel
theorem V.dX17_declares_94 : decode cX17_declares 94 = .ok (.invokevirtual 658, 3) := by decide +kernel
theorem V.dX17_declares_97 : decode cX17_declares 97 = .ok (.aload_n 0, 1) := by decide +kernel
theorem V.dX17_declares_98 : decode cX17_declares 98 = .ok (.aload_n 0, 1) := by decide +kernel
theorem V.dX17_declares_99 : decode cX17_declares 99 = .ok (.getfield 221, 3) := by decide +kernel
theorem V.dX17_declares_102 : decode cX17_declares 102 = .ok (.getfield 504, 3) := by decide +kernel
theorem V.dX17_declares_105 : decode cX17_declares 105 = .ok (.iload_n 1, 1) := by decide +kernel
theorem V.dX17_declares_106 : decode cX17_declares 106 = .ok (.iaload, 1) := by decide +kernel
theorem V.dX17_declares_107 : decode cX17_declares 107 = .ok (.putfield 594, 3) := by decide +kernel
theorem V.dX17_declares_110 : decode cX17_declares 110 = .ok (.iconst 0, 1) := by decide +kernel
theorem V.dX17_declares_111 : decode cX17_declares 111 = .ok (.istore_n 2, 1) := by decide +kernel
theorem V.dX17_declares_112 : decode cX17_declares 112 = .ok (.iload_n 2, 1) := by decide +kernel
theorem V.dX17_declares_113 : decode cX17_declares 113 = .ok (.aload_n 0, 1) := by decide +kernel
theorem V.dX17_declares_114 : decode cX17_declares 114 = .ok (.getfield 221, 3) := by decide +kernel
theorem V.dX17_declares_117 : decode cX17_declares 117 = .ok (.getfield 507, 3) := by decide +kernel
theorem V.dX17_declares_120 : decode cX17_declares 120 = .ok (.iload_n 1, 1) := by decide +kernel
theorem V.dX17_declares_121 : decode cX17_declares 121 = .ok (.iaload, 1) := by decide +kernel
theorem V.dX17_declares_122 : decode cX17_declares 122 = .ok (.if_icmp .ge 40, 3) := by decide +kernel
theorem V.dX17_declares_125 : decode cX17_declares 125 = .ok (.aload_n 0, 1) := by decide +kernel
theorem V.dX17_declares_126 : decode cX17_declares 126 = .ok (.getfield 221, 3) := by decide +kernel
theorem V.dX17_declares_129 : decode cX17_declares 129 = .ok (.getfield 498, 3) := by decide +kernel
theorem V.dX17_declares_132 : decode cX17_declares 132 = .ok (.iload_n 1, 1) := by decide +kernel
theorem V.dX17_declares_133 : decode cX17_declares 133 = .ok (.baload, 1) := by decide +kernel
theorem V.dX17_declares_134 : decode cX17_declares 134 = .ok (.ifCond .eq 14, 3) := by decide +kernel
theorem V.dX17_declares_137 : decode cX17_declares 137 = .ok (.aload_n 0, 1) := by decide +kernel
theorem V.dX17_declares_138 : decode cX17_declares 138 = .ok (.aload_n 0, 1) := by decide +kernel
theorem V.dX17_declares_139 : decode cX17_declares 139 = .ok (.getfield 594, 3) := by decide +kernel
theorem V.dX17_declares_142 : decode cX17_declares 142 = .ok (.invokevirtual 658, 3) := by decide +kernel
theorem V.dX17_declares_145 : decode cX17_declares 145 = .ok (.goto 11, 3) := by decide +kernel
theorem V.dX17_declares_148 : decode cX17_declares 148 = .ok (.aload_n 0, 1) := by decide +kernel
theorem V.dX17_declares_149 : decode cX17_declares 149 = .ok (.aload_n 0, 1) := by decide +kernel
theorem V.dX17_declares_150 : decode cX17_declares 150 = .ok (.invokevirtual 603, 3) := by decide +kernel
theorem V.dX17_declares_153 : decode cX17_declares 153 = .ok (.invokevirtual 651, 3) := by decide +kernel
theorem V.dX17_declares_156 : decode cX17_declares 156 = .ok (.iinc 2 1, 3) := by decide +kernel
theorem V.dX17_declares_159 : decode cX17_declares 159 = .ok (.goto (-47), 3) := by decide +kernel
theorem V.dX17_declares_162 : decode cX17_declares 162 = .ok (.iinc 1 1, 3) := by decide +kernel
theorem V.dX17_declares_165 : decode cX17_declares 165 = .ok (.goto (-104), 3) := by decide +kernel
theorem V.dX17_declares_168 : decode cX17_declares 168 = .ok (.iconst 0, 1) := by decide +kernel
theorem V.dX17_declares_169 : decode cX17_declares 169 = .ok (.istore_n 1, 1) := by decide +kernel
theorem V.dX17_declares_170 : decode cX17_declares 170 = .ok (.iload_n 1, 1) := by decide +kernel
theorem V.dX17_declares_171 : decode cX17_declares 171 = .ok (.aload_n 0, 1) := by decide +kernel
theorem V.dX17_declares_172 : decode cX17_declares 172 = .ok (.getfield 221, 3) := by decide +kernel
theorem V.dX17_declares_175 : decode cX17_declares 175 = .ok (.getfield 466, 3) := by decide +kernel
theorem V.dX17_declares_178 : decode cX17_declares 178 = .ok (.if_icmp .ge 34, 3) := by decide +kernel
theorem V.dX17_declares_181 : decode cX17_declares 181 = .ok (.aload_n 0, 1) := by decide +kernel
theorem V.dX17_declares_182 : decode cX17_declares 182 = .ok (.getfield 221, 3) := by decide +kernel
theorem V.dX17_declares_185 : decode cX17_declares 185 = .ok (.getfield 475, 3) := by decide +kernel
theorem V.dX17_declares_188 : decode cX17_declares 188 = .ok (.iload_n 1, 1) := by decide +kernel
theorem V.dX17_declares_189 : decode cX17_declares 189 = .ok (.iaload, 1) := by decide +kernel
theorem V.dX17_declares_190 : decode cX17_declares 190 = .ok (.ifCond .ne 16, 3) := by decide +kernel
theorem V.dX17_declares_193 : decode cX17_declares 193 = .ok (.aload_n 0, 1) := by decide +kernel
theorem V.dX17_declares_194 : decode cX17_declares 194 = .ok (.aload_n 0, 1) := by decide +kernel
theorem V.dX17_declares_195 : decode cX17_declares 195 = .ok (.getfield 221, 3) := by decide +kernel
theorem V.dX17_declares_198 : decode cX17_declares 198 = .ok (.getfield 478, 3) := by decide +kernel
theorem V.dX17_declares_201 : decode cX17_declares 201 = .ok (.iload_n 1, 1) := by decide +kernel
theorem V.dX17_declares_202 : decode cX17_declares 202 = .ok (.laload, 1) := by decide +kernel
theorem V.dX17_declares_203 : decode cX17_declares 203 = .ok (.invokevirtual 651, 3) := by decide +kernel
theorem V.dX17_declares_206 : decode cX17_declares 206 = .ok (.iinc 1 1, 3) := by decide +kernel
theorem V.dX17_declares_209 : decode cX17_declares 209 = .ok (.goto (-39), 3) := by decide +kernel
theorem V.dX17_declares_212 : decode cX17_declares 212 = .ok (.return_, 1) := by decide +kernel
theorem V.fdX17_453 : FD RX17 453 20 24 0 := ⟨(RX20, TX20, 58), tyX20, rfl, rfl, in_X20, by decide, Or.inr ⟨_, q3408⟩, rfl⟩
theorem V.mdX17_658 : MD RX17 658 yX17_declaresIn cX17_declaresIn 4 none 1 := ⟨Or.inl q3807, q377, q3810, by decide, by decide, by decide +kernel⟩
theorem V.fdX17_481 : FD RX17 481 20 34 0 := ⟨(RX20, TX20, 58), tyX20, rfl, rfl, in_X20, by decide, Or.inr ⟨_, q3428⟩, rfl⟩
/-! ModuleEngineModel.declares()V -/
def V.Mdl_declares_p206 (rec170 : HS → Nat → Int32 → Option (Unit × HS)) (σ : HS) (x0 : Nat) (x1 : Int32) : Option (Unit × HS) :=
  bn (x1 + (1 : Int32)) fun y1 =>
  rec170 σ x0 y1
theorem V.gX17_declares_p206 {X : CX} (rec170 : HS → Nat → Int32 → Option (Unit × HS)) (hrec170 : ∀ (σ : HS) (x0 : Nat) (x1 : Int32), G X RX17 "declares" cX17_declares 3 none 5 120 enV 170 [(0, av x0), (1, iv x1)] [] σ (rec170 σ x0 x1)) (σ : HS) (x0 : Nat) (x1 : Int32) : G X RX17 "declares" cX17_declares 3 none 5 120 enV 206 [(0, av x0), (1, iv x1)] [] σ (Mdl_declares_p206 rec170 σ x0 x1) := by
  unfold Mdl_declares_p206
  refine g_iincB (w := 1) 1 dX17_declares_206 rfl (by decide) (by decide) (fun _ => rfl) (fun y1 => ?_)
  refine g_goto 170 dX17_declares_209 (by decide) ?_
  refine G.sub [1, 0] rfl ?_
  exact hrec170 _ _ _
def V.Mdl_declares_p170  : Nat → HS → Nat → Int32 → Option (Unit × HS)
  | 0, _, _, _ => none
  | n + 1, σ, x0, x1 =>
    ck (tg σ x0 = 18) <|
    ck (tg σ (gR σ x0 10) = 21) <|
    if (gI σ (gR σ x0 10) 28) ≤ x1 then (
      some ((), σ))
    else (
      ck (tg σ x0 = 18) <|
      ck (tg σ (gR σ x0 10) = 21) <|
      ck (tg σ (gR σ (gR σ x0 10) 31) = 100 ∧ inb x1 (ln σ (gR σ (gR σ x0 10) 31))) <|
      if (gI σ (gR σ (gR σ x0 10) 31) (ix x1)) = 0 then (
        ck (tg σ x0 = 18) <|
        ck (tg σ (gR σ x0 10) = 21) <|
        ck (tg σ (gR σ (gR σ x0 10) 32) = 101 ∧ inb x1 (ln σ (gR σ (gR σ x0 10) 32))) <|
        ck (tg σ x0 = 18) <| cl (Mdl_declare σ x0 (gJ σ (gR σ (gR σ x0 10) 32) (ix x1))) fun _ σ1 =>
        Mdl_declares_p206 (Mdl_declares_p170 n) σ1 x0 x1)
      else (
        Mdl_declares_p206 (Mdl_declares_p170 n) σ x0 x1))
theorem V.gX17_declares_p170 {X : CX}  : ∀ (n : Nat) (σ : HS) (x0 : Nat) (x1 : Int32), G X RX17 "declares" cX17_declares 3 none 5 120 enV 170 [(0, av x0), (1, iv x1)] [] σ (Mdl_declares_p170 n σ x0 x1)
  | 0, σ, x0, x1 => by rw [Mdl_declares_p170]; exact G.nul
  | n + 1, σ, x0, x1 => by
    rw [Mdl_declares_p170]
    refine g_iload_n 1 1 dX17_declares_170 rfl rfl ?_
    refine g_aload_n 0 0 dX17_declares_171 rfl rfl ?_
    refine g_getR fdX17_221 dX17_declares_172 ?_
    refine g_getI fdX17_466 dX17_declares_175 ?_
    refine g_icmp_ge 212 dX17_declares_178 (by decide) ?_ ?_
    · exact g_return rfl dX17_declares_212
    · refine g_aload_n 0 0 dX17_declares_181 rfl rfl ?_
      refine g_getR fdX17_221 dX17_declares_182 ?_
      refine g_getR fdX17_475 dX17_declares_185 ?_
      refine g_iload_n 1 1 dX17_declares_188 rfl rfl ?_
      refine g_iaload dX17_declares_189 ?_
      refine g_if_ne 206 dX17_declares_190 (by decide) ?_ ?_
      · exact gX17_declares_p206 (Mdl_declares_p170 n) (gX17_declares_p170 n) _ _ _
      · refine g_aload_n 0 0 dX17_declares_193 rfl rfl ?_
        refine g_aload_n 0 0 dX17_declares_194 rfl rfl ?_
        refine g_getR fdX17_221 dX17_declares_195 ?_
        refine g_getR fdX17_478 dX17_declares_198 ?_
        refine g_iload_n 1 1 dX17_declares_201 rfl rfl ?_
        refine g_laload dX17_declares_202 ?_
        refine g_callV (fc := fun sς => Mdl_declare sς x0 (gJ σ (gR σ (gR σ x0 10) 32) (ix x1))) (ci := 17) (as := [jv (gJ σ (gR σ (gR σ x0 10) 32) (ix x1))]) rfl rfl rfl q3817 qs251 mdX17_651 (ctX17_declare x0 (gJ σ (gR σ (gR σ x0 10) 32) (ix x1))) rfl (Nat.le_of_ble_eq_true rfl) (Nat.le_of_ble_eq_true rfl) (Nat.le_of_ble_eq_true rfl) pu_V dX17_declares_203 (fun _ σ1 => ?_)
        exact gX17_declares_p206 (Mdl_declares_p170 n) (gX17_declares_p170 n) _ _ _
def V.Mdl_declares_p156 (rec61 : HS → Nat → Int32 → Option (Unit × HS)) (rec112 : HS → Nat → Int32 → Int32 → Option (Unit × HS)) (σ : HS) (x0 : Nat) (x1 : Int32) (x2 : Int32) : Option (Unit × HS) :=
  bn (x2 + (1 : Int32)) fun y1 =>
  rec112 σ x0 x1 y1
theorem V.gX17_declares_p156 {X : CX} (rec61 : HS → Nat → Int32 → Option (Unit × HS)) (hrec61 : ∀ (σ : HS) (x0 : Nat) (x1 : Int32), G X RX17 "declares" cX17_declares 3 none 5 120 enV 61 [(0, av x0), (1, iv x1)] [] σ (rec61 σ x0 x1)) (rec112 : HS → Nat → Int32 → Int32 → Option (Unit × HS)) (hrec112 : ∀ (σ : HS) (x0 : Nat) (x1 : Int32) (x2 : Int32), G X RX17 "declares" cX17_declares 3 none 5 120 enV 112 [(0, av x0), (1, iv x1), (2, iv x2)] [] σ (rec112 σ x0 x1 x2)) (σ : HS) (x0 : Nat) (x1 : Int32) (x2 : Int32) : G X RX17 "declares" cX17_declares 3 none 5 120 enV 156 [(0, av x0), (1, iv x1), (2, iv x2)] [] σ (Mdl_declares_p156 rec61 rec112 σ x0 x1 x2) := by
  unfold Mdl_declares_p156
  refine g_iincB (w := 1) 2 dX17_declares_156 rfl (by decide) (by decide) (fun _ => rfl) (fun y1 => ?_)
  refine g_goto 112 dX17_declares_159 (by decide) ?_
  refine G.sub [1, 2, 0] rfl ?_
  exact hrec112 _ _ _ _
def V.Mdl_declares_p112 (rec61 : HS → Nat → Int32 → Option (Unit × HS)) : Nat → HS → Nat → Int32 → Int32 → Option (Unit × HS)
  | 0, _, _, _, _ => none
  | n + 1, σ, x0, x1, x2 =>
    ck (tg σ x0 = 18) <|
    ck (tg σ (gR σ x0 10) = 21) <|
    ck (tg σ (gR σ (gR σ x0 10) 40) = 100 ∧ inb x1 (ln σ (gR σ (gR σ x0 10) 40))) <|
    if (gI σ (gR σ (gR σ x0 10) 40) (ix x1)) ≤ x2 then (
      bn (x1 + (1 : Int32)) fun y1 =>
      rec61 σ x0 y1)
    else (
      ck (tg σ x0 = 18) <|
      ck (tg σ (gR σ x0 10) = 21) <|
      ck (tg σ (gR σ (gR σ x0 10) 39) = 103 ∧ inb x1 (ln σ (gR σ (gR σ x0 10) 39))) <|
      if (gI σ (gR σ (gR σ x0 10) 39) (ix x1)) = 0 then (
        ck (tg σ x0 = 18) <| cl (Mdl_word σ x0 ) fun r3 σ2 =>
        ck (tg σ2 x0 = 18) <| cl (Mdl_declare σ2 x0 r3) fun _ σ4 =>
        Mdl_declares_p156 rec61 (Mdl_declares_p112 rec61 n) σ4 x0 x1 x2)
      else (
        ck (tg σ x0 = 18) <|
        ck (tg σ x0 = 18) <| cl (Mdl_declaresIn σ x0 (gI σ x0 19)) fun _ σ5 =>
        Mdl_declares_p156 rec61 (Mdl_declares_p112 rec61 n) σ5 x0 x1 x2))
theorem V.gX17_declares_p112 {X : CX} (rec61 : HS → Nat → Int32 → Option (Unit × HS)) (hrec61 : ∀ (σ : HS) (x0 : Nat) (x1 : Int32), G X RX17 "declares" cX17_declares 3 none 5 120 enV 61 [(0, av x0), (1, iv x1)] [] σ (rec61 σ x0 x1)) : ∀ (n : Nat) (σ : HS) (x0 : Nat) (x1 : Int32) (x2 : Int32), G X RX17 "declares" cX17_declares 3 none 5 120 enV 112 [(0, av x0), (1, iv x1), (2, iv x2)] [] σ (Mdl_declares_p112 rec61 n σ x0 x1 x2)
  | 0, σ, x0, x1, x2 => by rw [Mdl_declares_p112]; exact G.nul
  | n + 1, σ, x0, x1, x2 => by
    rw [Mdl_declares_p112]
    refine g_iload_n 2 2 dX17_declares_112 rfl rfl ?_
    refine g_aload_n 0 0 dX17_declares_113 rfl rfl ?_
    refine g_getR fdX17_221 dX17_declares_114 ?_
    refine g_getR fdX17_507 dX17_declares_117 ?_
    refine g_iload_n 1 1 dX17_declares_120 rfl rfl ?_
    refine g_iaload dX17_declares_121 ?_
    refine g_icmp_ge 162 dX17_declares_122 (by decide) ?_ ?_
    · refine g_iincB (w := 1) 1 dX17_declares_162 rfl (by decide) (by decide) (fun _ => rfl) (fun y1 => ?_)
      refine g_goto 61 dX17_declares_165 (by decide) ?_
      refine G.sub [1, 0] rfl ?_
      exact hrec61 _ _ _
    · refine g_aload_n 0 0 dX17_declares_125 rfl rfl ?_
      refine g_getR fdX17_221 dX17_declares_126 ?_
      refine g_getR fdX17_498 dX17_declares_129 ?_
      refine g_iload_n 1 1 dX17_declares_132 rfl rfl ?_
      refine g_zaload dX17_declares_133 ?_
      refine g_if_eq 148 dX17_declares_134 (by decide) ?_ ?_
      · refine g_aload_n 0 0 dX17_declares_148 rfl rfl ?_
        refine g_aload_n 0 0 dX17_declares_149 rfl rfl ?_
        refine g_callV (fc := fun sς => Mdl_word sς x0 ) (ci := 17) (as := []) rfl rfl rfl q3813 qs250 mdX17_603 (ctX17_word x0 ) rfl (Nat.le_of_ble_eq_true rfl) (Nat.le_of_ble_eq_true rfl) (Nat.le_of_ble_eq_true rfl) pu_J dX17_declares_150 (fun r3 σ2 => ?_)
        refine g_callV (fc := fun sς => Mdl_declare sς x0 r3) (ci := 17) (as := [jv r3]) rfl rfl rfl q3817 qs251 mdX17_651 (ctX17_declare x0 r3) rfl (Nat.le_of_ble_eq_true rfl) (Nat.le_of_ble_eq_true rfl) (Nat.le_of_ble_eq_true rfl) pu_V dX17_declares_153 (fun _ σ4 => ?_)
        exact gX17_declares_p156 rec61 hrec61 (Mdl_declares_p112 rec61 n) (gX17_declares_p112 rec61 hrec61 n) _ _ _ _
      · refine g_aload_n 0 0 dX17_declares_137 rfl rfl ?_
        refine g_aload_n 0 0 dX17_declares_138 rfl rfl ?_
        refine g_getI fdX17_594 dX17_declares_139 ?_
        refine g_callV (fc := fun sς => Mdl_declaresIn sς x0 (gI σ x0 19)) (ci := 17) (as := [iv (gI σ x0 19)]) rfl rfl rfl q3809 qs249 mdX17_658 (ctX17_declaresIn x0 (gI σ x0 19)) rfl (Nat.le_of_ble_eq_true rfl) (Nat.le_of_ble_eq_true rfl) (Nat.le_of_ble_eq_true rfl) pu_V dX17_declares_142 (fun _ σ5 => ?_)
        refine g_goto 156 dX17_declares_145 (by decide) ?_
        exact gX17_declares_p156 rec61 hrec61 (Mdl_declares_p112 rec61 n) (gX17_declares_p112 rec61 hrec61 n) _ _ _ _
def V.Mdl_declares_p97 (rec61 : HS → Nat → Int32 → Option (Unit × HS)) (σ : HS) (x0 : Nat) (x1 : Int32) : Option (Unit × HS) :=
  ck (tg σ x0 = 18) <|
  ck (tg σ (gR σ x0 10) = 21) <|
  ck (tg σ (gR σ (gR σ x0 10) 41) = 100 ∧ inb x1 (ln σ (gR σ (gR σ x0 10) 41))) <|
  ck (tg σ x0 = 18) <| bn (sI σ x0 19 (gI σ (gR σ (gR σ x0 10) 41) (ix x1))) fun σ1 =>
  Mdl_declares_p112 rec61 FU σ1 x0 x1 (0 : Int32)
theorem V.gX17_declares_p97 {X : CX} (rec61 : HS → Nat → Int32 → Option (Unit × HS)) (hrec61 : ∀ (σ : HS) (x0 : Nat) (x1 : Int32), G X RX17 "declares" cX17_declares 3 none 5 120 enV 61 [(0, av x0), (1, iv x1)] [] σ (rec61 σ x0 x1)) (σ : HS) (x0 : Nat) (x1 : Int32) : G X RX17 "declares" cX17_declares 3 none 5 120 enV 97 [(0, av x0), (1, iv x1)] [] σ (Mdl_declares_p97 rec61 σ x0 x1) := by
  unfold Mdl_declares_p97
  refine g_aload_n 0 0 dX17_declares_97 rfl rfl ?_
  refine g_aload_n 0 0 dX17_declares_98 rfl rfl ?_
  refine g_getR fdX17_221 dX17_declares_99 ?_
  refine g_getR fdX17_504 dX17_declares_102 ?_
  refine g_iload_n 1 1 dX17_declares_105 rfl rfl ?_
  refine g_iaload dX17_declares_106 ?_
  refine g_putI fpX17_594 dX17_declares_107 (fun σ1 => ?_)
  refine g_iconst (v := 0) dX17_declares_110 (by decide) ?_
  refine g_istore_n 2 dX17_declares_111 rfl (by decide) rfl ?_
  refine G.sub [1, 2, 0] rfl ?_
  exact gX17_declares_p112 rec61 hrec61 FU _ _ _ _
def V.Mdl_declares_p61  : Nat → HS → Nat → Int32 → Option (Unit × HS)
  | 0, _, _, _ => none
  | n + 1, σ, x0, x1 =>
    ck (tg σ x0 = 18) <|
    ck (tg σ (gR σ x0 10) = 21) <|
    if (gI σ (gR σ x0 10) 34) ≤ x1 then (
      Mdl_declares_p170 FU σ x0 (0 : Int32))
    else (
      ck (tg σ x0 = 18) <|
      ck (tg σ (gR σ x0 10) = 21) <|
      ck (tg σ (gR σ (gR σ x0 10) 35) = 100 ∧ inb x1 (ln σ (gR σ (gR σ x0 10) 35))) <|
      if (gI σ (gR σ (gR σ x0 10) 35) (ix x1)) = 0 then (
        ck (tg σ x0 = 18) <|
        ck (tg σ (gR σ x0 10) = 21) <|
        ck (tg σ (gR σ (gR σ x0 10) 37) = 100 ∧ inb x1 (ln σ (gR σ (gR σ x0 10) 37))) <|
        ck (tg σ x0 = 18) <| cl (Mdl_declaresIn σ x0 (gI σ (gR σ (gR σ x0 10) 37) (ix x1))) fun _ σ1 =>
        Mdl_declares_p97 (Mdl_declares_p61 n) σ1 x0 x1)
      else (
        Mdl_declares_p97 (Mdl_declares_p61 n) σ x0 x1))
theorem V.gX17_declares_p61 {X : CX}  : ∀ (n : Nat) (σ : HS) (x0 : Nat) (x1 : Int32), G X RX17 "declares" cX17_declares 3 none 5 120 enV 61 [(0, av x0), (1, iv x1)] [] σ (Mdl_declares_p61 n σ x0 x1)
  | 0, σ, x0, x1 => by rw [Mdl_declares_p61]; exact G.nul
  | n + 1, σ, x0, x1 => by
    rw [Mdl_declares_p61]
    refine g_iload_n 1 1 dX17_declares_61 rfl rfl ?_
    refine g_aload_n 0 0 dX17_declares_62 rfl rfl ?_
    refine g_getR fdX17_221 dX17_declares_63 ?_
    refine g_getI fdX17_481 dX17_declares_66 ?_
    refine g_icmp_ge 168 dX17_declares_69 (by decide) ?_ ?_
    · refine g_iconst (v := 0) dX17_declares_168 (by decide) ?_
      refine g_istore_n 1 dX17_declares_169 rfl (by decide) rfl ?_
      refine G.sub [1, 0] rfl ?_
      exact gX17_declares_p170 FU _ _ _
    · refine g_aload_n 0 0 dX17_declares_72 rfl rfl ?_
      refine g_getR fdX17_221 dX17_declares_73 ?_
      refine g_getR fdX17_489 dX17_declares_76 ?_
      refine g_iload_n 1 1 dX17_declares_79 rfl rfl ?_
      refine g_iaload dX17_declares_80 ?_
      refine g_if_ne 97 dX17_declares_81 (by decide) ?_ ?_
      · exact gX17_declares_p97 (Mdl_declares_p61 n) (gX17_declares_p61 n) _ _ _
      · refine g_aload_n 0 0 dX17_declares_84 rfl rfl ?_
        refine g_aload_n 0 0 dX17_declares_85 rfl rfl ?_
        refine g_getR fdX17_221 dX17_declares_86 ?_
        refine g_getR fdX17_495 dX17_declares_89 ?_
        refine g_iload_n 1 1 dX17_declares_92 rfl rfl ?_
        refine g_iaload dX17_declares_93 ?_
        refine g_callV (fc := fun sς => Mdl_declaresIn sς x0 (gI σ (gR σ (gR σ x0 10) 37) (ix x1))) (ci := 17) (as := [iv (gI σ (gR σ (gR σ x0 10) 37) (ix x1))]) rfl rfl rfl q3809 qs249 mdX17_658 (ctX17_declaresIn x0 (gI σ (gR σ (gR σ x0 10) 37) (ix x1))) rfl (Nat.le_of_ble_eq_true rfl) (Nat.le_of_ble_eq_true rfl) (Nat.le_of_ble_eq_true rfl) pu_V dX17_declares_94 (fun _ σ1 => ?_)
        exact gX17_declares_p97 (Mdl_declares_p61 n) (gX17_declares_p61 n) _ _ _
def V.Mdl_declares_p29  : Nat → HS → Nat → Int32 → Option (Unit × HS)
  | 0, _, _, _ => none
  | n + 1, σ, x0, x1 =>
    ck (tg σ x0 = 18) <|
    ck (tg σ (gR σ x0 10) = 21) <|
    if (gI σ (gR σ x0 10) 24) ≤ x1 then (
      Mdl_declares_p61 FU σ x0 (0 : Int32))
    else (
      ck (tg σ x0 = 18) <|
      ck (tg σ (gR σ x0 10) = 21) <|
      ck (tg σ (gR σ (gR σ x0 10) 27) = 100 ∧ inb x1 (ln σ (gR σ (gR σ x0 10) 27))) <|
      ck (tg σ x0 = 18) <| cl (Mdl_declaresIn σ x0 (gI σ (gR σ (gR σ x0 10) 27) (ix x1))) fun _ σ1 =>
      bn (x1 + (1 : Int32)) fun y2 =>
      Mdl_declares_p29 n σ1 x0 y2)
theorem V.gX17_declares_p29 {X : CX}  : ∀ (n : Nat) (σ : HS) (x0 : Nat) (x1 : Int32), G X RX17 "declares" cX17_declares 3 none 5 120 enV 29 [(0, av x0), (1, iv x1)] [] σ (Mdl_declares_p29 n σ x0 x1)
  | 0, σ, x0, x1 => by rw [Mdl_declares_p29]; exact G.nul
  | n + 1, σ, x0, x1 => by
    rw [Mdl_declares_p29]
    refine g_iload_n 1 1 dX17_declares_29 rfl rfl ?_
    refine g_aload_n 0 0 dX17_declares_30 rfl rfl ?_
    refine g_getR fdX17_221 dX17_declares_31 ?_
    refine g_getI fdX17_453 dX17_declares_34 ?_
    refine g_icmp_ge 59 dX17_declares_37 (by decide) ?_ ?_
    · refine g_iconst (v := 0) dX17_declares_59 (by decide) ?_
      refine g_istore_n 1 dX17_declares_60 rfl (by decide) rfl ?_
      refine G.sub [1, 0] rfl ?_
      exact gX17_declares_p61 FU _ _ _
    · refine g_aload_n 0 0 dX17_declares_40 rfl rfl ?_
      refine g_aload_n 0 0 dX17_declares_41 rfl rfl ?_
      refine g_getR fdX17_221 dX17_declares_42 ?_
      refine g_getR fdX17_463 dX17_declares_45 ?_
      refine g_iload_n 1 1 dX17_declares_48 rfl rfl ?_
      refine g_iaload dX17_declares_49 ?_
      refine g_callV (fc := fun sς => Mdl_declaresIn sς x0 (gI σ (gR σ (gR σ x0 10) 27) (ix x1))) (ci := 17) (as := [iv (gI σ (gR σ (gR σ x0 10) 27) (ix x1))]) rfl rfl rfl q3809 qs249 mdX17_658 (ctX17_declaresIn x0 (gI σ (gR σ (gR σ x0 10) 27) (ix x1))) rfl (Nat.le_of_ble_eq_true rfl) (Nat.le_of_ble_eq_true rfl) (Nat.le_of_ble_eq_true rfl) pu_V dX17_declares_50 (fun _ σ1 => ?_)
      refine g_iincB (w := 1) 1 dX17_declares_53 rfl (by decide) (by decide) (fun _ => rfl) (fun y2 => ?_)
      refine g_goto 29 dX17_declares_56 (by decide) ?_
      refine G.sub [1, 0] rfl ?_
      exact gX17_declares_p29 n _ _ _
def V.Mdl_declares_p2  : Nat → HS → Nat → Int32 → Option (Unit × HS)
  | 0, _, _, _ => none
  | n + 1, σ, x0, x1 =>
    if (128 : Int32) ≤ x1 then (
      ck (tg σ x0 = 18) <| bn (sI σ x0 21 (0 : Int32)) fun σ1 =>
      Mdl_declares_p29 FU σ1 x0 (0 : Int32))
    else (
      ck (tg σ x0 = 18) <|
      ck (tg σ (gR σ x0 20) = 103 ∧ inb x1 (ln σ (gR σ x0 20)) ∧ zb (0 : Int32)) <| bn (sI σ (gR σ x0 20) (ix x1) (0 : Int32)) fun σ2 =>
      bn (x1 + (1 : Int32)) fun y3 =>
      Mdl_declares_p2 n σ2 x0 y3)
theorem V.gX17_declares_p2 {X : CX}  : ∀ (n : Nat) (σ : HS) (x0 : Nat) (x1 : Int32), G X RX17 "declares" cX17_declares 3 none 5 120 enV 2 [(0, av x0), (1, iv x1)] [] σ (Mdl_declares_p2 n σ x0 x1)
  | 0, σ, x0, x1 => by rw [Mdl_declares_p2]; exact G.nul
  | n + 1, σ, x0, x1 => by
    rw [Mdl_declares_p2]
    refine g_iload_n 1 1 dX17_declares_2 rfl rfl ?_
    refine g_sipush (v := 128) dX17_declares_3 (by decide) ?_
    refine g_icmp_ge 22 dX17_declares_6 (by decide) ?_ ?_
    · refine g_aload_n 0 0 dX17_declares_22 rfl rfl ?_
      refine g_iconst (v := 0) dX17_declares_23 (by decide) ?_
      refine g_putI fpX17_648 dX17_declares_24 (fun σ1 => ?_)
      refine g_iconst (v := 0) dX17_declares_27 (by decide) ?_
      refine g_istore_n 1 dX17_declares_28 rfl (by decide) rfl ?_
      refine G.sub [1, 0] rfl ?_
      exact gX17_declares_p29 FU _ _ _
    · refine g_aload_n 0 0 dX17_declares_9 rfl rfl ?_
      refine g_getR fdX17_35 dX17_declares_10 ?_
      refine g_iload_n 1 1 dX17_declares_13 rfl rfl ?_
      refine g_iconst (v := 0) dX17_declares_14 (by decide) ?_
      refine g_zastore dX17_declares_15 (fun σ2 => ?_)
      refine g_iincB (w := 1) 1 dX17_declares_16 rfl (by decide) (by decide) (fun _ => rfl) (fun y3 => ?_)
      refine g_goto 2 dX17_declares_19 (by decide) ?_
      refine G.sub [1, 0] rfl ?_
      exact gX17_declares_p2 n _ _ _
def V.Mdl_declares (σ : HS) (x0 : Nat) : Option (Unit × HS) :=
  Mdl_declares_p2 FU σ x0 (0 : Int32)
theorem V.ctX17_declares (x0 : Nat) : Ct yX17_declares  cX17_declares 3 none 5 120 eV [av x0] (fun σ => Mdl_declares σ x0) := by
  refine Ct.of (own := RX17) (nm := "declares") (desc := "()V") rfl (by decide) (Nat.le_of_ble_eq_true rfl) (by decide) (fun X σ => ?_)
  show G X RX17 "declares" cX17_declares 3 none 5 120 enV 0 [(0, av x0)] [] σ (Mdl_declares σ x0)
  unfold Mdl_declares
  refine g_iconst (v := 0) dX17_declares_0 (by decide) ?_
  refine g_istore_n 1 dX17_declares_1 rfl (by decide) rfl ?_
  refine G.sub [1, 0] rfl ?_
  exact gX17_declares_p2 FU _ _ _
theorem V.dX17_constantType_0 : decode cX17_constantType 0 = .ok (.aload_n 0, 1) := by decide +kernel
theorem V.dX17_constantType_1 : decode cX17_constantType 1 = .ok (.getfield 221, 3) := by decide +kernel
theorem V.dX17_constantType_4 : decode cX17_constantType 4 = .ok (.iload_n 1, 1) := by decide +kernel
theorem V.dX17_constantType_5 : decode cX17_constantType 5 = .ok (.invokevirtual 261, 3) := by decide +kernel
theorem V.dX17_constantType_8 : decode cX17_constantType 8 = .ok (.istore_n 2, 1) := by decide +kernel
theorem V.dX17_constantType_9 : decode cX17_constantType 9 = .ok (.aload_n 0, 1) := by decide +kernel
theorem V.dX17_constantType_10 : decode cX17_constantType 10 = .ok (.iload_n 1, 1) := by decide +kernel
theorem V.dX17_constantType_11 : decode cX17_constantType 11 = .ok (.iconst 1, 1) := by decide +kernel
theorem V.dX17_constantType_12 : decode cX17_constantType 12 = .ok (.iadd, 1) := by decide +kernel
theorem V.dX17_constantType_13 : decode cX17_constantType 13 = .ok (.putfield 594, 3) := by decide +kernel
theorem V.dX17_constantType_16 : decode cX17_constantType 16 = .ok (.iload_n 2, 1) := by decide +kernel
theorem V.dX17_constantType_17 : decode cX17_constantType 17 = .ok (.bipush 65, 2) := by decide +kernel
theorem V.dX17_constantType_19 : decode cX17_constantType 19 = .ok (.if_icmp .lt 15, 3) := by decide +kernel
theorem V.dX17_constantType_22 : decode cX17_constantType 22 = .ok (.iload_n 2, 1) := by decide +kernel
theorem V.dX17_constantType_23 : decode cX17_constantType 23 = .ok (.bipush 68, 2) := by decide +kernel
theorem V.dX17_constantType_25 : decode cX17_constantType 25 = .ok (.if_icmp .gt 9, 3) := by decide +kernel
theorem V.dX17_constantType_28 : decode cX17_constantType 28 = .ok (.sipush 192, 3) := by decide +kernel
theorem V.dX17_constantType_31 : decode cX17_constantType 31 = .ok (.iload_n 2, 1) := by decide +kernel
theorem V.dX17_constantType_32 : decode cX17_constantType 32 = .ok (.isub, 1) := by decide +kernel
theorem V.dX17_constantType_33 : decode cX17_constantType 33 = .ok (.ireturn, 1) := by decide +kernel
theorem V.dX17_constantType_34 : decode cX17_constantType 34 = .ok (.iload_n 2, 1) := by decide +kernel
theorem V.dX17_constantType_35 : decode cX17_constantType 35 = .ok (.sipush 208, 3) := by decide +kernel
theorem V.dX17_constantType_38 : decode cX17_constantType 38 = .ok (.if_icmp .ne 14, 3) := by decide +kernel
theorem V.dX17_constantType_41 : decode cX17_constantType 41 = .ok (.aload_n 0, 1) := by decide +kernel
theorem V.dX17_constantType_42 : decode cX17_constantType 42 = .ok (.getfield 221, 3) := by decide +kernel
theorem V.dX17_constantType_45 : decode cX17_constantType 45 = .ok (.iload_n 1, 1) := by decide +kernel
theorem V.dX17_constantType_46 : decode cX17_constantType 46 = .ok (.iconst 1, 1) := by decide +kernel
theorem V.dX17_constantType_47 : decode cX17_constantType 47 = .ok (.iadd, 1) := by decide +kernel
theorem V.dX17_constantType_48 : decode cX17_constantType 48 = .ok (.invokevirtual 261, 3) := by decide +kernel
theorem V.dX17_constantType_51 : decode cX17_constantType 51 = .ok (.ireturn, 1) := by decide +kernel
theorem V.dX17_constantType_52 : decode cX17_constantType 52 = .ok (.iload_n 2, 1) := by decide +kernel
theorem V.dX17_constantType_53 : decode cX17_constantType 53 = .ok (.sipush 210, 3) := by decide +kernel
theorem V.dX17_constantType_56 : decode cX17_constantType 56 = .ok (.if_icmp .ne 6, 3) := by decide +kernel
theorem V.dX17_constantType_59 : decode cX17_constantType 59 = .ok (.bipush 112, 2) := by decide +kernel
theorem V.dX17_constantType_61 : decode cX17_constantType 61 = .ok (.ireturn, 1) := by decide +kernel
theorem V.dX17_constantType_62 : decode cX17_constantType 62 = .ok (.iload_n 2, 1) := by decide +kernel
theorem V.dX17_constantType_63 : decode cX17_constantType 63 = .ok (.bipush 35, 2) := by decide +kernel
theorem V.dX17_constantType_65 : decode cX17_constantType 65 = .ok (.if_icmp .eq 5, 3) := by decide +kernel
theorem V.dX17_constantType_68 : decode cX17_constantType 68 = .ok (.iconst 0, 1) := by decide +kernel
theorem V.dX17_constantType_69 : decode cX17_constantType 69 = .ok (.ireturn, 1) := by decide +kernel
theorem V.dX17_constantType_70 : decode cX17_constantType 70 = .ok (.aload_n 0, 1) := by decide +kernel
theorem V.dX17_constantType_71 : decode cX17_constantType 71 = .ok (.invokevirtual 603, 3) := by decide +kernel
theorem V.dX17_constantType_74 : decode cX17_constantType 74 = .ok (.lstore_n 3, 1) := by decide +kernel
theorem V.dX17_constantType_75 : decode cX17_constantType 75 = .ok (.lload_n 3, 1) := by decide +kernel
theorem V.dX17_constantType_76 : decode cX17_constantType 76 = .ok (.aload_n 0, 1) := by decide +kernel
theorem V.dX17_constantType_77 : decode cX17_constantType 77 = .ok (.getfield 221, 3) := by decide +kernel
theorem V.dX17_constantType_80 : decode cX17_constantType 80 = .ok (.iconst 3, 1) := by decide +kernel
theorem V.dX17_constantType_81 : decode cX17_constantType 81 = .ok (.invokevirtual 664, 3) := by decide +kernel
theorem V.dX17_constantType_84 : decode cX17_constantType 84 = .ok (.i2l, 1) := by decide +kernel
theorem V.dX17_constantType_85 : decode cX17_constantType 85 = .ok (.lcmp, 1) := by decide +kernel
theorem V.dX17_constantType_86 : decode cX17_constantType 86 = .ok (.ifCond .ge 27, 3) := by decide +kernel
theorem V.dX17_constantType_89 : decode cX17_constantType 89 = .ok (.aload_n 0, 1) := by decide +kernel
theorem V.dX17_constantType_90 : decode cX17_constantType 90 = .ok (.getfield 221, 3) := by decide +kernel
theorem V.dX17_constantType_93 : decode cX17_constantType 93 = .ok (.lload_n 3, 1) := by decide +kernel
theorem V.dX17_constantType_94 : decode cX17_constantType 94 = .ok (.l2i, 1) := by decide +kernel
theorem V.dX17_constantType_95 : decode cX17_constantType 95 = .ok (.invokevirtual 667, 3) := by decide +kernel
theorem V.dX17_constantType_98 : decode cX17_constantType 98 = .ok (.ifCond .ne 15, 3) := by decide +kernel
theorem V.dX17_constantType_101 : decode cX17_constantType 101 = .ok (.aload_n 0, 1) := by decide +kernel
theorem V.dX17_constantType_102 : decode cX17_constantType 102 = .ok (.getfield 221, 3) := by decide +kernel
theorem V.dX17_constantType_105 : decode cX17_constantType 105 = .ok (.lload_n 3, 1) := by decide +kernel
theorem V.dX17_constantType_106 : decode cX17_constantType 106 = .ok (.l2i, 1) := by decide +kernel
theorem V.dX17_constantType_107 : decode cX17_constantType 107 = .ok (.invokevirtual 670, 3) := by decide +kernel
theorem V.dX17_constantType_110 : decode cX17_constantType 110 = .ok (.goto 4, 3) := by decide +kernel
theorem V.dX17_constantType_113 : decode cX17_constantType 113 = .ok (.iconst 0, 1) := by decide +kernel
theorem V.dX17_constantType_114 : decode cX17_constantType 114 = .ok (.ireturn, 1) := by decide +kernel
theorem V.mdX17_664 : MD RX17 664 yX20_imported cX20_imported 4 (some .int) 1 := ⟨Or.inl q3844, q385, q3786, by decide, by decide, by decide +kernel⟩
theorem V.mdX17_667 : MD RX17 667 yX20_globalMoves cX20_globalMoves 3 (some .boolean) 1 := ⟨Or.inl q3845, q385, q3848, by decide, by decide, by decide +kernel⟩
theorem V.mdX17_670 : MD RX17 670 yX20_typeOfGlobal cX20_typeOfGlobal 3 (some .int) 1 := ⟨Or.inl q3849, q385, q3852, by decide, by decide, by decide +kernel⟩
/-! ModuleEngineModel.constantType(I)I -/
def V.Mdl_constantType_p34  (σ : HS) (x0 : Nat) (x1 : Int32) (x2 : Int32) : Option (Int32 × HS) :=
  if x2 = (208 : Int32) then (
    ck (tg σ x0 = 18) <|
    ck (tg σ (gR σ x0 10) = 21) <| cl (Pln_at σ (gR σ x0 10) (x1 + (1 : Int32))) fun r10 σ9 =>
    some (r10, σ9))
  else (
    if x2 = (210 : Int32) then (
      some ((112 : Int32), σ))
    else (
      if x2 = (35 : Int32) then (
        ck (tg σ x0 = 18) <| cl (Mdl_word σ x0 ) fun r2 σ1 =>
        ck (tg σ1 x0 = 18) <|
        ck (tg σ1 (gR σ1 x0 10) = 21) <| cl (Pln_imported σ1 (gR σ1 x0 10) (3 : Int32)) fun r4 σ3 =>
        if r4.toInt64 ≤ r2 then (
          some ((0 : Int32), σ3))
        else (
          ck (tg σ3 x0 = 18) <|
          ck (tg σ3 (gR σ3 x0 10) = 21) <| cl (Pln_globalMoves σ3 (gR σ3 x0 10) r2.toInt32) fun r6 σ5 =>
          if r6 = 0 then (
            ck (tg σ5 x0 = 18) <|
            ck (tg σ5 (gR σ5 x0 10) = 21) <| cl (Pln_typeOfGlobal σ5 (gR σ5 x0 10) r2.toInt32) fun r8 σ7 =>
            some (r8, σ7))
          else (
            some ((0 : Int32), σ5))))
      else (
        some ((0 : Int32), σ))))
theorem V.gX17_constantType_p34 {X : CX}  (σ : HS) (x0 : Nat) (x1 : Int32) (x2 : Int32) : G X RX17 "constantType" cX17_constantType 5 (some .int) 2 46 enI 34 [(0, av x0), (1, iv x1), (2, iv x2)] [] σ (Mdl_constantType_p34 σ x0 x1 x2) := by
  unfold Mdl_constantType_p34
  refine g_iload_n 2 2 dX17_constantType_34 rfl rfl ?_
  refine g_sipush (v := 208) dX17_constantType_35 (by decide) ?_
  refine g_icmp_ne 52 dX17_constantType_38 (by decide) ?_ ?_
  · refine g_iload_n 2 2 dX17_constantType_52 rfl rfl ?_
    refine g_sipush (v := 210) dX17_constantType_53 (by decide) ?_
    refine g_icmp_ne 62 dX17_constantType_56 (by decide) ?_ ?_
    · refine g_iload_n 2 2 dX17_constantType_62 rfl rfl ?_
      refine g_bipush (v := 35) dX17_constantType_63 (by decide) ?_
      refine g_icmp_eq 70 dX17_constantType_65 (by decide) ?_ ?_
      · refine g_aload_n 0 0 dX17_constantType_70 rfl rfl ?_
        refine g_callV (fc := fun sς => Mdl_word sς x0 ) (ci := 17) (as := []) rfl rfl rfl q3813 qs250 mdX17_603 (ctX17_word x0 ) rfl (Nat.le_of_ble_eq_true rfl) (Nat.le_of_ble_eq_true rfl) (Nat.le_of_ble_eq_true rfl) pu_J dX17_constantType_71 (fun r2 σ1 => ?_)
        refine g_lstore_n 3 dX17_constantType_74 rfl (by decide) rfl ?_
        refine g_lload_n 3 0 dX17_constantType_75 rfl rfl ?_
        refine g_aload_n 0 1 dX17_constantType_76 rfl rfl ?_
        refine g_getR fdX17_221 dX17_constantType_77 ?_
        refine g_iconst (v := 3) dX17_constantType_80 (by decide) ?_
        refine g_callV (fc := fun sς => Pln_imported sς (gR σ1 x0 10) (3 : Int32)) (ci := 20) (as := [iv (3 : Int32)]) rfl rfl rfl q3784 q3785 mdX17_664 (ctX20_imported (gR σ1 x0 10) (3 : Int32)) rfl (Nat.le_of_ble_eq_true rfl) (Nat.le_of_ble_eq_true rfl) (Nat.le_of_ble_eq_true rfl) pu_I dX17_constantType_81 (fun r4 σ3 => ?_)
        refine g_i2l dX17_constantType_84 ?_
        refine g_lcmp_ge 113 dX17_constantType_85 dX17_constantType_86 (by decide) ?_ ?_
        · refine g_iconst (v := 0) dX17_constantType_113 (by decide) ?_
          exact g_ireturn rfl dX17_constantType_114
        · refine g_aload_n 0 1 dX17_constantType_89 rfl rfl ?_
          refine g_getR fdX17_221 dX17_constantType_90 ?_
          refine g_lload_n 3 0 dX17_constantType_93 rfl rfl ?_
          refine g_l2i dX17_constantType_94 ?_
          refine g_callV (fc := fun sς => Pln_globalMoves sς (gR σ3 x0 10) r2.toInt32) (ci := 20) (as := [iv r2.toInt32]) rfl rfl rfl q3846 q3847 mdX17_667 (ctX20_globalMoves (gR σ3 x0 10) r2.toInt32) rfl (Nat.le_of_ble_eq_true rfl) (Nat.le_of_ble_eq_true rfl) (Nat.le_of_ble_eq_true rfl) pu_I dX17_constantType_95 (fun r6 σ5 => ?_)
          refine g_if_ne 113 dX17_constantType_98 (by decide) ?_ ?_
          · refine g_iconst (v := 0) dX17_constantType_113 (by decide) ?_
            exact g_ireturn rfl dX17_constantType_114
          · refine g_aload_n 0 1 dX17_constantType_101 rfl rfl ?_
            refine g_getR fdX17_221 dX17_constantType_102 ?_
            refine g_lload_n 3 0 dX17_constantType_105 rfl rfl ?_
            refine g_l2i dX17_constantType_106 ?_
            refine g_callV (fc := fun sς => Pln_typeOfGlobal sς (gR σ5 x0 10) r2.toInt32) (ci := 20) (as := [iv r2.toInt32]) rfl rfl rfl q3850 q3851 mdX17_670 (ctX20_typeOfGlobal (gR σ5 x0 10) r2.toInt32) rfl (Nat.le_of_ble_eq_true rfl) (Nat.le_of_ble_eq_true rfl) (Nat.le_of_ble_eq_true rfl) pu_I dX17_constantType_107 (fun r8 σ7 => ?_)
            refine g_goto 114 dX17_constantType_110 (by decide) ?_
            exact g_ireturn rfl dX17_constantType_114
      · refine g_iconst (v := 0) dX17_constantType_68 (by decide) ?_
        exact g_ireturn rfl dX17_constantType_69
    · refine g_bipush (v := 112) dX17_constantType_59 (by decide) ?_
      exact g_ireturn rfl dX17_constantType_61
  · refine g_aload_n 0 0 dX17_constantType_41 rfl rfl ?_
    refine g_getR fdX17_221 dX17_constantType_42 ?_
    refine g_iload_n 1 1 dX17_constantType_45 rfl rfl ?_
    refine g_iconst (v := 1) dX17_constantType_46 (by decide) ?_
    refine g_iadd dX17_constantType_47 ?_
    refine g_callV (fc := fun sς => Pln_at sς (gR σ x0 10) (x1 + (1 : Int32))) (ci := 20) (as := [iv (x1 + (1 : Int32))]) rfl rfl rfl q3609 q3610 mdX17_261 (ctX20_at (gR σ x0 10) (x1 + (1 : Int32))) rfl (Nat.le_of_ble_eq_true rfl) (Nat.le_of_ble_eq_true rfl) (Nat.le_of_ble_eq_true rfl) pu_I dX17_constantType_48 (fun r10 σ9 => ?_)
    exact g_ireturn rfl dX17_constantType_51
def V.Mdl_constantType (σ : HS) (x0 : Nat) (x1 : Int32) : Option (Int32 × HS) :=
  ck (tg σ x0 = 18) <|
  ck (tg σ (gR σ x0 10) = 21) <| cl (Pln_at σ (gR σ x0 10) x1) fun r2 σ1 =>
  ck (tg σ1 x0 = 18) <| bn (sI σ1 x0 19 (x1 + (1 : Int32))) fun σ3 =>
  if r2 < (65 : Int32) then (
    Mdl_constantType_p34 σ3 x0 x1 r2)
  else (
    if (68 : Int32) < r2 then (
      Mdl_constantType_p34 σ3 x0 x1 r2)
    else (
      some ((192 : Int32) - r2, σ3)))
theorem V.ctX17_constantType (x0 : Nat) (x1 : Int32) : Ct yX17_constantType  cX17_constantType 5 (some .int) 2 46 eI [av x0, iv x1] (fun σ => Mdl_constantType σ x0 x1) := by
  refine Ct.of (own := RX17) (nm := "constantType") (desc := "(I)I") rfl (by decide) (Nat.le_of_ble_eq_true rfl) (by decide) (fun X σ => ?_)
  show G X RX17 "constantType" cX17_constantType 5 (some .int) 2 46 enI 0 [(0, av x0), (1, iv x1)] [] σ (Mdl_constantType σ x0 x1)
  unfold Mdl_constantType
  refine g_aload_n 0 0 dX17_constantType_0 rfl rfl ?_
  refine g_getR fdX17_221 dX17_constantType_1 ?_
  refine g_iload_n 1 1 dX17_constantType_4 rfl rfl ?_
  refine g_callV (fc := fun sς => Pln_at sς (gR σ x0 10) x1) (ci := 20) (as := [iv x1]) rfl rfl rfl q3609 q3610 mdX17_261 (ctX20_at (gR σ x0 10) x1) rfl (Nat.le_of_ble_eq_true rfl) (Nat.le_of_ble_eq_true rfl) (Nat.le_of_ble_eq_true rfl) pu_I dX17_constantType_5 (fun r2 σ1 => ?_)
  refine g_istore_n 2 dX17_constantType_8 rfl (by decide) rfl ?_
  refine g_aload_n 0 1 dX17_constantType_9 rfl rfl ?_
  refine g_iload_n 1 2 dX17_constantType_10 rfl rfl ?_
  refine g_iconst (v := 1) dX17_constantType_11 (by decide) ?_
  refine g_iadd dX17_constantType_12 ?_
  refine g_putI fpX17_594 dX17_constantType_13 (fun σ3 => ?_)
  refine g_iload_n 2 0 dX17_constantType_16 rfl rfl ?_
  refine g_bipush (v := 65) dX17_constantType_17 (by decide) ?_
  refine g_icmp_lt 34 dX17_constantType_19 (by decide) ?_ ?_
  · refine G.sub [1, 2, 0] rfl ?_
    exact gX17_constantType_p34 _ _ _ _
  · refine g_iload_n 2 0 dX17_constantType_22 rfl rfl ?_
    refine g_bipush (v := 68) dX17_constantType_23 (by decide) ?_
    refine g_icmp_gt 34 dX17_constantType_25 (by decide) ?_ ?_
    · refine G.sub [1, 2, 0] rfl ?_
      exact gX17_constantType_p34 _ _ _ _
    · refine g_sipush (v := 192) dX17_constantType_28 (by decide) ?_
      refine g_iload_n 2 0 dX17_constantType_31 rfl rfl ?_
      refine g_isub dX17_constantType_32 ?_
      exact g_ireturn rfl dX17_constantType_33
theorem V.dX17_constantly_0 : decode cX17_constantly 0 = .ok (.iload_n 1, 1) := by decide +kernel
theorem V.dX17_constantly_1 : decode cX17_constantly 1 = .ok (.istore_n 3, 1) := by decide +kernel
theorem V.dX17_constantly_2 : decode cX17_constantly 2 = .ok (.iconst 0, 1) := by decide +kernel
theorem V.dX17_constantly_3 : decode cX17_constantly 3 = .ok (.istore 4, 2) := by decide +kernel
theorem V.dX17_constantly_5 : decode cX17_constantly 5 = .ok (.iconst 0, 1) := by decide +kernel
theorem V.dX17_constantly_6 : decode cX17_constantly 6 = .ok (.istore 5, 2) := by decide +kernel
theorem V.dX17_constantly_8 : decode cX17_constantly 8 = .ok (.aload_n 0, 1) := by decide +kernel
theorem V.dX17_constantly_9 : decode cX17_constantly 9 = .ok (.getfield 221, 3) := by decide +kernel
theorem V.dX17_constantly_12 : decode cX17_constantly 12 = .ok (.iload_n 3, 1) := by decide +kernel
theorem V.dX17_constantly_13 : decode cX17_constantly 13 = .ok (.invokevirtual 261, 3) := by decide +kernel
theorem V.dX17_constantly_16 : decode cX17_constantly 16 = .ok (.bipush 11, 2) := by decide +kernel
theorem V.dX17_constantly_18 : decode cX17_constantly 18 = .ok (.if_icmp .eq 34, 3) := by decide +kernel
theorem V.dX17_constantly_21 : decode cX17_constantly 21 = .ok (.aload_n 0, 1) := by decide +kernel
theorem V.dX17_constantly_22 : decode cX17_constantly 22 = .ok (.iload_n 3, 1) := by decide +kernel
theorem V.dX17_constantly_23 : decode cX17_constantly 23 = .ok (.invokevirtual 673, 3) := by decide +kernel
theorem V.dX17_constantly_26 : decode cX17_constantly 26 = .ok (.istore 5, 2) := by decide +kernel
theorem V.dX17_constantly_28 : decode cX17_constantly 28 = .ok (.iload 5, 2) := by decide +kernel
theorem V.dX17_constantly_30 : decode cX17_constantly 30 = .ok (.ifCond .ne 10, 3) := by decide +kernel
theorem V.dX17_constantly_33 : decode cX17_constantly 33 = .ok (.aload_n 0, 1) := by decide +kernel
theorem V.dX17_constantly_34 : decode cX17_constantly 34 = .ok (.bipush 26, 2) := by decide +kernel
theorem V.dX17_constantly_36 : decode cX17_constantly 36 = .ok (.iload_n 3, 1) := by decide +kernel
theorem V.dX17_constantly_37 : decode cX17_constantly 37 = .ok (.invokevirtual 257, 3) := by decide +kernel
theorem V.dX17_constantly_40 : decode cX17_constantly 40 = .ok (.iinc 4 1, 3) := by decide +kernel
theorem V.dX17_constantly_43 : decode cX17_constantly 43 = .ok (.aload_n 0, 1) := by decide +kernel
theorem V.dX17_constantly_44 : decode cX17_constantly 44 = .ok (.iload_n 3, 1) := by decide +kernel
theorem V.dX17_constantly_45 : decode cX17_constantly 45 = .ok (.invokevirtual 655, 3) := by decide +kernel
theorem V.dX17_constantly_48 : decode cX17_constantly 48 = .ok (.istore_n 3, 1) := by decide +kernel
theorem V.dX17_constantly_49 : decode cX17_constantly 49 = .ok (.goto (-41), 3) := by decide +kernel
theorem V.dX17_constantly_52 : decode cX17_constantly 52 = .ok (.iload_n 3, 1) := by decide +kernel
theorem V.dX17_constantly_53 : decode cX17_constantly 53 = .ok (.istore 6, 2) := by decide +kernel
theorem V.dX17_constantly_55 : decode cX17_constantly 55 = .ok (.iload_n 1, 1) := by decide +kernel
theorem V.dX17_constantly_56 : decode cX17_constantly 56 = .ok (.istore_n 3, 1) := by decide +kernel
theorem V.dX17_constantly_57 : decode cX17_constantly 57 = .ok (.iload_n 3, 1) := by decide +kernel
theorem V.dX17_constantly_58 : decode cX17_constantly 58 = .ok (.iload 6, 2) := by decide +kernel
theorem V.dX17_constantly_60 : decode cX17_constantly 60 = .ok (.if_icmp .ge 57, 3) := by decide +kernel
theorem V.dX17_constantly_63 : decode cX17_constantly 63 = .ok (.aload_n 0, 1) := by decide +kernel
theorem V.dX17_constantly_64 : decode cX17_constantly 64 = .ok (.iload_n 3, 1) := by decide +kernel
theorem V.dX17_constantly_65 : decode cX17_constantly 65 = .ok (.iconst 1, 1) := by decide +kernel
theorem V.dX17_constantly_66 : decode cX17_constantly 66 = .ok (.iadd, 1) := by decide +kernel
theorem V.dX17_constantly_67 : decode cX17_constantly 67 = .ok (.putfield 594, 3) := by decide +kernel
theorem V.dX17_constantly_70 : decode cX17_constantly 70 = .ok (.aload_n 0, 1) := by decide +kernel
theorem V.dX17_constantly_71 : decode cX17_constantly 71 = .ok (.getfield 221, 3) := by decide +kernel
theorem V.dX17_constantly_74 : decode cX17_constantly 74 = .ok (.iload_n 3, 1) := by decide +kernel
theorem V.dX17_constantly_75 : decode cX17_constantly 75 = .ok (.invokevirtual 261, 3) := by decide +kernel
theorem V.dX17_constantly_78 : decode cX17_constantly 78 = .ok (.sipush 210, 3) := by decide +kernel
theorem V.dX17_constantly_81 : decode cX17_constantly 81 = .ok (.if_icmp .ne 27, 3) := by decide +kernel
theorem V.dX17_constantly_84 : decode cX17_constantly 84 = .ok (.aload_n 0, 1) := by decide +kernel
theorem V.dX17_constantly_85 : decode cX17_constantly 85 = .ok (.invokevirtual 603, 3) := by decide +kernel
theorem V.dX17_constantly_88 : decode cX17_constantly 88 = .ok (.aload_n 0, 1) := by decide +kernel
theorem V.dX17_constantly_89 : decode cX17_constantly 89 = .ok (.getfield 221, 3) := by decide +kernel
theorem V.dX17_constantly_92 : decode cX17_constantly 92 = .ok (.iconst 0, 1) := by decide +kernel
theorem V.dX17_constantly_93 : decode cX17_constantly 93 = .ok (.invokevirtual 615, 3) := by decide +kernel
theorem V.dX17_constantly_96 : decode cX17_constantly 96 = .ok (.i2l, 1) := by decide +kernel
theorem V.dX17_constantly_97 : decode cX17_constantly 97 = .ok (.lcmp, 1) := by decide +kernel
theorem V.dX17_constantly_98 : decode cX17_constantly 98 = .ok (.ifCond .lt 10, 3) := by decide +kernel
theorem V.dX17_constantly_101 : decode cX17_constantly 101 = .ok (.aload_n 0, 1) := by decide +kernel
theorem V.dX17_constantly_102 : decode cX17_constantly 102 = .ok (.bipush 28, 2) := by decide +kernel
theorem V.dX17_constantly_104 : decode cX17_constantly 104 = .ok (.iload_n 3, 1) := by decide +kernel
theorem V.dX17_constantly_105 : decode cX17_constantly 105 = .ok (.invokevirtual 257, 3) := by decide +kernel
theorem V.dX17_constantly_108 : decode cX17_constantly 108 = .ok (.aload_n 0, 1) := by decide +kernel
theorem V.dX17_constantly_109 : decode cX17_constantly 109 = .ok (.iload_n 3, 1) := by decide +kernel
theorem V.dX17_constantly_110 : decode cX17_constantly 110 = .ok (.invokevirtual 655, 3) := by decide +kernel
theorem V.dX17_constantly_113 : decode cX17_constantly 113 = .ok (.istore_n 3, 1) := by decide +kernel
theorem V.dX17_constantly_114 : decode cX17_constantly 114 = .ok (.goto (-57), 3) := by decide +kernel
theorem V.dX17_constantly_117 : decode cX17_constantly 117 = .ok (.iload 4, 2) := by decide +kernel
theorem V.dX17_constantly_119 : decode cX17_constantly 119 = .ok (.iconst 1, 1) := by decide +kernel
theorem V.dX17_constantly_120 : decode cX17_constantly 120 = .ok (.if_icmp .ne 9, 3) := by decide +kernel
theorem V.dX17_constantly_123 : decode cX17_constantly 123 = .ok (.iload 5, 2) := by decide +kernel
theorem V.dX17_constantly_125 : decode cX17_constantly 125 = .ok (.iload_n 2, 1) := by decide +kernel
theorem V.dX17_constantly_126 : decode cX17_constantly 126 = .ok (.if_icmp .eq 11, 3) := by decide +kernel
theorem V.dX17_constantly_129 : decode cX17_constantly 129 = .ok (.aload_n 0, 1) := by decide +kernel
theorem V.dX17_constantly_130 : decode cX17_constantly 130 = .ok (.bipush 27, 2) := by decide +kernel
theorem V.dX17_constantly_132 : decode cX17_constantly 132 = .ok (.iload 6, 2) := by decide +kernel
theorem V.dX17_constantly_134 : decode cX17_constantly 134 = .ok (.invokevirtual 257, 3) := by decide +kernel
theorem V.dX17_constantly_137 : decode cX17_constantly 137 = .ok (.aload_n 0, 1) := by decide +kernel
theorem V.dX17_constantly_138 : decode cX17_constantly 138 = .ok (.iload 6, 2) := by decide +kernel
theorem V.dX17_constantly_140 : decode cX17_constantly 140 = .ok (.iconst 1, 1) := by decide +kernel
theorem V.dX17_constantly_141 : decode cX17_constantly 141 = .ok (.iadd, 1) := by decide +kernel
theorem V.dX17_constantly_142 : decode cX17_constantly 142 = .ok (.putfield 594, 3) := by decide +kernel
theorem V.dX17_constantly_145 : decode cX17_constantly 145 = .ok (.return_, 1) := by decide +kernel
theorem V.mdX17_673 : MD RX17 673 yX17_constantType cX17_constantType 5 (some .int) 1 := ⟨Or.inl q3840, q377, q3843, by decide, by decide, by decide +kernel⟩
/-! ModuleEngineModel.constantly(II)V -/
def V.Mdl_constantly_p137  (σ : HS) (x0 : Nat) (x6 : Int32) : Option ((Nat ⊕ Unit) × HS) :=
  ck (tg σ x0 = 18) <| bn (sI σ x0 19 (x6 + (1 : Int32))) fun σ1 =>
  some (.inr (), σ1)
theorem V.gX17_constantly_p137 {X : CX}  (σ : HS) (x0 : Nat) (x6 : Int32) : G X RX17 "constantly" cX17_constantly 7 none 4 97 (enX enV (cxz X)) 137 [(0, av x0), (6, iv x6)] [] σ (Mdl_constantly_p137 σ x0 x6) := by
  unfold Mdl_constantly_p137
  refine g_aload_n 0 0 dX17_constantly_137 rfl rfl ?_
  refine g_iload 1 dX17_constantly_138 rfl ?_
  refine g_iconst (v := 1) dX17_constantly_140 (by decide) ?_
  refine g_iadd dX17_constantly_141 ?_
  refine g_putI fpX17_594 dX17_constantly_142 (fun σ1 => ?_)
  exact g_return rfl dX17_constantly_145
def V.Mdl_constantly_p129  (σ : HS) (x0 : Nat) (x6 : Int32) : Option ((Nat ⊕ Unit) × HS) :=
  ck (tg σ x0 = 18) <| clT (Mdl_stops σ x0 (27 : Int32) x6) fun _ σ1 =>
  Mdl_constantly_p137 σ1 x0 x6
theorem V.gX17_constantly_p129 {X : CX}  (σ : HS) (x0 : Nat) (x6 : Int32) : G X RX17 "constantly" cX17_constantly 7 none 4 97 (enX enV (cxz X)) 129 [(0, av x0), (6, iv x6)] [] σ (Mdl_constantly_p129 σ x0 x6) := by
  unfold Mdl_constantly_p129
  refine g_aload_n 0 0 dX17_constantly_129 rfl rfl ?_
  refine g_bipush (v := 27) dX17_constantly_130 (by decide) ?_
  refine g_iload 1 dX17_constantly_132 rfl ?_
  refine g_callVT (fc := fun sς => Mdl_stops sς x0 (27 : Int32) x6) (ci := 17) (as := [iv (27 : Int32), iv x6]) rfl rfl rfl q3606 qs214 q3604 mdX17_257 (ctX17_stops x0 (27 : Int32) x6) rfl (Nat.le_of_ble_eq_true rfl) (Nat.le_of_ble_eq_true rfl) (Nat.le_of_ble_eq_true rfl) pu_V (by decide) dX17_constantly_134 (fun _ σ1 => ?_)
  exact gX17_constantly_p137 _ _ _
def V.Mdl_constantly_p108 (rec57 : HS → Nat → Int32 → Int32 → Int32 → Int32 → Int32 → Option ((Nat ⊕ Unit) × HS)) (σ : HS) (x0 : Nat) (x2 : Int32) (x3 : Int32) (x4 : Int32) (x5 : Int32) (x6 : Int32) : Option ((Nat ⊕ Unit) × HS) :=
  ck (tg σ x0 = 18) <| cl (Mdl_behind σ x0 x3) fun r2 σ1 =>
  rec57 σ1 x0 x2 r2 x4 x5 x6
theorem V.gX17_constantly_p108 {X : CX} (rec57 : HS → Nat → Int32 → Int32 → Int32 → Int32 → Int32 → Option ((Nat ⊕ Unit) × HS)) (hrec57 : ∀ (σ : HS) (x0 : Nat) (x2 : Int32) (x3 : Int32) (x4 : Int32) (x5 : Int32) (x6 : Int32), G X RX17 "constantly" cX17_constantly 7 none 4 97 (enX enV (cxz X)) 57 [(0, av x0), (2, iv x2), (3, iv x3), (4, iv x4), (5, iv x5), (6, iv x6)] [] σ (rec57 σ x0 x2 x3 x4 x5 x6)) (σ : HS) (x0 : Nat) (x2 : Int32) (x3 : Int32) (x4 : Int32) (x5 : Int32) (x6 : Int32) : G X RX17 "constantly" cX17_constantly 7 none 4 97 (enX enV (cxz X)) 108 [(0, av x0), (2, iv x2), (3, iv x3), (4, iv x4), (5, iv x5), (6, iv x6)] [] σ (Mdl_constantly_p108 rec57 σ x0 x2 x3 x4 x5 x6) := by
  unfold Mdl_constantly_p108
  refine g_aload_n 0 0 dX17_constantly_108 rfl rfl ?_
  refine g_iload_n 3 2 dX17_constantly_109 rfl rfl ?_
  refine g_callV (fc := fun sς => Mdl_behind sς x0 x3) (ci := 17) (as := [iv x3]) rfl rfl rfl q3822 qs252 mdX17_655 (ctX17_behind x0 x3) rfl (Nat.le_of_ble_eq_true rfl) (Nat.le_of_ble_eq_true rfl) (Nat.le_of_ble_eq_true rfl) pu_I dX17_constantly_110 (fun r2 σ1 => ?_)
  refine g_istore_n 3 dX17_constantly_113 rfl (by decide) rfl ?_
  refine g_goto 57 dX17_constantly_114 (by decide) ?_
  refine G.sub [1, 2, 0, 3, 4, 5] rfl ?_
  exact hrec57 _ _ _ _ _ _ _
def V.Mdl_constantly_p57  : Nat → HS → Nat → Int32 → Int32 → Int32 → Int32 → Int32 → Option ((Nat ⊕ Unit) × HS)
  | 0, _, _, _, _, _, _, _ => none
  | n + 1, σ, x0, x2, x3, x4, x5, x6 =>
    if x6 ≤ x3 then (
      if x4 = (1 : Int32) then (
        if x5 = x2 then (
          Mdl_constantly_p137 σ x0 x6)
        else (
          Mdl_constantly_p129 σ x0 x6))
      else (
        Mdl_constantly_p129 σ x0 x6))
    else (
      ck (tg σ x0 = 18) <| bn (sI σ x0 19 (x3 + (1 : Int32))) fun σ1 =>
      ck (tg σ1 x0 = 18) <|
      ck (tg σ1 (gR σ1 x0 10) = 21) <| cl (Pln_at σ1 (gR σ1 x0 10) x3) fun r3 σ2 =>
      if r3 = (210 : Int32) then (
        ck (tg σ2 x0 = 18) <| cl (Mdl_word σ2 x0 ) fun r5 σ4 =>
        ck (tg σ4 x0 = 18) <|
        ck (tg σ4 (gR σ4 x0 10) = 21) <| cl (Pln_all σ4 (gR σ4 x0 10) (0 : Int32)) fun r7 σ6 =>
        if r5 < r7.toInt64 then (
          Mdl_constantly_p108 (Mdl_constantly_p57 n) σ6 x0 x2 x3 x4 x5 x6)
        else (
          ck (tg σ6 x0 = 18) <| clT (Mdl_stops σ6 x0 (28 : Int32) x3) fun _ σ8 =>
          Mdl_constantly_p108 (Mdl_constantly_p57 n) σ8 x0 x2 x3 x4 x5 x6))
      else (
        Mdl_constantly_p108 (Mdl_constantly_p57 n) σ2 x0 x2 x3 x4 x5 x6))
theorem V.gX17_constantly_p57 {X : CX}  : ∀ (n : Nat) (σ : HS) (x0 : Nat) (x2 : Int32) (x3 : Int32) (x4 : Int32) (x5 : Int32) (x6 : Int32), G X RX17 "constantly" cX17_constantly 7 none 4 97 (enX enV (cxz X)) 57 [(0, av x0), (2, iv x2), (3, iv x3), (4, iv x4), (5, iv x5), (6, iv x6)] [] σ (Mdl_constantly_p57 n σ x0 x2 x3 x4 x5 x6)
  | 0, σ, x0, x2, x3, x4, x5, x6 => by rw [Mdl_constantly_p57]; exact G.nul
  | n + 1, σ, x0, x2, x3, x4, x5, x6 => by
    rw [Mdl_constantly_p57]
    refine g_iload_n 3 2 dX17_constantly_57 rfl rfl ?_
    refine g_iload 5 dX17_constantly_58 rfl ?_
    refine g_icmp_ge 117 dX17_constantly_60 (by decide) ?_ ?_
    · refine g_iload 3 dX17_constantly_117 rfl ?_
      refine g_iconst (v := 1) dX17_constantly_119 (by decide) ?_
      refine g_icmp_ne 129 dX17_constantly_120 (by decide) ?_ ?_
      · refine G.sub [0, 5] rfl ?_
        exact gX17_constantly_p129 _ _ _
      · refine g_iload 4 dX17_constantly_123 rfl ?_
        refine g_iload_n 2 1 dX17_constantly_125 rfl rfl ?_
        refine g_icmp_eq 137 dX17_constantly_126 (by decide) ?_ ?_
        · refine G.sub [0, 5] rfl ?_
          exact gX17_constantly_p137 _ _ _
        · refine G.sub [0, 5] rfl ?_
          exact gX17_constantly_p129 _ _ _
    · refine g_aload_n 0 0 dX17_constantly_63 rfl rfl ?_
      refine g_iload_n 3 2 dX17_constantly_64 rfl rfl ?_
      refine g_iconst (v := 1) dX17_constantly_65 (by decide) ?_
      refine g_iadd dX17_constantly_66 ?_
      refine g_putI fpX17_594 dX17_constantly_67 (fun σ1 => ?_)
      refine g_aload_n 0 0 dX17_constantly_70 rfl rfl ?_
      refine g_getR fdX17_221 dX17_constantly_71 ?_
      refine g_iload_n 3 2 dX17_constantly_74 rfl rfl ?_
      refine g_callV (fc := fun sς => Pln_at sς (gR σ1 x0 10) x3) (ci := 20) (as := [iv x3]) rfl rfl rfl q3609 q3610 mdX17_261 (ctX20_at (gR σ1 x0 10) x3) rfl (Nat.le_of_ble_eq_true rfl) (Nat.le_of_ble_eq_true rfl) (Nat.le_of_ble_eq_true rfl) pu_I dX17_constantly_75 (fun r3 σ2 => ?_)
      refine g_sipush (v := 210) dX17_constantly_78 (by decide) ?_
      refine g_icmp_ne 108 dX17_constantly_81 (by decide) ?_ ?_
      · exact gX17_constantly_p108 (Mdl_constantly_p57 n) (gX17_constantly_p57 n) _ _ _ _ _ _ _
      · refine g_aload_n 0 0 dX17_constantly_84 rfl rfl ?_
        refine g_callV (fc := fun sς => Mdl_word sς x0 ) (ci := 17) (as := []) rfl rfl rfl q3813 qs250 mdX17_603 (ctX17_word x0 ) rfl (Nat.le_of_ble_eq_true rfl) (Nat.le_of_ble_eq_true rfl) (Nat.le_of_ble_eq_true rfl) pu_J dX17_constantly_85 (fun r5 σ4 => ?_)
        refine g_aload_n 0 0 dX17_constantly_88 rfl rfl ?_
        refine g_getR fdX17_221 dX17_constantly_89 ?_
        refine g_iconst (v := 0) dX17_constantly_92 (by decide) ?_
        refine g_callV (fc := fun sς => Pln_all sς (gR σ4 x0 10) (0 : Int32)) (ci := 20) (as := [iv (0 : Int32)]) rfl rfl rfl q3780 q3781 mdX17_615 (ctX20_all (gR σ4 x0 10) (0 : Int32)) rfl (Nat.le_of_ble_eq_true rfl) (Nat.le_of_ble_eq_true rfl) (Nat.le_of_ble_eq_true rfl) pu_I dX17_constantly_93 (fun r7 σ6 => ?_)
        refine g_i2l dX17_constantly_96 ?_
        refine g_lcmp_lt 108 dX17_constantly_97 dX17_constantly_98 (by decide) ?_ ?_
        · exact gX17_constantly_p108 (Mdl_constantly_p57 n) (gX17_constantly_p57 n) _ _ _ _ _ _ _
        · refine g_aload_n 0 0 dX17_constantly_101 rfl rfl ?_
          refine g_bipush (v := 28) dX17_constantly_102 (by decide) ?_
          refine g_iload_n 3 2 dX17_constantly_104 rfl rfl ?_
          refine g_callVT (fc := fun sς => Mdl_stops sς x0 (28 : Int32) x3) (ci := 17) (as := [iv (28 : Int32), iv x3]) rfl rfl rfl q3606 qs214 q3604 mdX17_257 (ctX17_stops x0 (28 : Int32) x3) rfl (Nat.le_of_ble_eq_true rfl) (Nat.le_of_ble_eq_true rfl) (Nat.le_of_ble_eq_true rfl) pu_V (by decide) dX17_constantly_105 (fun _ σ8 => ?_)
          exact gX17_constantly_p108 (Mdl_constantly_p57 n) (gX17_constantly_p57 n) _ _ _ _ _ _ _
def V.Mdl_constantly_p40 (rec8 : HS → Nat → Int32 → Int32 → Int32 → Int32 → Int32 → Option ((Nat ⊕ Unit) × HS)) (σ : HS) (x0 : Nat) (x1 : Int32) (x2 : Int32) (x3 : Int32) (x4 : Int32) (x5 : Int32) : Option ((Nat ⊕ Unit) × HS) :=
  bn (x4 + (1 : Int32)) fun y1 =>
  ck (tg σ x0 = 18) <| cl (Mdl_behind σ x0 x3) fun r3 σ2 =>
  rec8 σ2 x0 x1 x2 r3 y1 x5
theorem V.gX17_constantly_p40 {X : CX} (rec8 : HS → Nat → Int32 → Int32 → Int32 → Int32 → Int32 → Option ((Nat ⊕ Unit) × HS)) (hrec8 : ∀ (σ : HS) (x0 : Nat) (x1 : Int32) (x2 : Int32) (x3 : Int32) (x4 : Int32) (x5 : Int32), G X RX17 "constantly" cX17_constantly 7 none 4 97 (enX enV (cxz X)) 8 [(0, av x0), (1, iv x1), (2, iv x2), (3, iv x3), (4, iv x4), (5, iv x5)] [] σ (rec8 σ x0 x1 x2 x3 x4 x5)) (σ : HS) (x0 : Nat) (x1 : Int32) (x2 : Int32) (x3 : Int32) (x4 : Int32) (x5 : Int32) : G X RX17 "constantly" cX17_constantly 7 none 4 97 (enX enV (cxz X)) 40 [(0, av x0), (1, iv x1), (2, iv x2), (3, iv x3), (4, iv x4), (5, iv x5)] [] σ (Mdl_constantly_p40 rec8 σ x0 x1 x2 x3 x4 x5) := by
  unfold Mdl_constantly_p40
  refine g_iincB (w := 1) 4 dX17_constantly_40 rfl (by decide) (by decide) (fun _ => rfl) (fun y1 => ?_)
  refine g_aload_n 0 1 dX17_constantly_43 rfl rfl ?_
  refine g_iload_n 3 4 dX17_constantly_44 rfl rfl ?_
  refine g_callV (fc := fun sς => Mdl_behind sς x0 x3) (ci := 17) (as := [iv x3]) rfl rfl rfl q3822 qs252 mdX17_655 (ctX17_behind x0 x3) rfl (Nat.le_of_ble_eq_true rfl) (Nat.le_of_ble_eq_true rfl) (Nat.le_of_ble_eq_true rfl) pu_I dX17_constantly_45 (fun r3 σ2 => ?_)
  refine g_istore_n 3 dX17_constantly_48 rfl (by decide) rfl ?_
  refine g_goto 8 dX17_constantly_49 (by decide) ?_
  refine G.sub [2, 3, 4, 0, 1, 5] rfl ?_
  exact hrec8 _ _ _ _ _ _ _
def V.Mdl_constantly_p8  : Nat → HS → Nat → Int32 → Int32 → Int32 → Int32 → Int32 → Option ((Nat ⊕ Unit) × HS)
  | 0, _, _, _, _, _, _, _ => none
  | n + 1, σ, x0, x1, x2, x3, x4, x5 =>
    ck (tg σ x0 = 18) <|
    ck (tg σ (gR σ x0 10) = 21) <| cl (Pln_at σ (gR σ x0 10) x3) fun r2 σ1 =>
    if r2 = (11 : Int32) then (
      Mdl_constantly_p57 FU σ1 x0 x2 x1 x4 x5 x3)
    else (
      ck (tg σ1 x0 = 18) <| cl (Mdl_constantType σ1 x0 x3) fun r4 σ3 =>
      if r4 = 0 then (
        ck (tg σ3 x0 = 18) <| clT (Mdl_stops σ3 x0 (26 : Int32) x3) fun _ σ5 =>
        Mdl_constantly_p40 (Mdl_constantly_p8 n) σ5 x0 x1 x2 x3 x4 r4)
      else (
        Mdl_constantly_p40 (Mdl_constantly_p8 n) σ3 x0 x1 x2 x3 x4 r4))
theorem V.gX17_constantly_p8 {X : CX}  : ∀ (n : Nat) (σ : HS) (x0 : Nat) (x1 : Int32) (x2 : Int32) (x3 : Int32) (x4 : Int32) (x5 : Int32), G X RX17 "constantly" cX17_constantly 7 none 4 97 (enX enV (cxz X)) 8 [(0, av x0), (1, iv x1), (2, iv x2), (3, iv x3), (4, iv x4), (5, iv x5)] [] σ (Mdl_constantly_p8 n σ x0 x1 x2 x3 x4 x5)
  | 0, σ, x0, x1, x2, x3, x4, x5 => by rw [Mdl_constantly_p8]; exact G.nul
  | n + 1, σ, x0, x1, x2, x3, x4, x5 => by
    rw [Mdl_constantly_p8]
    refine g_aload_n 0 0 dX17_constantly_8 rfl rfl ?_
    refine g_getR fdX17_221 dX17_constantly_9 ?_
    refine g_iload_n 3 3 dX17_constantly_12 rfl rfl ?_
    refine g_callV (fc := fun sς => Pln_at sς (gR σ x0 10) x3) (ci := 20) (as := [iv x3]) rfl rfl rfl q3609 q3610 mdX17_261 (ctX20_at (gR σ x0 10) x3) rfl (Nat.le_of_ble_eq_true rfl) (Nat.le_of_ble_eq_true rfl) (Nat.le_of_ble_eq_true rfl) pu_I dX17_constantly_13 (fun r2 σ1 => ?_)
    refine g_bipush (v := 11) dX17_constantly_16 (by decide) ?_
    refine g_icmp_eq 52 dX17_constantly_18 (by decide) ?_ ?_
    · refine g_iload_n 3 3 dX17_constantly_52 rfl rfl ?_
      refine g_istore dX17_constantly_53 (by decide) rfl ?_
      refine g_iload_n 1 2 dX17_constantly_55 rfl rfl ?_
      refine g_istore_n 3 dX17_constantly_56 rfl (by decide) rfl ?_
      refine G.sub [2, 4, 0, 5, 6, 1] rfl ?_
      exact gX17_constantly_p57 FU _ _ _ _ _ _ _
    · refine g_aload_n 0 0 dX17_constantly_21 rfl rfl ?_
      refine g_iload_n 3 3 dX17_constantly_22 rfl rfl ?_
      refine g_callV (fc := fun sς => Mdl_constantType sς x0 x3) (ci := 17) (as := [iv x3]) rfl rfl rfl q3842 qs257 mdX17_673 (ctX17_constantType x0 x3) rfl (Nat.le_of_ble_eq_true rfl) (Nat.le_of_ble_eq_true rfl) (Nat.le_of_ble_eq_true rfl) pu_I dX17_constantly_23 (fun r4 σ3 => ?_)
      refine g_istore dX17_constantly_26 (by decide) rfl ?_
      refine g_iload 0 dX17_constantly_28 rfl ?_
      refine g_if_ne 40 dX17_constantly_30 (by decide) ?_ ?_
      · refine G.sub [1, 2, 3, 4, 5, 0] rfl ?_
        exact gX17_constantly_p40 (Mdl_constantly_p8 n) (gX17_constantly_p8 n) _ _ _ _ _ _ _
      · refine g_aload_n 0 1 dX17_constantly_33 rfl rfl ?_
        refine g_bipush (v := 26) dX17_constantly_34 (by decide) ?_
        refine g_iload_n 3 4 dX17_constantly_36 rfl rfl ?_
        refine g_callVT (fc := fun sς => Mdl_stops sς x0 (26 : Int32) x3) (ci := 17) (as := [iv (26 : Int32), iv x3]) rfl rfl rfl q3606 qs214 q3604 mdX17_257 (ctX17_stops x0 (26 : Int32) x3) rfl (Nat.le_of_ble_eq_true rfl) (Nat.le_of_ble_eq_true rfl) (Nat.le_of_ble_eq_true rfl) pu_V (by decide) dX17_constantly_37 (fun _ σ5 => ?_)
        refine G.sub [1, 2, 3, 4, 5, 0] rfl ?_
        exact gX17_constantly_p40 (Mdl_constantly_p8 n) (gX17_constantly_p8 n) _ _ _ _ _ _ _
def V.Mdl_constantly (σ : HS) (x0 : Nat) (x1 : Int32) (x2 : Int32) : Option ((Nat ⊕ Unit) × HS) :=
  Mdl_constantly_p8 FU σ x0 x1 x2 x1 (0 : Int32) (0 : Int32)
theorem V.ctX17_constantly (x0 : Nat) (x1 : Int32) (x2 : Int32) : Ct yX17_constantly  cX17_constantly 7 none 4 97 eXV [av x0, iv x1, iv x2] (fun σ => Mdl_constantly σ x0 x1 x2) := by
  refine Ct.of (own := RX17) (nm := "constantly") (desc := "(II)V") rfl (by decide) (Nat.le_of_ble_eq_true rfl) (by decide) (fun X σ => ?_)
  show G X RX17 "constantly" cX17_constantly 7 none 4 97 (enX enV (cxz X)) 0 [(0, av x0), (1, iv x1), (2, iv x2)] [] σ (Mdl_constantly σ x0 x1 x2)
  unfold Mdl_constantly
  refine g_iload_n 1 1 dX17_constantly_0 rfl rfl ?_
  refine g_istore_n 3 dX17_constantly_1 rfl (by decide) rfl ?_
  refine g_iconst (v := 0) dX17_constantly_2 (by decide) ?_
  refine g_istore dX17_constantly_3 (by decide) rfl ?_
  refine g_iconst (v := 0) dX17_constantly_5 (by decide) ?_
  refine g_istore dX17_constantly_6 (by decide) rfl ?_
  refine G.sub [3, 4, 5, 2, 1, 0] rfl ?_
  exact gX17_constantly_p8 FU _ _ _ _ _ _ _
theorem V.dX17_checksElement_0 : decode cX17_checksElement 0 = .ok (.aload_n 0, 1) := by decide +kernel
theorem V.dX17_checksElement_1 : decode cX17_checksElement 1 = .ok (.getfield 221, 3) := by decide +kernel
theorem V.dX17_checksElement_4 : decode cX17_checksElement 4 = .ok (.getfield 302, 3) := by decide +kernel
theorem V.dX17_checksElement_7 : decode cX17_checksElement 7 = .ok (.bipush 9, 2) := by decide +kernel
theorem V.dX17_checksElement_9 : decode cX17_checksElement 9 = .ok (.iaload, 1) := by decide +kernel
theorem V.dX17_checksElement_10 : decode cX17_checksElement 10 = .ok (.istore_n 2, 1) := by decide +kernel
theorem V.dX17_checksElement_11 : decode cX17_checksElement 11 = .ok (.aload_n 0, 1) := by decide +kernel
theorem V.dX17_checksElement_12 : decode cX17_checksElement 12 = .ok (.getfield 221, 3) := by decide +kernel
theorem V.dX17_checksElement_15 : decode cX17_checksElement 15 = .ok (.getfield 498, 3) := by decide +kernel
theorem V.dX17_checksElement_18 : decode cX17_checksElement 18 = .ok (.iload_n 1, 1) := by decide +kernel
theorem V.dX17_checksElement_19 : decode cX17_checksElement 19 = .ok (.baload, 1) := by decide +kernel
theorem V.dX17_checksElement_20 : decode cX17_checksElement 20 = .ok (.ifCond .ne 61, 3) := by decide +kernel
theorem V.dX17_checksElement_23 : decode cX17_checksElement 23 = .ok (.aload_n 0, 1) := by decide +kernel
theorem V.dX17_checksElement_24 : decode cX17_checksElement 24 = .ok (.aload_n 0, 1) := by decide +kernel
theorem V.dX17_checksElement_25 : decode cX17_checksElement 25 = .ok (.getfield 221, 3) := by decide +kernel
theorem V.dX17_checksElement_28 : decode cX17_checksElement 28 = .ok (.getfield 504, 3) := by decide +kernel
theorem V.dX17_checksElement_31 : decode cX17_checksElement 31 = .ok (.iload_n 1, 1) := by decide +kernel
theorem V.dX17_checksElement_32 : decode cX17_checksElement 32 = .ok (.iaload, 1) := by decide +kernel
theorem V.dX17_checksElement_33 : decode cX17_checksElement 33 = .ok (.putfield 594, 3) := by decide +kernel
theorem V.dX17_checksElement_36 : decode cX17_checksElement 36 = .ok (.iconst 0, 1) := by decide +kernel
theorem V.dX17_checksElement_37 : decode cX17_checksElement 37 = .ok (.istore_n 3, 1) := by decide +kernel
theorem V.dX17_checksElement_38 : decode cX17_checksElement 38 = .ok (.iload_n 3, 1) := by decide +kernel
theorem V.dX17_checksElement_39 : decode cX17_checksElement 39 = .ok (.aload_n 0, 1) := by decide +kernel
theorem V.dX17_checksElement_40 : decode cX17_checksElement 40 = .ok (.getfield 221, 3) := by decide +kernel
theorem V.dX17_checksElement_43 : decode cX17_checksElement 43 = .ok (.getfield 507, 3) := by decide +kernel
theorem V.dX17_checksElement_46 : decode cX17_checksElement 46 = .ok (.iload_n 1, 1) := by decide +kernel
theorem V.dX17_checksElement_47 : decode cX17_checksElement 47 = .ok (.iaload, 1) := by decide +kernel
theorem V.dX17_checksElement_48 : decode cX17_checksElement 48 = .ok (.if_icmp .ge 33, 3) := by decide +kernel
theorem V.dX17_checksElement_51 : decode cX17_checksElement 51 = .ok (.aload_n 0, 1) := by decide +kernel
theorem V.dX17_checksElement_52 : decode cX17_checksElement 52 = .ok (.invokevirtual 603, 3) := by decide +kernel
theorem V.dX17_checksElement_55 : decode cX17_checksElement 55 = .ok (.aload_n 0, 1) := by decide +kernel
theorem V.dX17_checksElement_56 : decode cX17_checksElement 56 = .ok (.getfield 221, 3) := by decide +kernel
theorem V.dX17_checksElement_59 : decode cX17_checksElement 59 = .ok (.iconst 0, 1) := by decide +kernel
theorem V.dX17_checksElement_60 : decode cX17_checksElement 60 = .ok (.invokevirtual 615, 3) := by decide +kernel
theorem V.dX17_checksElement_63 : decode cX17_checksElement 63 = .ok (.i2l, 1) := by decide +kernel
theorem V.dX17_checksElement_64 : decode cX17_checksElement 64 = .ok (.lcmp, 1) := by decide +kernel
theorem V.dX17_checksElement_65 : decode cX17_checksElement 65 = .ok (.ifCond .lt 10, 3) := by decide +kernel
theorem V.dX17_checksElement_68 : decode cX17_checksElement 68 = .ok (.aload_n 0, 1) := by decide +kernel
theorem V.dX17_checksElement_69 : decode cX17_checksElement 69 = .ok (.bipush 28, 2) := by decide +kernel
theorem V.dX17_checksElement_71 : decode cX17_checksElement 71 = .ok (.iload_n 2, 1) := by decide +kernel
theorem V.dX17_checksElement_72 : decode cX17_checksElement 72 = .ok (.invokevirtual 257, 3) := by decide +kernel
theorem V.dX17_checksElement_75 : decode cX17_checksElement 75 = .ok (.iinc 3 1, 3) := by decide +kernel
theorem V.dX17_checksElement_78 : decode cX17_checksElement 78 = .ok (.goto (-40), 3) := by decide +kernel
theorem V.dX17_checksElement_81 : decode cX17_checksElement 81 = .ok (.aload_n 0, 1) := by decide +kernel
theorem V.dX17_checksElement_82 : decode cX17_checksElement 82 = .ok (.getfield 221, 3) := by decide +kernel
theorem V.dX17_checksElement_85 : decode cX17_checksElement 85 = .ok (.getfield 489, 3) := by decide +kernel
theorem V.dX17_checksElement_88 : decode cX17_checksElement 88 = .ok (.iload_n 1, 1) := by decide +kernel
theorem V.dX17_checksElement_89 : decode cX17_checksElement 89 = .ok (.iaload, 1) := by decide +kernel
theorem V.dX17_checksElement_90 : decode cX17_checksElement 90 = .ok (.ifCond .ne 70, 3) := by decide +kernel
theorem V.dX17_checksElement_93 : decode cX17_checksElement 93 = .ok (.aload_n 0, 1) := by decide +kernel
theorem V.dX17_checksElement_94 : decode cX17_checksElement 94 = .ok (.getfield 221, 3) := by decide +kernel
theorem V.dX17_checksElement_97 : decode cX17_checksElement 97 = .ok (.getfield 492, 3) := by decide +kernel
theorem V.dX17_checksElement_100 : decode cX17_checksElement 100 = .ok (.iload_n 1, 1) := by decide +kernel
theorem V.dX17_checksElement_101 : decode cX17_checksElement 101 = .ok (.laload, 1) := by decide +kernel
theorem V.dX17_checksElement_102 : decode cX17_checksElement 102 = .ok (.lstore_n 3, 1) := by decide +kernel
theorem V.dX17_checksElement_103 : decode cX17_checksElement 103 = .ok (.lload_n 3, 1) := by decide +kernel
theorem V.dX17_checksElement_104 : decode cX17_checksElement 104 = .ok (.aload_n 0, 1) := by decide +kernel
theorem V.dX17_checksElement_105 : decode cX17_checksElement 105 = .ok (.getfield 221, 3) := by decide +kernel
theorem V.dX17_checksElement_108 : decode cX17_checksElement 108 = .ok (.iconst 1, 1) := by decide +kernel
theorem V.dX17_checksElement_109 : decode cX17_checksElement 109 = .ok (.invokevirtual 615, 3) := by decide +kernel
theorem V.dX17_checksElement_112 : decode cX17_checksElement 112 = .ok (.i2l, 1) := by decide +kernel
theorem V.dX17_checksElement_113 : decode cX17_checksElement 113 = .ok (.lcmp, 1) := by decide +kernel
theorem V.dX17_checksElement_114 : decode cX17_checksElement 114 = .ok (.ifCond .ge 24, 3) := by decide +kernel
theorem V.dX17_checksElement_117 : decode cX17_checksElement 117 = .ok (.aload_n 0, 1) := by decide +kernel
theorem V.dX17_checksElement_118 : decode cX17_checksElement 118 = .ok (.getfield 221, 3) := by decide +kernel
theorem V.dX17_checksElement_121 : decode cX17_checksElement 121 = .ok (.lload_n 3, 1) := by decide +kernel
theorem V.dX17_checksElement_122 : decode cX17_checksElement 122 = .ok (.l2i, 1) := by decide +kernel
theorem V.dX17_checksElement_123 : decode cX17_checksElement 123 = .ok (.invokevirtual 661, 3) := by decide +kernel
theorem V.dX17_checksElement_126 : decode cX17_checksElement 126 = .ok (.aload_n 0, 1) := by decide +kernel
theorem V.dX17_checksElement_127 : decode cX17_checksElement 127 = .ok (.getfield 221, 3) := by decide +kernel
theorem V.dX17_checksElement_130 : decode cX17_checksElement 130 = .ok (.getfield 501, 3) := by decide +kernel
theorem V.dX17_checksElement_133 : decode cX17_checksElement 133 = .ok (.iload_n 1, 1) := by decide +kernel
theorem V.dX17_checksElement_134 : decode cX17_checksElement 134 = .ok (.iaload, 1) := by decide +kernel
theorem V.dX17_checksElement_135 : decode cX17_checksElement 135 = .ok (.if_icmp .eq 10, 3) := by decide +kernel
theorem V.dX17_checksElement_138 : decode cX17_checksElement 138 = .ok (.aload_n 0, 1) := by decide +kernel
theorem V.dX17_checksElement_139 : decode cX17_checksElement 139 = .ok (.bipush 28, 2) := by decide +kernel
theorem V.dX17_checksElement_141 : decode cX17_checksElement 141 = .ok (.iload_n 2, 1) := by decide +kernel
theorem V.dX17_checksElement_142 : decode cX17_checksElement 142 = .ok (.invokevirtual 257, 3) := by decide +kernel
theorem V.dX17_checksElement_145 : decode cX17_checksElement 145 = .ok (.aload_n 0, 1) := by decide +kernel
theorem V.dX17_checksElement_146 : decode cX17_checksElement 146 = .ok (.aload_n 0, 1) := by decide +kernel
theorem V.dX17_checksElement_147 : decode cX17_checksElement 147 = .ok (.getfield 221, 3) := by decide +kernel
theorem V.dX17_checksElement_150 : decode cX17_checksElement 150 = .ok (.getfield 495, 3) := by decide +kernel
theorem V.dX17_checksElement_153 : decode cX17_checksElement 153 = .ok (.iload_n 1, 1) := by decide +kernel
theorem V.dX17_checksElement_154 : decode cX17_checksElement 154 = .ok (.iaload, 1) := by decide +kernel
theorem V.dX17_checksElement_155 : decode cX17_checksElement 155 = .ok (.bipush 127, 2) := by decide +kernel
theorem V.dX17_checksElement_157 : decode cX17_checksElement 157 = .ok (.invokevirtual 627, 3) := by decide +kernel
theorem V.dX17_checksElement_160 : decode cX17_checksElement 160 = .ok (.aload_n 0, 1) := by decide +kernel
theorem V.dX17_checksElement_161 : decode cX17_checksElement 161 = .ok (.aload_n 0, 1) := by decide +kernel
theorem V.dX17_checksElement_162 : decode cX17_checksElement 162 = .ok (.getfield 221, 3) := by decide +kernel
theorem V.dX17_checksElement_165 : decode cX17_checksElement 165 = .ok (.getfield 504, 3) := by decide +kernel
theorem V.dX17_checksElement_168 : decode cX17_checksElement 168 = .ok (.iload_n 1, 1) := by decide +kernel
theorem V.dX17_checksElement_169 : decode cX17_checksElement 169 = .ok (.iaload, 1) := by decide +kernel
theorem V.dX17_checksElement_170 : decode cX17_checksElement 170 = .ok (.putfield 594, 3) := by decide +kernel
theorem V.dX17_checksElement_173 : decode cX17_checksElement 173 = .ok (.iconst 0, 1) := by decide +kernel
theorem V.dX17_checksElement_174 : decode cX17_checksElement 174 = .ok (.istore_n 3, 1) := by decide +kernel
theorem V.dX17_checksElement_175 : decode cX17_checksElement 175 = .ok (.iload_n 3, 1) := by decide +kernel
theorem V.dX17_checksElement_176 : decode cX17_checksElement 176 = .ok (.aload_n 0, 1) := by decide +kernel
theorem V.dX17_checksElement_177 : decode cX17_checksElement 177 = .ok (.getfield 221, 3) := by decide +kernel
theorem V.dX17_checksElement_180 : decode cX17_checksElement 180 = .ok (.getfield 507, 3) := by decide +kernel
theorem V.dX17_checksElement_183 : decode cX17_checksElement 183 = .ok (.iload_n 1, 1) := by decide +kernel
theorem V.dX17_checksElement_184 : decode cX17_checksElement 184 = .ok (.iaload, 1) := by decide +kernel
theorem V.dX17_checksElement_185 : decode cX17_checksElement 185 = .ok (.if_icmp .ge 38, 3) := by decide +kernel
theorem V.dX17_checksElement_188 : decode cX17_checksElement 188 = .ok (.aload_n 0, 1) := by decide +kernel
theorem V.dX17_checksElement_189 : decode cX17_checksElement 189 = .ok (.getfield 221, 3) := by decide +kernel
theorem V.dX17_checksElement_192 : decode cX17_checksElement 192 = .ok (.getfield 498, 3) := by decide +kernel
theorem V.dX17_checksElement_195 : decode cX17_checksElement 195 = .ok (.iload_n 1, 1) := by decide +kernel
theorem V.dX17_checksElement_196 : decode cX17_checksElement 196 = .ok (.baload, 1) := by decide +kernel
theorem V.dX17_checksElement_197 : decode cX17_checksElement 197 = .ok (.ifCond .eq 26, 3) := by decide +kernel
theorem V.dX17_checksElement_200 : decode cX17_checksElement 200 = .ok (.aload_n 0, 1) := by decide +kernel
theorem V.dX17_checksElement_201 : decode cX17_checksElement 201 = .ok (.aload_n 0, 1) := by decide +kernel
theorem V.dX17_checksElement_202 : decode cX17_checksElement 202 = .ok (.getfield 594, 3) := by decide +kernel
theorem V.dX17_checksElement_205 : decode cX17_checksElement 205 = .ok (.aload_n 0, 1) := by decide +kernel
theorem V.dX17_checksElement_206 : decode cX17_checksElement 206 = .ok (.getfield 221, 3) := by decide +kernel
theorem V.dX17_checksElement_209 : decode cX17_checksElement 209 = .ok (.getfield 501, 3) := by decide +kernel
theorem V.dX17_checksElement_212 : decode cX17_checksElement 212 = .ok (.iload_n 1, 1) := by decide +kernel
theorem V.dX17_checksElement_213 : decode cX17_checksElement 213 = .ok (.iaload, 1) := by decide +kernel
theorem V.dX17_checksElement_214 : decode cX17_checksElement 214 = .ok (.invokevirtual 627, 3) := by decide +kernel
theorem V.dX17_checksElement_217 : decode cX17_checksElement 217 = .ok (.iinc 3 1, 3) := by decide +kernel
theorem V.dX17_checksElement_220 : decode cX17_checksElement 220 = .ok (.goto (-45), 3) := by decide +kernel
theorem V.dX17_checksElement_223 : decode cX17_checksElement 223 = .ok (.return_, 1) := by decide +kernel
theorem V.mdX17_661 : MD RX17 661 yX20_typeOfTable cX20_typeOfTable 3 (some .int) 1 := ⟨Or.inl q3857, q385, q3860, by decide, by decide, by decide +kernel⟩
theorem V.mdX17_627 : MD RX17 627 yX17_constantly cX17_constantly 7 none 2 := ⟨Or.inl q3836, q377, q3839, by decide, by decide, by decide +kernel⟩
/-! ModuleEngineModel.checksElement(I)V -/
def V.Mdl_checksElement_p175  : Nat → HS → Nat → Int32 → Int32 → Option ((Nat ⊕ Unit) × HS)
  | 0, _, _, _, _ => none
  | n + 1, σ, x0, x1, x3 =>
    ck (tg σ x0 = 18) <|
    ck (tg σ (gR σ x0 10) = 21) <|
    ck (tg σ (gR σ (gR σ x0 10) 40) = 100 ∧ inb x1 (ln σ (gR σ (gR σ x0 10) 40))) <|
    if (gI σ (gR σ (gR σ x0 10) 40) (ix x1)) ≤ x3 then (
      some (.inr (), σ))
    else (
      ck (tg σ x0 = 18) <|
      ck (tg σ (gR σ x0 10) = 21) <|
      ck (tg σ (gR σ (gR σ x0 10) 39) = 103 ∧ inb x1 (ln σ (gR σ (gR σ x0 10) 39))) <|
      if (gI σ (gR σ (gR σ x0 10) 39) (ix x1)) = 0 then (
        some (.inr (), σ))
      else (
        ck (tg σ x0 = 18) <|
        ck (tg σ x0 = 18) <|
        ck (tg σ (gR σ x0 10) = 21) <|
        ck (tg σ (gR σ (gR σ x0 10) 38) = 100 ∧ inb x1 (ln σ (gR σ (gR σ x0 10) 38))) <|
        ck (tg σ x0 = 18) <| clT (Mdl_constantly σ x0 (gI σ x0 19) (gI σ (gR σ (gR σ x0 10) 38) (ix x1))) fun _ σ1 =>
        bn (x3 + (1 : Int32)) fun y2 =>
        Mdl_checksElement_p175 n σ1 x0 x1 y2))
theorem V.gX17_checksElement_p175 {X : CX}  : ∀ (n : Nat) (σ : HS) (x0 : Nat) (x1 : Int32) (x3 : Int32), G X RX17 "checksElement" cX17_checksElement 5 none 5 123 (enX enV (cxz X)) 175 [(0, av x0), (1, iv x1), (3, iv x3)] [] σ (Mdl_checksElement_p175 n σ x0 x1 x3)
  | 0, σ, x0, x1, x3 => by rw [Mdl_checksElement_p175]; exact G.nul
  | n + 1, σ, x0, x1, x3 => by
    rw [Mdl_checksElement_p175]
    refine g_iload_n 3 2 dX17_checksElement_175 rfl rfl ?_
    refine g_aload_n 0 0 dX17_checksElement_176 rfl rfl ?_
    refine g_getR fdX17_221 dX17_checksElement_177 ?_
    refine g_getR fdX17_507 dX17_checksElement_180 ?_
    refine g_iload_n 1 1 dX17_checksElement_183 rfl rfl ?_
    refine g_iaload dX17_checksElement_184 ?_
    refine g_icmp_ge 223 dX17_checksElement_185 (by decide) ?_ ?_
    · exact g_return rfl dX17_checksElement_223
    · refine g_aload_n 0 0 dX17_checksElement_188 rfl rfl ?_
      refine g_getR fdX17_221 dX17_checksElement_189 ?_
      refine g_getR fdX17_498 dX17_checksElement_192 ?_
      refine g_iload_n 1 1 dX17_checksElement_195 rfl rfl ?_
      refine g_zaload dX17_checksElement_196 ?_
      refine g_if_eq 223 dX17_checksElement_197 (by decide) ?_ ?_
      · exact g_return rfl dX17_checksElement_223
      · refine g_aload_n 0 0 dX17_checksElement_200 rfl rfl ?_
        refine g_aload_n 0 0 dX17_checksElement_201 rfl rfl ?_
        refine g_getI fdX17_594 dX17_checksElement_202 ?_
        refine g_aload_n 0 0 dX17_checksElement_205 rfl rfl ?_
        refine g_getR fdX17_221 dX17_checksElement_206 ?_
        refine g_getR fdX17_501 dX17_checksElement_209 ?_
        refine g_iload_n 1 1 dX17_checksElement_212 rfl rfl ?_
        refine g_iaload dX17_checksElement_213 ?_
        refine g_callVT (fc := fun sς => Mdl_constantly sς x0 (gI σ x0 19) (gI σ (gR σ (gR σ x0 10) 38) (ix x1))) (ci := 17) (as := [iv (gI σ x0 19), iv (gI σ (gR σ (gR σ x0 10) 38) (ix x1))]) rfl rfl rfl q3838 qs256 q3836 mdX17_627 (ctX17_constantly x0 (gI σ x0 19) (gI σ (gR σ (gR σ x0 10) 38) (ix x1))) rfl (Nat.le_of_ble_eq_true rfl) (Nat.le_of_ble_eq_true rfl) (Nat.le_of_ble_eq_true rfl) pu_V (by decide) dX17_checksElement_214 (fun _ σ1 => ?_)
        refine g_iincB (w := 1) 2 dX17_checksElement_217 rfl (by decide) (by decide) (fun _ => rfl) (fun y2 => ?_)
        refine g_goto 175 dX17_checksElement_220 (by decide) ?_
        refine G.sub [1, 2, 0] rfl ?_
        exact gX17_checksElement_p175 n _ _ _ _
def V.Mdl_checksElement_p160  (σ : HS) (x0 : Nat) (x1 : Int32) : Option ((Nat ⊕ Unit) × HS) :=
  ck (tg σ x0 = 18) <|
  ck (tg σ (gR σ x0 10) = 21) <|
  ck (tg σ (gR σ (gR σ x0 10) 41) = 100 ∧ inb x1 (ln σ (gR σ (gR σ x0 10) 41))) <|
  ck (tg σ x0 = 18) <| bn (sI σ x0 19 (gI σ (gR σ (gR σ x0 10) 41) (ix x1))) fun σ1 =>
  Mdl_checksElement_p175 FU σ1 x0 x1 (0 : Int32)
theorem V.gX17_checksElement_p160 {X : CX}  (σ : HS) (x0 : Nat) (x1 : Int32) : G X RX17 "checksElement" cX17_checksElement 5 none 5 123 (enX enV (cxz X)) 160 [(0, av x0), (1, iv x1)] [] σ (Mdl_checksElement_p160 σ x0 x1) := by
  unfold Mdl_checksElement_p160
  refine g_aload_n 0 0 dX17_checksElement_160 rfl rfl ?_
  refine g_aload_n 0 0 dX17_checksElement_161 rfl rfl ?_
  refine g_getR fdX17_221 dX17_checksElement_162 ?_
  refine g_getR fdX17_504 dX17_checksElement_165 ?_
  refine g_iload_n 1 1 dX17_checksElement_168 rfl rfl ?_
  refine g_iaload dX17_checksElement_169 ?_
  refine g_putI fpX17_594 dX17_checksElement_170 (fun σ1 => ?_)
  refine g_iconst (v := 0) dX17_checksElement_173 (by decide) ?_
  refine g_istore_n 3 dX17_checksElement_174 rfl (by decide) rfl ?_
  refine G.sub [1, 2, 0] rfl ?_
  exact gX17_checksElement_p175 FU _ _ _ _
def V.Mdl_checksElement_p145  (σ : HS) (x0 : Nat) (x1 : Int32) : Option ((Nat ⊕ Unit) × HS) :=
  ck (tg σ x0 = 18) <|
  ck (tg σ (gR σ x0 10) = 21) <|
  ck (tg σ (gR σ (gR σ x0 10) 37) = 100 ∧ inb x1 (ln σ (gR σ (gR σ x0 10) 37))) <|
  ck (tg σ x0 = 18) <| clT (Mdl_constantly σ x0 (gI σ (gR σ (gR σ x0 10) 37) (ix x1)) (127 : Int32)) fun _ σ1 =>
  Mdl_checksElement_p160 σ1 x0 x1
theorem V.gX17_checksElement_p145 {X : CX}  (σ : HS) (x0 : Nat) (x1 : Int32) : G X RX17 "checksElement" cX17_checksElement 5 none 5 123 (enX enV (cxz X)) 145 [(0, av x0), (1, iv x1)] [] σ (Mdl_checksElement_p145 σ x0 x1) := by
  unfold Mdl_checksElement_p145
  refine g_aload_n 0 0 dX17_checksElement_145 rfl rfl ?_
  refine g_aload_n 0 0 dX17_checksElement_146 rfl rfl ?_
  refine g_getR fdX17_221 dX17_checksElement_147 ?_
  refine g_getR fdX17_495 dX17_checksElement_150 ?_
  refine g_iload_n 1 1 dX17_checksElement_153 rfl rfl ?_
  refine g_iaload dX17_checksElement_154 ?_
  refine g_bipush (v := 127) dX17_checksElement_155 (by decide) ?_
  refine g_callVT (fc := fun sς => Mdl_constantly sς x0 (gI σ (gR σ (gR σ x0 10) 37) (ix x1)) (127 : Int32)) (ci := 17) (as := [iv (gI σ (gR σ (gR σ x0 10) 37) (ix x1)), iv (127 : Int32)]) rfl rfl rfl q3838 qs256 q3836 mdX17_627 (ctX17_constantly x0 (gI σ (gR σ (gR σ x0 10) 37) (ix x1)) (127 : Int32)) rfl (Nat.le_of_ble_eq_true rfl) (Nat.le_of_ble_eq_true rfl) (Nat.le_of_ble_eq_true rfl) pu_V (by decide) dX17_checksElement_157 (fun _ σ1 => ?_)
  exact gX17_checksElement_p160 _ _ _
def V.Mdl_checksElement_p138  (σ : HS) (x0 : Nat) (x1 : Int32) (x2 : Int32) : Option ((Nat ⊕ Unit) × HS) :=
  ck (tg σ x0 = 18) <| clT (Mdl_stops σ x0 (28 : Int32) x2) fun _ σ1 =>
  Mdl_checksElement_p145 σ1 x0 x1
theorem V.gX17_checksElement_p138 {X : CX}  (σ : HS) (x0 : Nat) (x1 : Int32) (x2 : Int32) : G X RX17 "checksElement" cX17_checksElement 5 none 5 123 (enX enV (cxz X)) 138 [(0, av x0), (1, iv x1), (2, iv x2)] [] σ (Mdl_checksElement_p138 σ x0 x1 x2) := by
  unfold Mdl_checksElement_p138
  refine g_aload_n 0 0 dX17_checksElement_138 rfl rfl ?_
  refine g_bipush (v := 28) dX17_checksElement_139 (by decide) ?_
  refine g_iload_n 2 2 dX17_checksElement_141 rfl rfl ?_
  refine g_callVT (fc := fun sς => Mdl_stops sς x0 (28 : Int32) x2) (ci := 17) (as := [iv (28 : Int32), iv x2]) rfl rfl rfl q3606 qs214 q3604 mdX17_257 (ctX17_stops x0 (28 : Int32) x2) rfl (Nat.le_of_ble_eq_true rfl) (Nat.le_of_ble_eq_true rfl) (Nat.le_of_ble_eq_true rfl) pu_V (by decide) dX17_checksElement_142 (fun _ σ1 => ?_)
  refine G.sub [0, 1] rfl ?_
  exact gX17_checksElement_p145 _ _ _
def V.Mdl_checksElement_p81  (σ : HS) (x0 : Nat) (x1 : Int32) (x2 : Int32) : Option ((Nat ⊕ Unit) × HS) :=
  ck (tg σ x0 = 18) <|
  ck (tg σ (gR σ x0 10) = 21) <|
  ck (tg σ (gR σ (gR σ x0 10) 35) = 100 ∧ inb x1 (ln σ (gR σ (gR σ x0 10) 35))) <|
  if (gI σ (gR σ (gR σ x0 10) 35) (ix x1)) = 0 then (
    ck (tg σ x0 = 18) <|
    ck (tg σ (gR σ x0 10) = 21) <|
    ck (tg σ (gR σ (gR σ x0 10) 36) = 101 ∧ inb x1 (ln σ (gR σ (gR σ x0 10) 36))) <|
    bn (gJ σ (gR σ (gR σ x0 10) 36) (ix x1)) fun y1 =>
    ck (tg σ x0 = 18) <|
    ck (tg σ (gR σ x0 10) = 21) <| cl (Pln_all σ (gR σ x0 10) (1 : Int32)) fun r3 σ2 =>
    if r3.toInt64 ≤ y1 then (
      Mdl_checksElement_p138 σ2 x0 x1 x2)
    else (
      ck (tg σ2 x0 = 18) <|
      ck (tg σ2 (gR σ2 x0 10) = 21) <| cl (Pln_typeOfTable σ2 (gR σ2 x0 10) y1.toInt32) fun r5 σ4 =>
      ck (tg σ4 x0 = 18) <|
      ck (tg σ4 (gR σ4 x0 10) = 21) <|
      ck (tg σ4 (gR σ4 (gR σ4 x0 10) 38) = 100 ∧ inb x1 (ln σ4 (gR σ4 (gR σ4 x0 10) 38))) <|
      if r5 = (gI σ4 (gR σ4 (gR σ4 x0 10) 38) (ix x1)) then (
        Mdl_checksElement_p145 σ4 x0 x1)
      else (
        Mdl_checksElement_p138 σ4 x0 x1 x2)))
  else (
    Mdl_checksElement_p160 σ x0 x1)
theorem V.gX17_checksElement_p81 {X : CX}  (σ : HS) (x0 : Nat) (x1 : Int32) (x2 : Int32) : G X RX17 "checksElement" cX17_checksElement 5 none 5 123 (enX enV (cxz X)) 81 [(0, av x0), (1, iv x1), (2, iv x2)] [] σ (Mdl_checksElement_p81 σ x0 x1 x2) := by
  unfold Mdl_checksElement_p81
  refine g_aload_n 0 0 dX17_checksElement_81 rfl rfl ?_
  refine g_getR fdX17_221 dX17_checksElement_82 ?_
  refine g_getR fdX17_489 dX17_checksElement_85 ?_
  refine g_iload_n 1 1 dX17_checksElement_88 rfl rfl ?_
  refine g_iaload dX17_checksElement_89 ?_
  refine g_if_ne 160 dX17_checksElement_90 (by decide) ?_ ?_
  · refine G.sub [0, 1] rfl ?_
    exact gX17_checksElement_p160 _ _ _
  · refine g_aload_n 0 0 dX17_checksElement_93 rfl rfl ?_
    refine g_getR fdX17_221 dX17_checksElement_94 ?_
    refine g_getR fdX17_492 dX17_checksElement_97 ?_
    refine g_iload_n 1 1 dX17_checksElement_100 rfl rfl ?_
    refine g_laload dX17_checksElement_101 ?_
    refine g_nmJ (fun y1 => ?_)
    refine g_lstore_n 3 dX17_checksElement_102 rfl (by decide) rfl ?_
    refine g_lload_n 3 0 dX17_checksElement_103 rfl rfl ?_
    refine g_aload_n 0 1 dX17_checksElement_104 rfl rfl ?_
    refine g_getR fdX17_221 dX17_checksElement_105 ?_
    refine g_iconst (v := 1) dX17_checksElement_108 (by decide) ?_
    refine g_callV (fc := fun sς => Pln_all sς (gR σ x0 10) (1 : Int32)) (ci := 20) (as := [iv (1 : Int32)]) rfl rfl rfl q3780 q3781 mdX17_615 (ctX20_all (gR σ x0 10) (1 : Int32)) rfl (Nat.le_of_ble_eq_true rfl) (Nat.le_of_ble_eq_true rfl) (Nat.le_of_ble_eq_true rfl) pu_I dX17_checksElement_109 (fun r3 σ2 => ?_)
    refine g_i2l dX17_checksElement_112 ?_
    refine g_lcmp_ge 138 dX17_checksElement_113 dX17_checksElement_114 (by decide) ?_ ?_
    · refine G.sub [1, 2, 3] rfl ?_
      exact gX17_checksElement_p138 _ _ _ _
    · refine g_aload_n 0 1 dX17_checksElement_117 rfl rfl ?_
      refine g_getR fdX17_221 dX17_checksElement_118 ?_
      refine g_lload_n 3 0 dX17_checksElement_121 rfl rfl ?_
      refine g_l2i dX17_checksElement_122 ?_
      refine g_callV (fc := fun sς => Pln_typeOfTable sς (gR σ2 x0 10) y1.toInt32) (ci := 20) (as := [iv y1.toInt32]) rfl rfl rfl q3858 q3859 mdX17_661 (ctX20_typeOfTable (gR σ2 x0 10) y1.toInt32) rfl (Nat.le_of_ble_eq_true rfl) (Nat.le_of_ble_eq_true rfl) (Nat.le_of_ble_eq_true rfl) pu_I dX17_checksElement_123 (fun r5 σ4 => ?_)
      refine g_aload_n 0 1 dX17_checksElement_126 rfl rfl ?_
      refine g_getR fdX17_221 dX17_checksElement_127 ?_
      refine g_getR fdX17_501 dX17_checksElement_130 ?_
      refine g_iload_n 1 2 dX17_checksElement_133 rfl rfl ?_
      refine g_iaload dX17_checksElement_134 ?_
      refine g_icmp_eq 145 dX17_checksElement_135 (by decide) ?_ ?_
      · refine G.sub [1, 2] rfl ?_
        exact gX17_checksElement_p145 _ _ _
      · refine G.sub [1, 2, 3] rfl ?_
        exact gX17_checksElement_p138 _ _ _ _
def V.Mdl_checksElement_p75 (rec38 : HS → Nat → Int32 → Int32 → Int32 → Option ((Nat ⊕ Unit) × HS)) (σ : HS) (x0 : Nat) (x1 : Int32) (x2 : Int32) (x3 : Int32) : Option ((Nat ⊕ Unit) × HS) :=
  bn (x3 + (1 : Int32)) fun y1 =>
  rec38 σ x0 x1 x2 y1
theorem V.gX17_checksElement_p75 {X : CX} (rec38 : HS → Nat → Int32 → Int32 → Int32 → Option ((Nat ⊕ Unit) × HS)) (hrec38 : ∀ (σ : HS) (x0 : Nat) (x1 : Int32) (x2 : Int32) (x3 : Int32), G X RX17 "checksElement" cX17_checksElement 5 none 5 123 (enX enV (cxz X)) 38 [(0, av x0), (1, iv x1), (2, iv x2), (3, iv x3)] [] σ (rec38 σ x0 x1 x2 x3)) (σ : HS) (x0 : Nat) (x1 : Int32) (x2 : Int32) (x3 : Int32) : G X RX17 "checksElement" cX17_checksElement 5 none 5 123 (enX enV (cxz X)) 75 [(0, av x0), (1, iv x1), (2, iv x2), (3, iv x3)] [] σ (Mdl_checksElement_p75 rec38 σ x0 x1 x2 x3) := by
  unfold Mdl_checksElement_p75
  refine g_iincB (w := 1) 3 dX17_checksElement_75 rfl (by decide) (by decide) (fun _ => rfl) (fun y1 => ?_)
  refine g_goto 38 dX17_checksElement_78 (by decide) ?_
  refine G.sub [1, 2, 3, 0] rfl ?_
  exact hrec38 _ _ _ _ _
def V.Mdl_checksElement_p38  : Nat → HS → Nat → Int32 → Int32 → Int32 → Option ((Nat ⊕ Unit) × HS)
  | 0, _, _, _, _, _ => none
  | n + 1, σ, x0, x1, x2, x3 =>
    ck (tg σ x0 = 18) <|
    ck (tg σ (gR σ x0 10) = 21) <|
    ck (tg σ (gR σ (gR σ x0 10) 40) = 100 ∧ inb x1 (ln σ (gR σ (gR σ x0 10) 40))) <|
    if (gI σ (gR σ (gR σ x0 10) 40) (ix x1)) ≤ x3 then (
      Mdl_checksElement_p81 σ x0 x1 x2)
    else (
      ck (tg σ x0 = 18) <| cl (Mdl_word σ x0 ) fun r2 σ1 =>
      ck (tg σ1 x0 = 18) <|
      ck (tg σ1 (gR σ1 x0 10) = 21) <| cl (Pln_all σ1 (gR σ1 x0 10) (0 : Int32)) fun r4 σ3 =>
      if r2 < r4.toInt64 then (
        Mdl_checksElement_p75 (Mdl_checksElement_p38 n) σ3 x0 x1 x2 x3)
      else (
        ck (tg σ3 x0 = 18) <| clT (Mdl_stops σ3 x0 (28 : Int32) x2) fun _ σ5 =>
        Mdl_checksElement_p75 (Mdl_checksElement_p38 n) σ5 x0 x1 x2 x3))
theorem V.gX17_checksElement_p38 {X : CX}  : ∀ (n : Nat) (σ : HS) (x0 : Nat) (x1 : Int32) (x2 : Int32) (x3 : Int32), G X RX17 "checksElement" cX17_checksElement 5 none 5 123 (enX enV (cxz X)) 38 [(0, av x0), (1, iv x1), (2, iv x2), (3, iv x3)] [] σ (Mdl_checksElement_p38 n σ x0 x1 x2 x3)
  | 0, σ, x0, x1, x2, x3 => by rw [Mdl_checksElement_p38]; exact G.nul
  | n + 1, σ, x0, x1, x2, x3 => by
    rw [Mdl_checksElement_p38]
    refine g_iload_n 3 3 dX17_checksElement_38 rfl rfl ?_
    refine g_aload_n 0 0 dX17_checksElement_39 rfl rfl ?_
    refine g_getR fdX17_221 dX17_checksElement_40 ?_
    refine g_getR fdX17_507 dX17_checksElement_43 ?_
    refine g_iload_n 1 1 dX17_checksElement_46 rfl rfl ?_
    refine g_iaload dX17_checksElement_47 ?_
    refine g_icmp_ge 81 dX17_checksElement_48 (by decide) ?_ ?_
    · refine G.sub [0, 1, 2] rfl ?_
      exact gX17_checksElement_p81 _ _ _ _
    · refine g_aload_n 0 0 dX17_checksElement_51 rfl rfl ?_
      refine g_callV (fc := fun sς => Mdl_word sς x0 ) (ci := 17) (as := []) rfl rfl rfl q3813 qs250 mdX17_603 (ctX17_word x0 ) rfl (Nat.le_of_ble_eq_true rfl) (Nat.le_of_ble_eq_true rfl) (Nat.le_of_ble_eq_true rfl) pu_J dX17_checksElement_52 (fun r2 σ1 => ?_)
      refine g_aload_n 0 0 dX17_checksElement_55 rfl rfl ?_
      refine g_getR fdX17_221 dX17_checksElement_56 ?_
      refine g_iconst (v := 0) dX17_checksElement_59 (by decide) ?_
      refine g_callV (fc := fun sς => Pln_all sς (gR σ1 x0 10) (0 : Int32)) (ci := 20) (as := [iv (0 : Int32)]) rfl rfl rfl q3780 q3781 mdX17_615 (ctX20_all (gR σ1 x0 10) (0 : Int32)) rfl (Nat.le_of_ble_eq_true rfl) (Nat.le_of_ble_eq_true rfl) (Nat.le_of_ble_eq_true rfl) pu_I dX17_checksElement_60 (fun r4 σ3 => ?_)
      refine g_i2l dX17_checksElement_63 ?_
      refine g_lcmp_lt 75 dX17_checksElement_64 dX17_checksElement_65 (by decide) ?_ ?_
      · exact gX17_checksElement_p75 (Mdl_checksElement_p38 n) (gX17_checksElement_p38 n) _ _ _ _ _
      · refine g_aload_n 0 0 dX17_checksElement_68 rfl rfl ?_
        refine g_bipush (v := 28) dX17_checksElement_69 (by decide) ?_
        refine g_iload_n 2 2 dX17_checksElement_71 rfl rfl ?_
        refine g_callVT (fc := fun sς => Mdl_stops sς x0 (28 : Int32) x2) (ci := 17) (as := [iv (28 : Int32), iv x2]) rfl rfl rfl q3606 qs214 q3604 mdX17_257 (ctX17_stops x0 (28 : Int32) x2) rfl (Nat.le_of_ble_eq_true rfl) (Nat.le_of_ble_eq_true rfl) (Nat.le_of_ble_eq_true rfl) pu_V (by decide) dX17_checksElement_72 (fun _ σ5 => ?_)
        exact gX17_checksElement_p75 (Mdl_checksElement_p38 n) (gX17_checksElement_p38 n) _ _ _ _ _
def V.Mdl_checksElement (σ : HS) (x0 : Nat) (x1 : Int32) : Option ((Nat ⊕ Unit) × HS) :=
  ck (tg σ x0 = 18) <|
  ck (tg σ (gR σ x0 10) = 21) <|
  ck (tg σ (gR σ (gR σ x0 10) 2) = 100 ∧ inb (9 : Int32) (ln σ (gR σ (gR σ x0 10) 2))) <|
  bn (gI σ (gR σ (gR σ x0 10) 2) (ix (9 : Int32))) fun y1 =>
  ck (tg σ x0 = 18) <|
  ck (tg σ (gR σ x0 10) = 21) <|
  ck (tg σ (gR σ (gR σ x0 10) 39) = 103 ∧ inb x1 (ln σ (gR σ (gR σ x0 10) 39))) <|
  if (gI σ (gR σ (gR σ x0 10) 39) (ix x1)) = 0 then (
    ck (tg σ x0 = 18) <|
    ck (tg σ (gR σ x0 10) = 21) <|
    ck (tg σ (gR σ (gR σ x0 10) 41) = 100 ∧ inb x1 (ln σ (gR σ (gR σ x0 10) 41))) <|
    ck (tg σ x0 = 18) <| bn (sI σ x0 19 (gI σ (gR σ (gR σ x0 10) 41) (ix x1))) fun σ2 =>
    Mdl_checksElement_p38 FU σ2 x0 x1 y1 (0 : Int32))
  else (
    Mdl_checksElement_p81 σ x0 x1 y1)
theorem V.ctX17_checksElement (x0 : Nat) (x1 : Int32) : Ct yX17_checksElement  cX17_checksElement 5 none 5 123 eXV [av x0, iv x1] (fun σ => Mdl_checksElement σ x0 x1) := by
  refine Ct.of (own := RX17) (nm := "checksElement") (desc := "(I)V") rfl (by decide) (Nat.le_of_ble_eq_true rfl) (by decide) (fun X σ => ?_)
  show G X RX17 "checksElement" cX17_checksElement 5 none 5 123 (enX enV (cxz X)) 0 [(0, av x0), (1, iv x1)] [] σ (Mdl_checksElement σ x0 x1)
  unfold Mdl_checksElement
  refine g_aload_n 0 0 dX17_checksElement_0 rfl rfl ?_
  refine g_getR fdX17_221 dX17_checksElement_1 ?_
  refine g_getR fdX17_302 dX17_checksElement_4 ?_
  refine g_bipush (v := 9) dX17_checksElement_7 (by decide) ?_
  refine g_iaload dX17_checksElement_9 ?_
  refine g_nmI (fun y1 => ?_)
  refine g_istore_n 2 dX17_checksElement_10 rfl (by decide) rfl ?_
  refine g_aload_n 0 1 dX17_checksElement_11 rfl rfl ?_
  refine g_getR fdX17_221 dX17_checksElement_12 ?_
  refine g_getR fdX17_498 dX17_checksElement_15 ?_
  refine g_iload_n 1 2 dX17_checksElement_18 rfl rfl ?_
  refine g_zaload dX17_checksElement_19 ?_
  refine g_if_ne 81 dX17_checksElement_20 (by decide) ?_ ?_
  · refine G.sub [1, 2, 0] rfl ?_
    exact gX17_checksElement_p81 _ _ _ _
  · refine g_aload_n 0 1 dX17_checksElement_23 rfl rfl ?_
    refine g_aload_n 0 1 dX17_checksElement_24 rfl rfl ?_
    refine g_getR fdX17_221 dX17_checksElement_25 ?_
    refine g_getR fdX17_504 dX17_checksElement_28 ?_
    refine g_iload_n 1 2 dX17_checksElement_31 rfl rfl ?_
    refine g_iaload dX17_checksElement_32 ?_
    refine g_putI fpX17_594 dX17_checksElement_33 (fun σ2 => ?_)
    refine g_iconst (v := 0) dX17_checksElement_36 (by decide) ?_
    refine g_istore_n 3 dX17_checksElement_37 rfl (by decide) rfl ?_
    refine G.sub [2, 3, 1, 0] rfl ?_
    exact gX17_checksElement_p38 FU _ _ _ _ _
theorem V.dX17_begins_0 : decode cX17_begins 0 = .ok (.aload_n 0, 1) := by decide +kernel
theorem V.dX17_begins_1 : decode cX17_begins 1 = .ok (.getfield 682, 3) := by decide +kernel
theorem V.dX17_begins_4 : decode cX17_begins 4 = .ok (.sipush 200, 3) := by decide +kernel
theorem V.dX17_begins_7 : decode cX17_begins 7 = .ok (.if_icmp .ne 13, 3) := by decide +kernel
theorem V.dX17_begins_10 : decode cX17_begins 10 = .ok (.aload_n 0, 1) := by decide +kernel
theorem V.dX17_begins_11 : decode cX17_begins 11 = .ok (.bipush 40, 2) := by decide +kernel
theorem V.dX17_begins_13 : decode cX17_begins 13 = .ok (.aload_n 0, 1) := by decide +kernel
theorem V.dX17_begins_14 : decode cX17_begins 14 = .ok (.getfield 686, 3) := by decide +kernel
theorem V.dX17_begins_17 : decode cX17_begins 17 = .ok (.invokevirtual 257, 3) := by decide +kernel
theorem V.dX17_begins_20 : decode cX17_begins 20 = .ok (.aload_n 0, 1) := by decide +kernel
theorem V.dX17_begins_21 : decode cX17_begins 21 = .ok (.getfield 42, 3) := by decide +kernel
theorem V.dX17_begins_24 : decode cX17_begins 24 = .ok (.aload_n 0, 1) := by decide +kernel
theorem V.dX17_begins_25 : decode cX17_begins 25 = .ok (.getfield 682, 3) := by decide +kernel
theorem V.dX17_begins_28 : decode cX17_begins 28 = .ok (.iload_n 1, 1) := by decide +kernel
theorem V.dX17_begins_29 : decode cX17_begins 29 = .ok (.iastore, 1) := by decide +kernel
theorem V.dX17_begins_30 : decode cX17_begins 30 = .ok (.aload_n 0, 1) := by decide +kernel
theorem V.dX17_begins_31 : decode cX17_begins 31 = .ok (.getfield 45, 3) := by decide +kernel
theorem V.dX17_begins_34 : decode cX17_begins 34 = .ok (.aload_n 0, 1) := by decide +kernel
theorem V.dX17_begins_35 : decode cX17_begins 35 = .ok (.getfield 682, 3) := by decide +kernel
theorem V.dX17_begins_38 : decode cX17_begins 38 = .ok (.lload_n 2, 1) := by decide +kernel
theorem V.dX17_begins_39 : decode cX17_begins 39 = .ok (.lastore, 1) := by decide +kernel
theorem V.dX17_begins_40 : decode cX17_begins 40 = .ok (.aload_n 0, 1) := by decide +kernel
theorem V.dX17_begins_41 : decode cX17_begins 41 = .ok (.getfield 49, 3) := by decide +kernel
theorem V.dX17_begins_44 : decode cX17_begins 44 = .ok (.aload_n 0, 1) := by decide +kernel
theorem V.dX17_begins_45 : decode cX17_begins 45 = .ok (.getfield 682, 3) := by decide +kernel
theorem V.dX17_begins_48 : decode cX17_begins 48 = .ok (.aload_n 0, 1) := by decide +kernel
theorem V.dX17_begins_49 : decode cX17_begins 49 = .ok (.getfield 685, 3) := by decide +kernel
theorem V.dX17_begins_52 : decode cX17_begins 52 = .ok (.iastore, 1) := by decide +kernel
theorem V.dX17_begins_53 : decode cX17_begins 53 = .ok (.aload_n 0, 1) := by decide +kernel
theorem V.dX17_begins_54 : decode cX17_begins 54 = .ok (.getfield 52, 3) := by decide +kernel
theorem V.dX17_begins_57 : decode cX17_begins 57 = .ok (.aload_n 0, 1) := by decide +kernel
theorem V.dX17_begins_58 : decode cX17_begins 58 = .ok (.getfield 682, 3) := by decide +kernel
theorem V.dX17_begins_61 : decode cX17_begins 61 = .ok (.iconst 0, 1) := by decide +kernel
theorem V.dX17_begins_62 : decode cX17_begins 62 = .ok (.bastore, 1) := by decide +kernel
theorem V.dX17_begins_63 : decode cX17_begins 63 = .ok (.aload_n 0, 1) := by decide +kernel
theorem V.dX17_begins_64 : decode cX17_begins 64 = .ok (.dup, 1) := by decide +kernel
theorem V.dX17_begins_65 : decode cX17_begins 65 = .ok (.getfield 682, 3) := by decide +kernel
theorem V.dX17_begins_68 : decode cX17_begins 68 = .ok (.iconst 1, 1) := by decide +kernel
theorem V.dX17_begins_69 : decode cX17_begins 69 = .ok (.iadd, 1) := by decide +kernel
theorem V.dX17_begins_70 : decode cX17_begins 70 = .ok (.putfield 682, 3) := by decide +kernel
theorem V.dX17_begins_73 : decode cX17_begins 73 = .ok (.return_, 1) := by decide +kernel
theorem V.fdX17_682 : FD RX17 682 17 24 0 := ⟨(RX17, TX17, 101), tyX17, rfl, rfl, in_X17, by decide, Or.inl q3060, rfl⟩
theorem V.fdX17_686 : FD RX17 686 17 31 0 := ⟨(RX17, TX17, 101), tyX17, rfl, rfl, in_X17, by decide, Or.inl q3067, rfl⟩
theorem V.fdX17_42 : FD RX17 42 17 25 2 := ⟨(RX17, TX17, 101), tyX17, rfl, rfl, in_X17, by decide, Or.inl q3061, rfl⟩
theorem V.fdX17_45 : FD RX17 45 17 26 2 := ⟨(RX17, TX17, 101), tyX17, rfl, rfl, in_X17, by decide, Or.inl q3062, rfl⟩
theorem V.fdX17_49 : FD RX17 49 17 27 2 := ⟨(RX17, TX17, 101), tyX17, rfl, rfl, in_X17, by decide, Or.inl q3063, rfl⟩
theorem V.fdX17_685 : FD RX17 685 17 23 0 := ⟨(RX17, TX17, 101), tyX17, rfl, rfl, in_X17, by decide, Or.inl q3059, rfl⟩
theorem V.fdX17_52 : FD RX17 52 17 28 2 := ⟨(RX17, TX17, 101), tyX17, rfl, rfl, in_X17, by decide, Or.inl q3064, rfl⟩
theorem V.fpX17_682 {nm : String} : FP RX17 nm 682 17 24 (.int) := ⟨(RX17, TX17, 101), tyX17, rfl, rfl, in_X17, by decide, tyX17_ok, nmX17, rfl, Or.inl ⟨rfl, Or.inl q3060⟩⟩
/-! ModuleEngineModel.begins(IJ)V -/
def V.Mdl_begins_p20  (σ : HS) (x0 : Nat) (x1 : Int32) (x2 : Int64) : Option ((Nat ⊕ Unit) × HS) :=
  ck (tg σ x0 = 18) <|
  ck (tg σ x0 = 18) <|
  ck (tg σ (gR σ x0 25) = 100 ∧ inb (gI σ x0 24) (ln σ (gR σ x0 25))) <| bn (sI σ (gR σ x0 25) (ix (gI σ x0 24)) x1) fun σ1 =>
  ck (tg σ1 x0 = 18) <|
  ck (tg σ1 x0 = 18) <|
  ck (tg σ1 (gR σ1 x0 26) = 101 ∧ inb (gI σ1 x0 24) (ln σ1 (gR σ1 x0 26))) <| bn (sJ σ1 (gR σ1 x0 26) (ix (gI σ1 x0 24)) x2) fun σ2 =>
  ck (tg σ2 x0 = 18) <|
  ck (tg σ2 x0 = 18) <|
  ck (tg σ2 x0 = 18) <|
  ck (tg σ2 (gR σ2 x0 27) = 100 ∧ inb (gI σ2 x0 24) (ln σ2 (gR σ2 x0 27))) <| bn (sI σ2 (gR σ2 x0 27) (ix (gI σ2 x0 24)) (gI σ2 x0 23)) fun σ3 =>
  ck (tg σ3 x0 = 18) <|
  ck (tg σ3 x0 = 18) <|
  ck (tg σ3 (gR σ3 x0 28) = 103 ∧ inb (gI σ3 x0 24) (ln σ3 (gR σ3 x0 28)) ∧ zb (0 : Int32)) <| bn (sI σ3 (gR σ3 x0 28) (ix (gI σ3 x0 24)) (0 : Int32)) fun σ4 =>
  ck (tg σ4 x0 = 18) <|
  ck (tg σ4 x0 = 18) <| bn (sI σ4 x0 24 ((gI σ4 x0 24) + (1 : Int32))) fun σ5 =>
  some (.inr (), σ5)
theorem V.gX17_begins_p20 {X : CX}  (σ : HS) (x0 : Nat) (x1 : Int32) (x2 : Int64) : G X RX17 "begins" cX17_begins 4 none 1 22 (enX enV (cxz X)) 20 [(0, av x0), (1, iv x1), (2, jv x2)] [] σ (Mdl_begins_p20 σ x0 x1 x2) := by
  unfold Mdl_begins_p20
  refine g_aload_n 0 0 dX17_begins_20 rfl rfl ?_
  refine g_getR fdX17_42 dX17_begins_21 ?_
  refine g_aload_n 0 0 dX17_begins_24 rfl rfl ?_
  refine g_getI fdX17_682 dX17_begins_25 ?_
  refine g_iload_n 1 1 dX17_begins_28 rfl rfl ?_
  refine g_iastore dX17_begins_29 (fun σ1 => ?_)
  refine g_aload_n 0 0 dX17_begins_30 rfl rfl ?_
  refine g_getR fdX17_45 dX17_begins_31 ?_
  refine g_aload_n 0 0 dX17_begins_34 rfl rfl ?_
  refine g_getI fdX17_682 dX17_begins_35 ?_
  refine g_lload_n 2 2 dX17_begins_38 rfl rfl ?_
  refine g_lastore dX17_begins_39 (fun σ2 => ?_)
  refine g_aload_n 0 0 dX17_begins_40 rfl rfl ?_
  refine g_getR fdX17_49 dX17_begins_41 ?_
  refine g_aload_n 0 0 dX17_begins_44 rfl rfl ?_
  refine g_getI fdX17_682 dX17_begins_45 ?_
  refine g_aload_n 0 0 dX17_begins_48 rfl rfl ?_
  refine g_getI fdX17_685 dX17_begins_49 ?_
  refine g_iastore dX17_begins_52 (fun σ3 => ?_)
  refine g_aload_n 0 0 dX17_begins_53 rfl rfl ?_
  refine g_getR fdX17_52 dX17_begins_54 ?_
  refine g_aload_n 0 0 dX17_begins_57 rfl rfl ?_
  refine g_getI fdX17_682 dX17_begins_58 ?_
  refine g_iconst (v := 0) dX17_begins_61 (by decide) ?_
  refine g_zastore dX17_begins_62 (fun σ4 => ?_)
  refine g_aload_n 0 0 dX17_begins_63 rfl rfl ?_
  refine g_dup dX17_begins_64 rfl ?_
  refine g_getI fdX17_682 dX17_begins_65 ?_
  refine g_iconst (v := 1) dX17_begins_68 (by decide) ?_
  refine g_iadd dX17_begins_69 ?_
  refine g_putI fpX17_682 dX17_begins_70 (fun σ5 => ?_)
  exact g_return rfl dX17_begins_73
def V.Mdl_begins (σ : HS) (x0 : Nat) (x1 : Int32) (x2 : Int64) : Option ((Nat ⊕ Unit) × HS) :=
  ck (tg σ x0 = 18) <|
  if (gI σ x0 24) = (200 : Int32) then (
    ck (tg σ x0 = 18) <|
    ck (tg σ x0 = 18) <| clT (Mdl_stops σ x0 (40 : Int32) (gI σ x0 31)) fun _ σ1 =>
    Mdl_begins_p20 σ1 x0 x1 x2)
  else (
    Mdl_begins_p20 σ x0 x1 x2)
theorem V.ctX17_begins (x0 : Nat) (x1 : Int32) (x2 : Int64) : Ct yX17_begins  cX17_begins 4 none 1 22 eXV [av x0, iv x1, jv x2] (fun σ => Mdl_begins σ x0 x1 x2) := by
  refine Ct.of (own := RX17) (nm := "begins") (desc := "(IJ)V") rfl (by decide) (Nat.le_of_ble_eq_true rfl) (by decide) (fun X σ => ?_)
  show G X RX17 "begins" cX17_begins 4 none 1 22 (enX enV (cxz X)) 0 [(0, av x0), (1, iv x1), (2, jv x2)] [] σ (Mdl_begins σ x0 x1 x2)
  unfold Mdl_begins
  refine g_aload_n 0 0 dX17_begins_0 rfl rfl ?_
  refine g_getI fdX17_682 dX17_begins_1 ?_
  refine g_sipush (v := 200) dX17_begins_4 (by decide) ?_
  refine g_icmp_ne 20 dX17_begins_7 (by decide) ?_ ?_
  · exact gX17_begins_p20 _ _ _ _
  · refine g_aload_n 0 0 dX17_begins_10 rfl rfl ?_
    refine g_bipush (v := 40) dX17_begins_11 (by decide) ?_
    refine g_aload_n 0 0 dX17_begins_13 rfl rfl ?_
    refine g_getI fdX17_686 dX17_begins_14 ?_
    refine g_callVT (fc := fun sς => Mdl_stops sς x0 (40 : Int32) (gI σ x0 31)) (ci := 17) (as := [iv (40 : Int32), iv (gI σ x0 31)]) rfl rfl rfl q3606 qs214 q3604 mdX17_257 (ctX17_stops x0 (40 : Int32) (gI σ x0 31)) rfl (Nat.le_of_ble_eq_true rfl) (Nat.le_of_ble_eq_true rfl) (Nat.le_of_ble_eq_true rfl) pu_V (by decide) dX17_begins_17 (fun _ σ1 => ?_)
    exact gX17_begins_p20 _ _ _ _
theorem V.dX17_widthOf_0 : decode cX17_widthOf 0 = .ok (.iload_n 0, 1) := by decide +kernel
theorem V.dX17_widthOf_1 : decode cX17_widthOf 1 = .ok (.tableswitch 113 40 62 #[109, 107, 109, 107, 113, 113, 111, 111, 113, 113, 111, 111, 109, 109, 109, 107, 109, 107, 113, 111, 113, 111, 109], 107) := by decide +kernel
theorem V.dX17_widthOf_108 : decode cX17_widthOf 108 = .ok (.iconst 3, 1) := by decide +kernel
theorem V.dX17_widthOf_109 : decode cX17_widthOf 109 = .ok (.ireturn, 1) := by decide +kernel
theorem V.dX17_widthOf_110 : decode cX17_widthOf 110 = .ok (.iconst 2, 1) := by decide +kernel
theorem V.dX17_widthOf_111 : decode cX17_widthOf 111 = .ok (.ireturn, 1) := by decide +kernel
theorem V.dX17_widthOf_112 : decode cX17_widthOf 112 = .ok (.iconst 1, 1) := by decide +kernel
theorem V.dX17_widthOf_113 : decode cX17_widthOf 113 = .ok (.ireturn, 1) := by decide +kernel
theorem V.dX17_widthOf_114 : decode cX17_widthOf 114 = .ok (.iconst 0, 1) := by decide +kernel
theorem V.dX17_widthOf_115 : decode cX17_widthOf 115 = .ok (.ireturn, 1) := by decide +kernel
/-! ModuleEngineModel.widthOf(I)I -/
def V.Mdl_widthOf (σ : HS) (x0 : Int32) : Option (Int32 × HS) :=
  swx x0 [
    (40, (
      some ((2 : Int32), σ))),
    (41, (
      some ((3 : Int32), σ))),
    (42, (
      some ((2 : Int32), σ))),
    (43, (
      some ((3 : Int32), σ))),
    (46, (
      some ((1 : Int32), σ))),
    (47, (
      some ((1 : Int32), σ))),
    (50, (
      some ((1 : Int32), σ))),
    (51, (
      some ((1 : Int32), σ))),
    (52, (
      some ((2 : Int32), σ))),
    (53, (
      some ((2 : Int32), σ))),
    (54, (
      some ((2 : Int32), σ))),
    (55, (
      some ((3 : Int32), σ))),
    (56, (
      some ((2 : Int32), σ))),
    (57, (
      some ((3 : Int32), σ))),
    (59, (
      some ((1 : Int32), σ))),
    (61, (
      some ((1 : Int32), σ))),
    (62, (
      some ((2 : Int32), σ)))
    ] (
    some ((0 : Int32), σ))
theorem V.ctX17_widthOf (x0 : Int32) : Ct yX17_widthOf  cX17_widthOf 1 (some .int) 0 0 eI [iv x0] (fun σ => Mdl_widthOf σ x0) := by
  refine Ct.of (own := RX17) (nm := "widthOf") (desc := "(I)I") rfl (by decide) (Nat.le_of_ble_eq_true rfl) (by decide) (fun X σ => ?_)
  show G X RX17 "widthOf" cX17_widthOf 1 (some .int) 0 0 enI 0 [(0, iv x0)] [] σ (Mdl_widthOf σ x0)
  unfold Mdl_widthOf
  refine g_iload_n 0 0 dX17_widthOf_0 rfl rfl ?_
  refine g_tsw dX17_widthOf_1 (by decide +kernel) ?_
  refine g_case ex0 (t := 110) (by decide +kernel) ?_ (fun hx => ?_)
  · refine g_iconst (v := 2) dX17_widthOf_110 (by decide) ?_
    exact g_ireturn rfl dX17_widthOf_111
  refine g_case hx (t := 108) (by decide +kernel) ?_ (fun hx => ?_)
  · refine g_iconst (v := 3) dX17_widthOf_108 (by decide) ?_
    exact g_ireturn rfl dX17_widthOf_109
  refine g_case hx (t := 110) (by decide +kernel) ?_ (fun hx => ?_)
  · refine g_iconst (v := 2) dX17_widthOf_110 (by decide) ?_
    exact g_ireturn rfl dX17_widthOf_111
  refine g_case hx (t := 108) (by decide +kernel) ?_ (fun hx => ?_)
  · refine g_iconst (v := 3) dX17_widthOf_108 (by decide) ?_
    exact g_ireturn rfl dX17_widthOf_109
  refine g_case hx (t := 112) (by decide +kernel) ?_ (fun hx => ?_)
  · refine g_iconst (v := 1) dX17_widthOf_112 (by decide) ?_
    exact g_ireturn rfl dX17_widthOf_113
  refine g_case hx (t := 112) (by decide +kernel) ?_ (fun hx => ?_)
  · refine g_iconst (v := 1) dX17_widthOf_112 (by decide) ?_
    exact g_ireturn rfl dX17_widthOf_113
  refine g_case hx (t := 112) (by decide +kernel) ?_ (fun hx => ?_)
  · refine g_iconst (v := 1) dX17_widthOf_112 (by decide) ?_
    exact g_ireturn rfl dX17_widthOf_113
  refine g_case hx (t := 112) (by decide +kernel) ?_ (fun hx => ?_)
  · refine g_iconst (v := 1) dX17_widthOf_112 (by decide) ?_
    exact g_ireturn rfl dX17_widthOf_113
  refine g_case hx (t := 110) (by decide +kernel) ?_ (fun hx => ?_)
  · refine g_iconst (v := 2) dX17_widthOf_110 (by decide) ?_
    exact g_ireturn rfl dX17_widthOf_111
  refine g_case hx (t := 110) (by decide +kernel) ?_ (fun hx => ?_)
  · refine g_iconst (v := 2) dX17_widthOf_110 (by decide) ?_
    exact g_ireturn rfl dX17_widthOf_111
  refine g_case hx (t := 110) (by decide +kernel) ?_ (fun hx => ?_)
  · refine g_iconst (v := 2) dX17_widthOf_110 (by decide) ?_
    exact g_ireturn rfl dX17_widthOf_111
  refine g_case hx (t := 108) (by decide +kernel) ?_ (fun hx => ?_)
  · refine g_iconst (v := 3) dX17_widthOf_108 (by decide) ?_
    exact g_ireturn rfl dX17_widthOf_109
  refine g_case hx (t := 110) (by decide +kernel) ?_ (fun hx => ?_)
  · refine g_iconst (v := 2) dX17_widthOf_110 (by decide) ?_
    exact g_ireturn rfl dX17_widthOf_111
  refine g_case hx (t := 108) (by decide +kernel) ?_ (fun hx => ?_)
  · refine g_iconst (v := 3) dX17_widthOf_108 (by decide) ?_
    exact g_ireturn rfl dX17_widthOf_109
  refine g_case hx (t := 112) (by decide +kernel) ?_ (fun hx => ?_)
  · refine g_iconst (v := 1) dX17_widthOf_112 (by decide) ?_
    exact g_ireturn rfl dX17_widthOf_113
  refine g_case hx (t := 112) (by decide +kernel) ?_ (fun hx => ?_)
  · refine g_iconst (v := 1) dX17_widthOf_112 (by decide) ?_
    exact g_ireturn rfl dX17_widthOf_113
  refine g_case hx (t := 110) (by decide +kernel) ?_ (fun hx => ?_)
  · refine g_iconst (v := 2) dX17_widthOf_110 (by decide) ?_
    exact g_ireturn rfl dX17_widthOf_111
  refine g_dflt (t := 114) (tswT_d (by decide +kernel) (by decide +kernel) hx) ?_
  refine g_iconst (v := 0) dX17_widthOf_114 (by decide) ?_
  exact g_ireturn rfl dX17_widthOf_115
theorem V.dX17_isNamedFurther_0 : decode cX17_isNamedFurther 0 = .ok (.aload_n 0, 1) := by decide +kernel
theorem V.dX17_isNamedFurther_1 : decode cX17_isNamedFurther 1 = .ok (.invokevirtual 603, 3) := by decide +kernel
theorem V.dX17_isNamedFurther_4 : decode cX17_isNamedFurther 4 = .ok (.l2i, 1) := by decide +kernel
theorem V.dX17_isNamedFurther_5 : decode cX17_isNamedFurther 5 = .ok (.istore_n 1, 1) := by decide +kernel
theorem V.dX17_isNamedFurther_6 : decode cX17_isNamedFurther 6 = .ok (.iload_n 1, 1) := by decide +kernel
theorem V.dX17_isNamedFurther_7 : decode cX17_isNamedFurther 7 = .ok (.bipush 8, 2) := by decide +kernel
theorem V.dX17_isNamedFurther_9 : decode cX17_isNamedFurther 9 = .ok (.if_icmp .eq 15, 3) := by decide +kernel
theorem V.dX17_isNamedFurther_12 : decode cX17_isNamedFurther 12 = .ok (.iload_n 1, 1) := by decide +kernel
theorem V.dX17_isNamedFurther_13 : decode cX17_isNamedFurther 13 = .ok (.bipush 9, 2) := by decide +kernel
theorem V.dX17_isNamedFurther_15 : decode cX17_isNamedFurther 15 = .ok (.if_icmp .eq 9, 3) := by decide +kernel
theorem V.dX17_isNamedFurther_18 : decode cX17_isNamedFurther 18 = .ok (.iload_n 1, 1) := by decide +kernel
theorem V.dX17_isNamedFurther_19 : decode cX17_isNamedFurther 19 = .ok (.bipush 11, 2) := by decide +kernel
theorem V.dX17_isNamedFurther_21 : decode cX17_isNamedFurther 21 = .ok (.if_icmp .le 10, 3) := by decide +kernel
theorem V.dX17_isNamedFurther_24 : decode cX17_isNamedFurther 24 = .ok (.aload_n 0, 1) := by decide +kernel
theorem V.dX17_isNamedFurther_25 : decode cX17_isNamedFurther 25 = .ok (.invokevirtual 603, 3) := by decide +kernel
theorem V.dX17_isNamedFurther_28 : decode cX17_isNamedFurther 28 = .ok (.goto 4, 3) := by decide +kernel
theorem V.dX17_isNamedFurther_31 : decode cX17_isNamedFurther 31 = .ok (.lconst 0, 1) := by decide +kernel
theorem V.dX17_isNamedFurther_32 : decode cX17_isNamedFurther 32 = .ok (.lstore_n 2, 1) := by decide +kernel
theorem V.dX17_isNamedFurther_33 : decode cX17_isNamedFurther 33 = .ok (.iload_n 1, 1) := by decide +kernel
theorem V.dX17_isNamedFurther_34 : decode cX17_isNamedFurther 34 = .ok (.bipush 12, 2) := by decide +kernel
theorem V.dX17_isNamedFurther_36 : decode cX17_isNamedFurther 36 = .ok (.if_icmp .eq 9, 3) := by decide +kernel
theorem V.dX17_isNamedFurther_39 : decode cX17_isNamedFurther 39 = .ok (.iload_n 1, 1) := by decide +kernel
theorem V.dX17_isNamedFurther_40 : decode cX17_isNamedFurther 40 = .ok (.bipush 14, 2) := by decide +kernel
theorem V.dX17_isNamedFurther_42 : decode cX17_isNamedFurther 42 = .ok (.if_icmp .ne 10, 3) := by decide +kernel
theorem V.dX17_isNamedFurther_45 : decode cX17_isNamedFurther 45 = .ok (.aload_n 0, 1) := by decide +kernel
theorem V.dX17_isNamedFurther_46 : decode cX17_isNamedFurther 46 = .ok (.invokevirtual 603, 3) := by decide +kernel
theorem V.dX17_isNamedFurther_49 : decode cX17_isNamedFurther 49 = .ok (.goto 4, 3) := by decide +kernel
theorem V.dX17_isNamedFurther_52 : decode cX17_isNamedFurther 52 = .ok (.lconst 0, 1) := by decide +kernel
theorem V.dX17_isNamedFurther_53 : decode cX17_isNamedFurther 53 = .ok (.lstore 4, 2) := by decide +kernel
theorem V.dX17_isNamedFurther_55 : decode cX17_isNamedFurther 55 = .ok (.iload_n 1, 1) := by decide +kernel
theorem V.dX17_isNamedFurther_56 : decode cX17_isNamedFurther 56 = .ok (.tableswitch 275 8 17 #[56, 86, 105, 105, 122, 179, 198, 255, 255, 255], 56) := by decide +kernel
theorem V.dX17_isNamedFurther_112 : decode cX17_isNamedFurther 112 = .ok (.lload_n 2, 1) := by decide +kernel
theorem V.dX17_isNamedFurther_113 : decode cX17_isNamedFurther 113 = .ok (.aload_n 0, 1) := by decide +kernel
theorem V.dX17_isNamedFurther_114 : decode cX17_isNamedFurther 114 = .ok (.getfield 221, 3) := by decide +kernel
theorem V.dX17_isNamedFurther_117 : decode cX17_isNamedFurther 117 = .ok (.getfield 529, 3) := by decide +kernel
theorem V.dX17_isNamedFurther_120 : decode cX17_isNamedFurther 120 = .ok (.i2l, 1) := by decide +kernel
theorem V.dX17_isNamedFurther_121 : decode cX17_isNamedFurther 121 = .ok (.lcmp, 1) := by decide +kernel
theorem V.dX17_isNamedFurther_122 : decode cX17_isNamedFurther 122 = .ok (.ifCond .ge 18, 3) := by decide +kernel
theorem V.dX17_isNamedFurther_125 : decode cX17_isNamedFurther 125 = .ok (.aload_n 0, 1) := by decide +kernel
theorem V.dX17_isNamedFurther_126 : decode cX17_isNamedFurther 126 = .ok (.getfield 221, 3) := by decide +kernel
theorem V.dX17_isNamedFurther_129 : decode cX17_isNamedFurther 129 = .ok (.iconst 2, 1) := by decide +kernel
theorem V.dX17_isNamedFurther_130 : decode cX17_isNamedFurther 130 = .ok (.invokevirtual 615, 3) := by decide +kernel
theorem V.dX17_isNamedFurther_133 : decode cX17_isNamedFurther 133 = .ok (.ifCond .le 7, 3) := by decide +kernel
theorem V.dX17_isNamedFurther_136 : decode cX17_isNamedFurther 136 = .ok (.iconst 1, 1) := by decide +kernel
theorem V.dX17_isNamedFurther_137 : decode cX17_isNamedFurther 137 = .ok (.goto 4, 3) := by decide +kernel
theorem V.dX17_isNamedFurther_140 : decode cX17_isNamedFurther 140 = .ok (.iconst 0, 1) := by decide +kernel
theorem V.dX17_isNamedFurther_141 : decode cX17_isNamedFurther 141 = .ok (.ireturn, 1) := by decide +kernel
theorem V.dX17_isNamedFurther_142 : decode cX17_isNamedFurther 142 = .ok (.lload_n 2, 1) := by decide +kernel
theorem V.dX17_isNamedFurther_143 : decode cX17_isNamedFurther 143 = .ok (.aload_n 0, 1) := by decide +kernel
theorem V.dX17_isNamedFurther_144 : decode cX17_isNamedFurther 144 = .ok (.getfield 221, 3) := by decide +kernel
theorem V.dX17_isNamedFurther_147 : decode cX17_isNamedFurther 147 = .ok (.getfield 529, 3) := by decide +kernel
theorem V.dX17_isNamedFurther_150 : decode cX17_isNamedFurther 150 = .ok (.i2l, 1) := by decide +kernel
theorem V.dX17_isNamedFurther_151 : decode cX17_isNamedFurther 151 = .ok (.lcmp, 1) := by decide +kernel
theorem V.dX17_isNamedFurther_152 : decode cX17_isNamedFurther 152 = .ok (.ifCond .ge 7, 3) := by decide +kernel
theorem V.dX17_isNamedFurther_155 : decode cX17_isNamedFurther 155 = .ok (.iconst 1, 1) := by decide +kernel
theorem V.dX17_isNamedFurther_156 : decode cX17_isNamedFurther 156 = .ok (.goto 4, 3) := by decide +kernel
theorem V.dX17_isNamedFurther_159 : decode cX17_isNamedFurther 159 = .ok (.iconst 0, 1) := by decide +kernel
theorem V.dX17_isNamedFurther_160 : decode cX17_isNamedFurther 160 = .ok (.ireturn, 1) := by decide +kernel
theorem V.dX17_isNamedFurther_161 : decode cX17_isNamedFurther 161 = .ok (.aload_n 0, 1) := by decide +kernel
theorem V.dX17_isNamedFurther_162 : decode cX17_isNamedFurther 162 = .ok (.getfield 221, 3) := by decide +kernel
theorem V.dX17_isNamedFurther_165 : decode cX17_isNamedFurther 165 = .ok (.iconst 2, 1) := by decide +kernel
theorem V.dX17_isNamedFurther_166 : decode cX17_isNamedFurther 166 = .ok (.invokevirtual 615, 3) := by decide +kernel
theorem V.dX17_isNamedFurther_169 : decode cX17_isNamedFurther 169 = .ok (.ifCond .le 7, 3) := by decide +kernel
theorem V.dX17_isNamedFurther_172 : decode cX17_isNamedFurther 172 = .ok (.iconst 1, 1) := by decide +kernel
theorem V.dX17_isNamedFurther_173 : decode cX17_isNamedFurther 173 = .ok (.goto 4, 3) := by decide +kernel
theorem V.dX17_isNamedFurther_176 : decode cX17_isNamedFurther 176 = .ok (.iconst 0, 1) := by decide +kernel
theorem V.dX17_isNamedFurther_177 : decode cX17_isNamedFurther 177 = .ok (.ireturn, 1) := by decide +kernel
theorem V.dX17_isNamedFurther_178 : decode cX17_isNamedFurther 178 = .ok (.lload_n 2, 1) := by decide +kernel
theorem V.dX17_isNamedFurther_179 : decode cX17_isNamedFurther 179 = .ok (.aload_n 0, 1) := by decide +kernel
theorem V.dX17_isNamedFurther_180 : decode cX17_isNamedFurther 180 = .ok (.getfield 221, 3) := by decide +kernel
theorem V.dX17_isNamedFurther_183 : decode cX17_isNamedFurther 183 = .ok (.getfield 481, 3) := by decide +kernel
theorem V.dX17_isNamedFurther_186 : decode cX17_isNamedFurther 186 = .ok (.i2l, 1) := by decide +kernel
theorem V.dX17_isNamedFurther_187 : decode cX17_isNamedFurther 187 = .ok (.lcmp, 1) := by decide +kernel
theorem V.dX17_isNamedFurther_188 : decode cX17_isNamedFurther 188 = .ok (.ifCond .ge 45, 3) := by decide +kernel
theorem V.dX17_isNamedFurther_191 : decode cX17_isNamedFurther 191 = .ok (.lload 4, 2) := by decide +kernel
theorem V.dX17_isNamedFurther_193 : decode cX17_isNamedFurther 193 = .ok (.aload_n 0, 1) := by decide +kernel
theorem V.dX17_isNamedFurther_194 : decode cX17_isNamedFurther 194 = .ok (.getfield 221, 3) := by decide +kernel
theorem V.dX17_isNamedFurther_197 : decode cX17_isNamedFurther 197 = .ok (.iconst 1, 1) := by decide +kernel
theorem V.dX17_isNamedFurther_198 : decode cX17_isNamedFurther 198 = .ok (.invokevirtual 615, 3) := by decide +kernel
theorem V.dX17_isNamedFurther_201 : decode cX17_isNamedFurther 201 = .ok (.i2l, 1) := by decide +kernel
theorem V.dX17_isNamedFurther_202 : decode cX17_isNamedFurther 202 = .ok (.lcmp, 1) := by decide +kernel
theorem V.dX17_isNamedFurther_203 : decode cX17_isNamedFurther 203 = .ok (.ifCond .ge 30, 3) := by decide +kernel
theorem V.dX17_isNamedFurther_206 : decode cX17_isNamedFurther 206 = .ok (.aload_n 0, 1) := by decide +kernel
theorem V.dX17_isNamedFurther_207 : decode cX17_isNamedFurther 207 = .ok (.getfield 221, 3) := by decide +kernel
theorem V.dX17_isNamedFurther_210 : decode cX17_isNamedFurther 210 = .ok (.getfield 501, 3) := by decide +kernel
theorem V.dX17_isNamedFurther_213 : decode cX17_isNamedFurther 213 = .ok (.lload_n 2, 1) := by decide +kernel
theorem V.dX17_isNamedFurther_214 : decode cX17_isNamedFurther 214 = .ok (.l2i, 1) := by decide +kernel
theorem V.dX17_isNamedFurther_215 : decode cX17_isNamedFurther 215 = .ok (.iaload, 1) := by decide +kernel
theorem V.dX17_isNamedFurther_216 : decode cX17_isNamedFurther 216 = .ok (.aload_n 0, 1) := by decide +kernel
theorem V.dX17_isNamedFurther_217 : decode cX17_isNamedFurther 217 = .ok (.getfield 221, 3) := by decide +kernel
theorem V.dX17_isNamedFurther_220 : decode cX17_isNamedFurther 220 = .ok (.lload 4, 2) := by decide +kernel
theorem V.dX17_isNamedFurther_222 : decode cX17_isNamedFurther 222 = .ok (.l2i, 1) := by decide +kernel
theorem V.dX17_isNamedFurther_223 : decode cX17_isNamedFurther 223 = .ok (.invokevirtual 661, 3) := by decide +kernel
theorem V.dX17_isNamedFurther_226 : decode cX17_isNamedFurther 226 = .ok (.if_icmp .ne 7, 3) := by decide +kernel
theorem V.dX17_isNamedFurther_229 : decode cX17_isNamedFurther 229 = .ok (.iconst 1, 1) := by decide +kernel
theorem V.dX17_isNamedFurther_230 : decode cX17_isNamedFurther 230 = .ok (.goto 4, 3) := by decide +kernel
theorem V.dX17_isNamedFurther_233 : decode cX17_isNamedFurther 233 = .ok (.iconst 0, 1) := by decide +kernel
theorem V.dX17_isNamedFurther_234 : decode cX17_isNamedFurther 234 = .ok (.ireturn, 1) := by decide +kernel
theorem V.dX17_isNamedFurther_235 : decode cX17_isNamedFurther 235 = .ok (.lload_n 2, 1) := by decide +kernel
theorem V.dX17_isNamedFurther_236 : decode cX17_isNamedFurther 236 = .ok (.aload_n 0, 1) := by decide +kernel
theorem V.dX17_isNamedFurther_237 : decode cX17_isNamedFurther 237 = .ok (.getfield 221, 3) := by decide +kernel
theorem V.dX17_isNamedFurther_240 : decode cX17_isNamedFurther 240 = .ok (.getfield 481, 3) := by decide +kernel
theorem V.dX17_isNamedFurther_243 : decode cX17_isNamedFurther 243 = .ok (.i2l, 1) := by decide +kernel
theorem V.dX17_isNamedFurther_244 : decode cX17_isNamedFurther 244 = .ok (.lcmp, 1) := by decide +kernel
theorem V.dX17_isNamedFurther_245 : decode cX17_isNamedFurther 245 = .ok (.ifCond .ge 7, 3) := by decide +kernel
theorem V.dX17_isNamedFurther_248 : decode cX17_isNamedFurther 248 = .ok (.iconst 1, 1) := by decide +kernel
theorem V.dX17_isNamedFurther_249 : decode cX17_isNamedFurther 249 = .ok (.goto 4, 3) := by decide +kernel
theorem V.dX17_isNamedFurther_252 : decode cX17_isNamedFurther 252 = .ok (.iconst 0, 1) := by decide +kernel
theorem V.dX17_isNamedFurther_253 : decode cX17_isNamedFurther 253 = .ok (.ireturn, 1) := by decide +kernel
theorem V.dX17_isNamedFurther_254 : decode cX17_isNamedFurther 254 = .ok (.lload_n 2, 1) := by decide +kernel
theorem V.dX17_isNamedFurther_255 : decode cX17_isNamedFurther 255 = .ok (.aload_n 0, 1) := by decide +kernel
theorem V.dX17_isNamedFurther_256 : decode cX17_isNamedFurther 256 = .ok (.getfield 221, 3) := by decide +kernel
theorem V.dX17_isNamedFurther_259 : decode cX17_isNamedFurther 259 = .ok (.iconst 1, 1) := by decide +kernel
theorem V.dX17_isNamedFurther_260 : decode cX17_isNamedFurther 260 = .ok (.invokevirtual 615, 3) := by decide +kernel
theorem V.dX17_isNamedFurther_263 : decode cX17_isNamedFurther 263 = .ok (.i2l, 1) := by decide +kernel
theorem V.dX17_isNamedFurther_264 : decode cX17_isNamedFurther 264 = .ok (.lcmp, 1) := by decide +kernel
theorem V.dX17_isNamedFurther_265 : decode cX17_isNamedFurther 265 = .ok (.ifCond .ge 44, 3) := by decide +kernel
theorem V.dX17_isNamedFurther_268 : decode cX17_isNamedFurther 268 = .ok (.lload 4, 2) := by decide +kernel
theorem V.dX17_isNamedFurther_270 : decode cX17_isNamedFurther 270 = .ok (.aload_n 0, 1) := by decide +kernel
theorem V.dX17_isNamedFurther_271 : decode cX17_isNamedFurther 271 = .ok (.getfield 221, 3) := by decide +kernel
theorem V.dX17_isNamedFurther_274 : decode cX17_isNamedFurther 274 = .ok (.iconst 1, 1) := by decide +kernel
theorem V.dX17_isNamedFurther_275 : decode cX17_isNamedFurther 275 = .ok (.invokevirtual 615, 3) := by decide +kernel
theorem V.dX17_isNamedFurther_278 : decode cX17_isNamedFurther 278 = .ok (.i2l, 1) := by decide +kernel
theorem V.dX17_isNamedFurther_279 : decode cX17_isNamedFurther 279 = .ok (.lcmp, 1) := by decide +kernel
theorem V.dX17_isNamedFurther_280 : decode cX17_isNamedFurther 280 = .ok (.ifCond .ge 29, 3) := by decide +kernel
theorem V.dX17_isNamedFurther_283 : decode cX17_isNamedFurther 283 = .ok (.aload_n 0, 1) := by decide +kernel
theorem V.dX17_isNamedFurther_284 : decode cX17_isNamedFurther 284 = .ok (.getfield 221, 3) := by decide +kernel
theorem V.dX17_isNamedFurther_287 : decode cX17_isNamedFurther 287 = .ok (.lload_n 2, 1) := by decide +kernel
theorem V.dX17_isNamedFurther_288 : decode cX17_isNamedFurther 288 = .ok (.l2i, 1) := by decide +kernel
theorem V.dX17_isNamedFurther_289 : decode cX17_isNamedFurther 289 = .ok (.invokevirtual 661, 3) := by decide +kernel
theorem V.dX17_isNamedFurther_292 : decode cX17_isNamedFurther 292 = .ok (.aload_n 0, 1) := by decide +kernel
theorem V.dX17_isNamedFurther_293 : decode cX17_isNamedFurther 293 = .ok (.getfield 221, 3) := by decide +kernel
theorem V.dX17_isNamedFurther_296 : decode cX17_isNamedFurther 296 = .ok (.lload 4, 2) := by decide +kernel
theorem V.dX17_isNamedFurther_298 : decode cX17_isNamedFurther 298 = .ok (.l2i, 1) := by decide +kernel
theorem V.dX17_isNamedFurther_299 : decode cX17_isNamedFurther 299 = .ok (.invokevirtual 661, 3) := by decide +kernel
theorem V.dX17_isNamedFurther_302 : decode cX17_isNamedFurther 302 = .ok (.if_icmp .ne 7, 3) := by decide +kernel
theorem V.dX17_isNamedFurther_305 : decode cX17_isNamedFurther 305 = .ok (.iconst 1, 1) := by decide +kernel
theorem V.dX17_isNamedFurther_306 : decode cX17_isNamedFurther 306 = .ok (.goto 4, 3) := by decide +kernel
theorem V.dX17_isNamedFurther_309 : decode cX17_isNamedFurther 309 = .ok (.iconst 0, 1) := by decide +kernel
theorem V.dX17_isNamedFurther_310 : decode cX17_isNamedFurther 310 = .ok (.ireturn, 1) := by decide +kernel
theorem V.dX17_isNamedFurther_311 : decode cX17_isNamedFurther 311 = .ok (.lload_n 2, 1) := by decide +kernel
theorem V.dX17_isNamedFurther_312 : decode cX17_isNamedFurther 312 = .ok (.aload_n 0, 1) := by decide +kernel
theorem V.dX17_isNamedFurther_313 : decode cX17_isNamedFurther 313 = .ok (.getfield 221, 3) := by decide +kernel
theorem V.dX17_isNamedFurther_316 : decode cX17_isNamedFurther 316 = .ok (.iconst 1, 1) := by decide +kernel
theorem V.dX17_isNamedFurther_317 : decode cX17_isNamedFurther 317 = .ok (.invokevirtual 615, 3) := by decide +kernel
theorem V.dX17_isNamedFurther_320 : decode cX17_isNamedFurther 320 = .ok (.i2l, 1) := by decide +kernel
theorem V.dX17_isNamedFurther_321 : decode cX17_isNamedFurther 321 = .ok (.lcmp, 1) := by decide +kernel
theorem V.dX17_isNamedFurther_322 : decode cX17_isNamedFurther 322 = .ok (.ifCond .ge 7, 3) := by decide +kernel
theorem V.dX17_isNamedFurther_325 : decode cX17_isNamedFurther 325 = .ok (.iconst 1, 1) := by decide +kernel
theorem V.dX17_isNamedFurther_326 : decode cX17_isNamedFurther 326 = .ok (.goto 4, 3) := by decide +kernel
theorem V.dX17_isNamedFurther_329 : decode cX17_isNamedFurther 329 = .ok (.iconst 0, 1) := by decide +kernel
theorem V.dX17_isNamedFurther_330 : decode cX17_isNamedFurther 330 = .ok (.ireturn, 1) := by decide +kernel
theorem V.dX17_isNamedFurther_331 : decode cX17_isNamedFurther 331 = .ok (.iconst 1, 1) := by decide +kernel
theorem V.dX17_isNamedFurther_332 : decode cX17_isNamedFurther 332 = .ok (.ireturn, 1) := by decide +kernel
theorem V.fdX17_529 : FD RX17 529 20 44 0 := ⟨(RX20, TX20, 58), tyX20, rfl, rfl, in_X20, by decide, Or.inr ⟨_, q3448⟩, rfl⟩
/-! ModuleEngineModel.isNamedFurther()Z -/
def V.Mdl_isNamedFurther_p161  (σ : HS) (x0 : Nat) : Option (Int32 × HS) :=
  ck (tg σ x0 = 18) <|
  ck (tg σ (gR σ x0 10) = 21) <| cl (Pln_all σ (gR σ x0 10) (2 : Int32)) fun r2 σ1 =>
  if r2 ≤ 0 then (
    some ((0 : Int32), σ1))
  else (
    some ((1 : Int32), σ1))
theorem V.gX17_isNamedFurther_p161 {X : CX}  (σ : HS) (x0 : Nat) : G X RX17 "isNamedFurther" cX17_isNamedFurther 6 (some .boolean) 2 46 enI 161 [(0, av x0)] [] σ (Mdl_isNamedFurther_p161 σ x0) := by
  unfold Mdl_isNamedFurther_p161
  refine g_aload_n 0 0 dX17_isNamedFurther_161 rfl rfl ?_
  refine g_getR fdX17_221 dX17_isNamedFurther_162 ?_
  refine g_iconst (v := 2) dX17_isNamedFurther_165 (by decide) ?_
  refine g_callV (fc := fun sς => Pln_all sς (gR σ x0 10) (2 : Int32)) (ci := 20) (as := [iv (2 : Int32)]) rfl rfl rfl q3780 q3781 mdX17_615 (ctX20_all (gR σ x0 10) (2 : Int32)) rfl (Nat.le_of_ble_eq_true rfl) (Nat.le_of_ble_eq_true rfl) (Nat.le_of_ble_eq_true rfl) pu_I dX17_isNamedFurther_166 (fun r2 σ1 => ?_)
  refine g_if_le 176 dX17_isNamedFurther_169 (by decide) ?_ ?_
  · refine g_iconst (v := 0) dX17_isNamedFurther_176 (by decide) ?_
    exact g_zreturn rfl (by decide +kernel) dX17_isNamedFurther_177
  · refine g_iconst (v := 1) dX17_isNamedFurther_172 (by decide) ?_
    refine g_goto 177 dX17_isNamedFurther_173 (by decide) ?_
    exact g_zreturn rfl (by decide +kernel) dX17_isNamedFurther_177
def V.Mdl_isNamedFurther_p311  (σ : HS) (x0 : Nat) (x2 : Int64) : Option (Int32 × HS) :=
  ck (tg σ x0 = 18) <|
  ck (tg σ (gR σ x0 10) = 21) <| cl (Pln_all σ (gR σ x0 10) (1 : Int32)) fun r2 σ1 =>
  if r2.toInt64 ≤ x2 then (
    some ((0 : Int32), σ1))
  else (
    some ((1 : Int32), σ1))
theorem V.gX17_isNamedFurther_p311 {X : CX}  (σ : HS) (x0 : Nat) (x2 : Int64) : G X RX17 "isNamedFurther" cX17_isNamedFurther 6 (some .boolean) 2 46 enI 311 [(0, av x0), (2, jv x2)] [] σ (Mdl_isNamedFurther_p311 σ x0 x2) := by
  unfold Mdl_isNamedFurther_p311
  refine g_lload_n 2 1 dX17_isNamedFurther_311 rfl rfl ?_
  refine g_aload_n 0 0 dX17_isNamedFurther_312 rfl rfl ?_
  refine g_getR fdX17_221 dX17_isNamedFurther_313 ?_
  refine g_iconst (v := 1) dX17_isNamedFurther_316 (by decide) ?_
  refine g_callV (fc := fun sς => Pln_all sς (gR σ x0 10) (1 : Int32)) (ci := 20) (as := [iv (1 : Int32)]) rfl rfl rfl q3780 q3781 mdX17_615 (ctX20_all (gR σ x0 10) (1 : Int32)) rfl (Nat.le_of_ble_eq_true rfl) (Nat.le_of_ble_eq_true rfl) (Nat.le_of_ble_eq_true rfl) pu_I dX17_isNamedFurther_317 (fun r2 σ1 => ?_)
  refine g_i2l dX17_isNamedFurther_320 ?_
  refine g_lcmp_ge 329 dX17_isNamedFurther_321 dX17_isNamedFurther_322 (by decide) ?_ ?_
  · refine g_iconst (v := 0) dX17_isNamedFurther_329 (by decide) ?_
    exact g_zreturn rfl (by decide +kernel) dX17_isNamedFurther_330
  · refine g_iconst (v := 1) dX17_isNamedFurther_325 (by decide) ?_
    refine g_goto 330 dX17_isNamedFurther_326 (by decide) ?_
    exact g_zreturn rfl (by decide +kernel) dX17_isNamedFurther_330
def V.Mdl_isNamedFurther_p53  (σ : HS) (x0 : Nat) (x1 : Int32) (x2 : Int64) (s0 : Int64) : Option (Int32 × HS) :=
  swx x1 [
    (8, (
      ck (tg σ x0 = 18) <|
      ck (tg σ (gR σ x0 10) = 21) <|
      if ((gI σ (gR σ x0 10) 44).toInt64) ≤ x2 then (
        some ((0 : Int32), σ))
      else (
        ck (tg σ x0 = 18) <|
        ck (tg σ (gR σ x0 10) = 21) <| cl (Pln_all σ (gR σ x0 10) (2 : Int32)) fun r2 σ1 =>
        if r2 ≤ 0 then (
          some ((0 : Int32), σ1))
        else (
          some ((1 : Int32), σ1))))),
    (9, (
      ck (tg σ x0 = 18) <|
      ck (tg σ (gR σ x0 10) = 21) <|
      if ((gI σ (gR σ x0 10) 44).toInt64) ≤ x2 then (
        some ((0 : Int32), σ))
      else (
        some ((1 : Int32), σ)))),
    (10, (
      Mdl_isNamedFurther_p161 σ x0)),
    (11, (
      Mdl_isNamedFurther_p161 σ x0)),
    (12, (
      ck (tg σ x0 = 18) <|
      ck (tg σ (gR σ x0 10) = 21) <|
      if ((gI σ (gR σ x0 10) 34).toInt64) ≤ x2 then (
        some ((0 : Int32), σ))
      else (
        ck (tg σ x0 = 18) <|
        ck (tg σ (gR σ x0 10) = 21) <| cl (Pln_all σ (gR σ x0 10) (1 : Int32)) fun r4 σ3 =>
        if r4.toInt64 ≤ s0 then (
          some ((0 : Int32), σ3))
        else (
          ck (tg σ3 x0 = 18) <|
          ck (tg σ3 (gR σ3 x0 10) = 21) <|
          ck (tg σ3 (gR σ3 (gR σ3 x0 10) 38) = 100 ∧ inb x2.toInt32 (ln σ3 (gR σ3 (gR σ3 x0 10) 38))) <|
          ck (tg σ3 x0 = 18) <|
          ck (tg σ3 (gR σ3 x0 10) = 21) <| cl (Pln_typeOfTable σ3 (gR σ3 x0 10) s0.toInt32) fun r6 σ5 =>
          if (gI σ3 (gR σ3 (gR σ3 x0 10) 38) (ix x2.toInt32)) = r6 then (
            some ((1 : Int32), σ5))
          else (
            some ((0 : Int32), σ5)))))),
    (13, (
      ck (tg σ x0 = 18) <|
      ck (tg σ (gR σ x0 10) = 21) <|
      if ((gI σ (gR σ x0 10) 34).toInt64) ≤ x2 then (
        some ((0 : Int32), σ))
      else (
        some ((1 : Int32), σ)))),
    (14, (
      ck (tg σ x0 = 18) <|
      ck (tg σ (gR σ x0 10) = 21) <| cl (Pln_all σ (gR σ x0 10) (1 : Int32)) fun r8 σ7 =>
      if r8.toInt64 ≤ x2 then (
        some ((0 : Int32), σ7))
      else (
        ck (tg σ7 x0 = 18) <|
        ck (tg σ7 (gR σ7 x0 10) = 21) <| cl (Pln_all σ7 (gR σ7 x0 10) (1 : Int32)) fun r10 σ9 =>
        if r10.toInt64 ≤ s0 then (
          some ((0 : Int32), σ9))
        else (
          ck (tg σ9 x0 = 18) <|
          ck (tg σ9 (gR σ9 x0 10) = 21) <| cl (Pln_typeOfTable σ9 (gR σ9 x0 10) x2.toInt32) fun r12 σ11 =>
          ck (tg σ11 x0 = 18) <|
          ck (tg σ11 (gR σ11 x0 10) = 21) <| cl (Pln_typeOfTable σ11 (gR σ11 x0 10) s0.toInt32) fun r14 σ13 =>
          if r12 = r14 then (
            some ((1 : Int32), σ13))
          else (
            some ((0 : Int32), σ13)))))),
    (15, (
      Mdl_isNamedFurther_p311 σ x0 x2)),
    (16, (
      Mdl_isNamedFurther_p311 σ x0 x2)),
    (17, (
      Mdl_isNamedFurther_p311 σ x0 x2))
    ] (
    some ((1 : Int32), σ))
theorem V.gX17_isNamedFurther_p53 {X : CX}  (σ : HS) (x0 : Nat) (x1 : Int32) (x2 : Int64) (s0 : Int64) : G X RX17 "isNamedFurther" cX17_isNamedFurther 6 (some .boolean) 2 46 enI 53 [(0, av x0), (1, iv x1), (2, jv x2)] [jv s0] σ (Mdl_isNamedFurther_p53 σ x0 x1 x2 s0) := by
  unfold Mdl_isNamedFurther_p53
  refine g_lstore dX17_isNamedFurther_53 (by decide) rfl ?_
  refine g_iload_n 1 2 dX17_isNamedFurther_55 rfl rfl ?_
  refine g_tsw dX17_isNamedFurther_56 (by decide +kernel) ?_
  refine g_case ex0 (t := 112) (by decide +kernel) ?_ (fun hx => ?_)
  · refine g_lload_n 2 3 dX17_isNamedFurther_112 rfl rfl ?_
    refine g_aload_n 0 1 dX17_isNamedFurther_113 rfl rfl ?_
    refine g_getR fdX17_221 dX17_isNamedFurther_114 ?_
    refine g_getI fdX17_529 dX17_isNamedFurther_117 ?_
    refine g_i2l dX17_isNamedFurther_120 ?_
    refine g_lcmp_ge 140 dX17_isNamedFurther_121 dX17_isNamedFurther_122 (by decide) ?_ ?_
    · refine g_iconst (v := 0) dX17_isNamedFurther_140 (by decide) ?_
      exact g_zreturn rfl (by decide +kernel) dX17_isNamedFurther_141
    · refine g_aload_n 0 1 dX17_isNamedFurther_125 rfl rfl ?_
      refine g_getR fdX17_221 dX17_isNamedFurther_126 ?_
      refine g_iconst (v := 2) dX17_isNamedFurther_129 (by decide) ?_
      refine g_callV (fc := fun sς => Pln_all sς (gR σ x0 10) (2 : Int32)) (ci := 20) (as := [iv (2 : Int32)]) rfl rfl rfl q3780 q3781 mdX17_615 (ctX20_all (gR σ x0 10) (2 : Int32)) rfl (Nat.le_of_ble_eq_true rfl) (Nat.le_of_ble_eq_true rfl) (Nat.le_of_ble_eq_true rfl) pu_I dX17_isNamedFurther_130 (fun r2 σ1 => ?_)
      refine g_if_le 140 dX17_isNamedFurther_133 (by decide) ?_ ?_
      · refine g_iconst (v := 0) dX17_isNamedFurther_140 (by decide) ?_
        exact g_zreturn rfl (by decide +kernel) dX17_isNamedFurther_141
      · refine g_iconst (v := 1) dX17_isNamedFurther_136 (by decide) ?_
        refine g_goto 141 dX17_isNamedFurther_137 (by decide) ?_
        exact g_zreturn rfl (by decide +kernel) dX17_isNamedFurther_141
  refine g_case hx (t := 142) (by decide +kernel) ?_ (fun hx => ?_)
  · refine g_lload_n 2 3 dX17_isNamedFurther_142 rfl rfl ?_
    refine g_aload_n 0 1 dX17_isNamedFurther_143 rfl rfl ?_
    refine g_getR fdX17_221 dX17_isNamedFurther_144 ?_
    refine g_getI fdX17_529 dX17_isNamedFurther_147 ?_
    refine g_i2l dX17_isNamedFurther_150 ?_
    refine g_lcmp_ge 159 dX17_isNamedFurther_151 dX17_isNamedFurther_152 (by decide) ?_ ?_
    · refine g_iconst (v := 0) dX17_isNamedFurther_159 (by decide) ?_
      exact g_zreturn rfl (by decide +kernel) dX17_isNamedFurther_160
    · refine g_iconst (v := 1) dX17_isNamedFurther_155 (by decide) ?_
      refine g_goto 160 dX17_isNamedFurther_156 (by decide) ?_
      exact g_zreturn rfl (by decide +kernel) dX17_isNamedFurther_160
  refine g_case hx (t := 161) (by decide +kernel) ?_ (fun hx => ?_)
  · refine G.sub [1] rfl ?_
    exact gX17_isNamedFurther_p161 _ _
  refine g_case hx (t := 161) (by decide +kernel) ?_ (fun hx => ?_)
  · refine G.sub [1] rfl ?_
    exact gX17_isNamedFurther_p161 _ _
  refine g_case hx (t := 178) (by decide +kernel) ?_ (fun hx => ?_)
  · refine g_lload_n 2 3 dX17_isNamedFurther_178 rfl rfl ?_
    refine g_aload_n 0 1 dX17_isNamedFurther_179 rfl rfl ?_
    refine g_getR fdX17_221 dX17_isNamedFurther_180 ?_
    refine g_getI fdX17_481 dX17_isNamedFurther_183 ?_
    refine g_i2l dX17_isNamedFurther_186 ?_
    refine g_lcmp_ge 233 dX17_isNamedFurther_187 dX17_isNamedFurther_188 (by decide) ?_ ?_
    · refine g_iconst (v := 0) dX17_isNamedFurther_233 (by decide) ?_
      exact g_zreturn rfl (by decide +kernel) dX17_isNamedFurther_234
    · refine g_lload 0 dX17_isNamedFurther_191 rfl ?_
      refine g_aload_n 0 1 dX17_isNamedFurther_193 rfl rfl ?_
      refine g_getR fdX17_221 dX17_isNamedFurther_194 ?_
      refine g_iconst (v := 1) dX17_isNamedFurther_197 (by decide) ?_
      refine g_callV (fc := fun sς => Pln_all sς (gR σ x0 10) (1 : Int32)) (ci := 20) (as := [iv (1 : Int32)]) rfl rfl rfl q3780 q3781 mdX17_615 (ctX20_all (gR σ x0 10) (1 : Int32)) rfl (Nat.le_of_ble_eq_true rfl) (Nat.le_of_ble_eq_true rfl) (Nat.le_of_ble_eq_true rfl) pu_I dX17_isNamedFurther_198 (fun r4 σ3 => ?_)
      refine g_i2l dX17_isNamedFurther_201 ?_
      refine g_lcmp_ge 233 dX17_isNamedFurther_202 dX17_isNamedFurther_203 (by decide) ?_ ?_
      · refine g_iconst (v := 0) dX17_isNamedFurther_233 (by decide) ?_
        exact g_zreturn rfl (by decide +kernel) dX17_isNamedFurther_234
      · refine g_aload_n 0 1 dX17_isNamedFurther_206 rfl rfl ?_
        refine g_getR fdX17_221 dX17_isNamedFurther_207 ?_
        refine g_getR fdX17_501 dX17_isNamedFurther_210 ?_
        refine g_lload_n 2 3 dX17_isNamedFurther_213 rfl rfl ?_
        refine g_l2i dX17_isNamedFurther_214 ?_
        refine g_iaload dX17_isNamedFurther_215 ?_
        refine g_aload_n 0 1 dX17_isNamedFurther_216 rfl rfl ?_
        refine g_getR fdX17_221 dX17_isNamedFurther_217 ?_
        refine g_lload 0 dX17_isNamedFurther_220 rfl ?_
        refine g_l2i dX17_isNamedFurther_222 ?_
        refine g_callV (fc := fun sς => Pln_typeOfTable sς (gR σ3 x0 10) s0.toInt32) (ci := 20) (as := [iv s0.toInt32]) rfl rfl rfl q3858 q3859 mdX17_661 (ctX20_typeOfTable (gR σ3 x0 10) s0.toInt32) rfl (Nat.le_of_ble_eq_true rfl) (Nat.le_of_ble_eq_true rfl) (Nat.le_of_ble_eq_true rfl) pu_I dX17_isNamedFurther_223 (fun r6 σ5 => ?_)
        refine g_icmp_ne 233 dX17_isNamedFurther_226 (by decide) ?_ ?_
        · refine g_iconst (v := 0) dX17_isNamedFurther_233 (by decide) ?_
          exact g_zreturn rfl (by decide +kernel) dX17_isNamedFurther_234
        · refine g_iconst (v := 1) dX17_isNamedFurther_229 (by decide) ?_
          refine g_goto 234 dX17_isNamedFurther_230 (by decide) ?_
          exact g_zreturn rfl (by decide +kernel) dX17_isNamedFurther_234
  refine g_case hx (t := 235) (by decide +kernel) ?_ (fun hx => ?_)
  · refine g_lload_n 2 3 dX17_isNamedFurther_235 rfl rfl ?_
    refine g_aload_n 0 1 dX17_isNamedFurther_236 rfl rfl ?_
    refine g_getR fdX17_221 dX17_isNamedFurther_237 ?_
    refine g_getI fdX17_481 dX17_isNamedFurther_240 ?_
    refine g_i2l dX17_isNamedFurther_243 ?_
    refine g_lcmp_ge 252 dX17_isNamedFurther_244 dX17_isNamedFurther_245 (by decide) ?_ ?_
    · refine g_iconst (v := 0) dX17_isNamedFurther_252 (by decide) ?_
      exact g_zreturn rfl (by decide +kernel) dX17_isNamedFurther_253
    · refine g_iconst (v := 1) dX17_isNamedFurther_248 (by decide) ?_
      refine g_goto 253 dX17_isNamedFurther_249 (by decide) ?_
      exact g_zreturn rfl (by decide +kernel) dX17_isNamedFurther_253
  refine g_case hx (t := 254) (by decide +kernel) ?_ (fun hx => ?_)
  · refine g_lload_n 2 3 dX17_isNamedFurther_254 rfl rfl ?_
    refine g_aload_n 0 1 dX17_isNamedFurther_255 rfl rfl ?_
    refine g_getR fdX17_221 dX17_isNamedFurther_256 ?_
    refine g_iconst (v := 1) dX17_isNamedFurther_259 (by decide) ?_
    refine g_callV (fc := fun sς => Pln_all sς (gR σ x0 10) (1 : Int32)) (ci := 20) (as := [iv (1 : Int32)]) rfl rfl rfl q3780 q3781 mdX17_615 (ctX20_all (gR σ x0 10) (1 : Int32)) rfl (Nat.le_of_ble_eq_true rfl) (Nat.le_of_ble_eq_true rfl) (Nat.le_of_ble_eq_true rfl) pu_I dX17_isNamedFurther_260 (fun r8 σ7 => ?_)
    refine g_i2l dX17_isNamedFurther_263 ?_
    refine g_lcmp_ge 309 dX17_isNamedFurther_264 dX17_isNamedFurther_265 (by decide) ?_ ?_
    · refine g_iconst (v := 0) dX17_isNamedFurther_309 (by decide) ?_
      exact g_zreturn rfl (by decide +kernel) dX17_isNamedFurther_310
    · refine g_lload 0 dX17_isNamedFurther_268 rfl ?_
      refine g_aload_n 0 1 dX17_isNamedFurther_270 rfl rfl ?_
      refine g_getR fdX17_221 dX17_isNamedFurther_271 ?_
      refine g_iconst (v := 1) dX17_isNamedFurther_274 (by decide) ?_
      refine g_callV (fc := fun sς => Pln_all sς (gR σ7 x0 10) (1 : Int32)) (ci := 20) (as := [iv (1 : Int32)]) rfl rfl rfl q3780 q3781 mdX17_615 (ctX20_all (gR σ7 x0 10) (1 : Int32)) rfl (Nat.le_of_ble_eq_true rfl) (Nat.le_of_ble_eq_true rfl) (Nat.le_of_ble_eq_true rfl) pu_I dX17_isNamedFurther_275 (fun r10 σ9 => ?_)
      refine g_i2l dX17_isNamedFurther_278 ?_
      refine g_lcmp_ge 309 dX17_isNamedFurther_279 dX17_isNamedFurther_280 (by decide) ?_ ?_
      · refine g_iconst (v := 0) dX17_isNamedFurther_309 (by decide) ?_
        exact g_zreturn rfl (by decide +kernel) dX17_isNamedFurther_310
      · refine g_aload_n 0 1 dX17_isNamedFurther_283 rfl rfl ?_
        refine g_getR fdX17_221 dX17_isNamedFurther_284 ?_
        refine g_lload_n 2 3 dX17_isNamedFurther_287 rfl rfl ?_
        refine g_l2i dX17_isNamedFurther_288 ?_
        refine g_callV (fc := fun sς => Pln_typeOfTable sς (gR σ9 x0 10) x2.toInt32) (ci := 20) (as := [iv x2.toInt32]) rfl rfl rfl q3858 q3859 mdX17_661 (ctX20_typeOfTable (gR σ9 x0 10) x2.toInt32) rfl (Nat.le_of_ble_eq_true rfl) (Nat.le_of_ble_eq_true rfl) (Nat.le_of_ble_eq_true rfl) pu_I dX17_isNamedFurther_289 (fun r12 σ11 => ?_)
        refine g_aload_n 0 1 dX17_isNamedFurther_292 rfl rfl ?_
        refine g_getR fdX17_221 dX17_isNamedFurther_293 ?_
        refine g_lload 0 dX17_isNamedFurther_296 rfl ?_
        refine g_l2i dX17_isNamedFurther_298 ?_
        refine g_callV (fc := fun sς => Pln_typeOfTable sς (gR σ11 x0 10) s0.toInt32) (ci := 20) (as := [iv s0.toInt32]) rfl rfl rfl q3858 q3859 mdX17_661 (ctX20_typeOfTable (gR σ11 x0 10) s0.toInt32) rfl (Nat.le_of_ble_eq_true rfl) (Nat.le_of_ble_eq_true rfl) (Nat.le_of_ble_eq_true rfl) pu_I dX17_isNamedFurther_299 (fun r14 σ13 => ?_)
        refine g_icmp_ne 309 dX17_isNamedFurther_302 (by decide) ?_ ?_
        · refine g_iconst (v := 0) dX17_isNamedFurther_309 (by decide) ?_
          exact g_zreturn rfl (by decide +kernel) dX17_isNamedFurther_310
        · refine g_iconst (v := 1) dX17_isNamedFurther_305 (by decide) ?_
          refine g_goto 310 dX17_isNamedFurther_306 (by decide) ?_
          exact g_zreturn rfl (by decide +kernel) dX17_isNamedFurther_310
  refine g_case hx (t := 311) (by decide +kernel) ?_ (fun hx => ?_)
  · refine G.sub [1, 3] rfl ?_
    exact gX17_isNamedFurther_p311 _ _ _
  refine g_case hx (t := 311) (by decide +kernel) ?_ (fun hx => ?_)
  · refine G.sub [1, 3] rfl ?_
    exact gX17_isNamedFurther_p311 _ _ _
  refine g_case hx (t := 311) (by decide +kernel) ?_ (fun hx => ?_)
  · refine G.sub [1, 3] rfl ?_
    exact gX17_isNamedFurther_p311 _ _ _
  refine g_dflt (t := 331) (tswT_d (by decide +kernel) (by decide +kernel) hx) ?_
  refine g_iconst (v := 1) dX17_isNamedFurther_331 (by decide) ?_
  exact g_zreturn rfl (by decide +kernel) dX17_isNamedFurther_332
def V.Mdl_isNamedFurther_p45  (σ : HS) (x0 : Nat) (x1 : Int32) (x2 : Int64) : Option (Int32 × HS) :=
  ck (tg σ x0 = 18) <| cl (Mdl_word σ x0 ) fun r2 σ1 =>
  Mdl_isNamedFurther_p53 σ1 x0 x1 x2 r2
theorem V.gX17_isNamedFurther_p45 {X : CX}  (σ : HS) (x0 : Nat) (x1 : Int32) (x2 : Int64) : G X RX17 "isNamedFurther" cX17_isNamedFurther 6 (some .boolean) 2 46 enI 45 [(0, av x0), (1, iv x1), (2, jv x2)] [] σ (Mdl_isNamedFurther_p45 σ x0 x1 x2) := by
  unfold Mdl_isNamedFurther_p45
  refine g_aload_n 0 0 dX17_isNamedFurther_45 rfl rfl ?_
  refine g_callV (fc := fun sς => Mdl_word sς x0 ) (ci := 17) (as := []) rfl rfl rfl q3813 qs250 mdX17_603 (ctX17_word x0 ) rfl (Nat.le_of_ble_eq_true rfl) (Nat.le_of_ble_eq_true rfl) (Nat.le_of_ble_eq_true rfl) pu_J dX17_isNamedFurther_46 (fun r2 σ1 => ?_)
  refine g_goto 53 dX17_isNamedFurther_49 (by decide) ?_
  exact gX17_isNamedFurther_p53 _ _ _ _ _
def V.Mdl_isNamedFurther_p32  (σ : HS) (x0 : Nat) (x1 : Int32) (s0 : Int64) : Option (Int32 × HS) :=
  if x1 = (12 : Int32) then (
    Mdl_isNamedFurther_p45 σ x0 x1 s0)
  else (
    if x1 = (14 : Int32) then (
      Mdl_isNamedFurther_p45 σ x0 x1 s0)
    else (
      Mdl_isNamedFurther_p53 σ x0 x1 s0 (0 : Int64)))
theorem V.gX17_isNamedFurther_p32 {X : CX}  (σ : HS) (x0 : Nat) (x1 : Int32) (s0 : Int64) : G X RX17 "isNamedFurther" cX17_isNamedFurther 6 (some .boolean) 2 46 enI 32 [(0, av x0), (1, iv x1)] [jv s0] σ (Mdl_isNamedFurther_p32 σ x0 x1 s0) := by
  unfold Mdl_isNamedFurther_p32
  refine g_lstore_n 2 dX17_isNamedFurther_32 rfl (by decide) rfl ?_
  refine g_iload_n 1 2 dX17_isNamedFurther_33 rfl rfl ?_
  refine g_bipush (v := 12) dX17_isNamedFurther_34 (by decide) ?_
  refine g_icmp_eq 45 dX17_isNamedFurther_36 (by decide) ?_ ?_
  · refine G.sub [1, 2, 0] rfl ?_
    exact gX17_isNamedFurther_p45 _ _ _ _
  · refine g_iload_n 1 2 dX17_isNamedFurther_39 rfl rfl ?_
    refine g_bipush (v := 14) dX17_isNamedFurther_40 (by decide) ?_
    refine g_icmp_ne 52 dX17_isNamedFurther_42 (by decide) ?_ ?_
    · refine g_lconst (v := 0) dX17_isNamedFurther_52 (by decide) ?_
      refine G.sub [1, 2, 0] rfl ?_
      exact gX17_isNamedFurther_p53 _ _ _ _ _
    · refine G.sub [1, 2, 0] rfl ?_
      exact gX17_isNamedFurther_p45 _ _ _ _
def V.Mdl_isNamedFurther_p24  (σ : HS) (x0 : Nat) (x1 : Int32) : Option (Int32 × HS) :=
  ck (tg σ x0 = 18) <| cl (Mdl_word σ x0 ) fun r2 σ1 =>
  Mdl_isNamedFurther_p32 σ1 x0 x1 r2
theorem V.gX17_isNamedFurther_p24 {X : CX}  (σ : HS) (x0 : Nat) (x1 : Int32) : G X RX17 "isNamedFurther" cX17_isNamedFurther 6 (some .boolean) 2 46 enI 24 [(0, av x0), (1, iv x1)] [] σ (Mdl_isNamedFurther_p24 σ x0 x1) := by
  unfold Mdl_isNamedFurther_p24
  refine g_aload_n 0 0 dX17_isNamedFurther_24 rfl rfl ?_
  refine g_callV (fc := fun sς => Mdl_word sς x0 ) (ci := 17) (as := []) rfl rfl rfl q3813 qs250 mdX17_603 (ctX17_word x0 ) rfl (Nat.le_of_ble_eq_true rfl) (Nat.le_of_ble_eq_true rfl) (Nat.le_of_ble_eq_true rfl) pu_J dX17_isNamedFurther_25 (fun r2 σ1 => ?_)
  refine g_goto 32 dX17_isNamedFurther_28 (by decide) ?_
  exact gX17_isNamedFurther_p32 _ _ _ _
def V.Mdl_isNamedFurther (σ : HS) (x0 : Nat) : Option (Int32 × HS) :=
  ck (tg σ x0 = 18) <| cl (Mdl_word σ x0 ) fun r2 σ1 =>
  if r2.toInt32 = (8 : Int32) then (
    Mdl_isNamedFurther_p24 σ1 x0 r2.toInt32)
  else (
    if r2.toInt32 = (9 : Int32) then (
      Mdl_isNamedFurther_p24 σ1 x0 r2.toInt32)
    else (
      if r2.toInt32 ≤ (11 : Int32) then (
        Mdl_isNamedFurther_p32 σ1 x0 r2.toInt32 (0 : Int64))
      else (
        Mdl_isNamedFurther_p24 σ1 x0 r2.toInt32)))
theorem V.ctX17_isNamedFurther (x0 : Nat) : Ct yX17_isNamedFurther  cX17_isNamedFurther 6 (some .boolean) 2 46 eI [av x0] (fun σ => Mdl_isNamedFurther σ x0) := by
  refine Ct.of (own := RX17) (nm := "isNamedFurther") (desc := "()Z") rfl (by decide) (Nat.le_of_ble_eq_true rfl) (by decide) (fun X σ => ?_)
  show G X RX17 "isNamedFurther" cX17_isNamedFurther 6 (some .boolean) 2 46 enI 0 [(0, av x0)] [] σ (Mdl_isNamedFurther σ x0)
  unfold Mdl_isNamedFurther
  refine g_aload_n 0 0 dX17_isNamedFurther_0 rfl rfl ?_
  refine g_callV (fc := fun sς => Mdl_word sς x0 ) (ci := 17) (as := []) rfl rfl rfl q3813 qs250 mdX17_603 (ctX17_word x0 ) rfl (Nat.le_of_ble_eq_true rfl) (Nat.le_of_ble_eq_true rfl) (Nat.le_of_ble_eq_true rfl) pu_J dX17_isNamedFurther_1 (fun r2 σ1 => ?_)
  refine g_l2i dX17_isNamedFurther_4 ?_
  refine g_istore_n 1 dX17_isNamedFurther_5 rfl (by decide) rfl ?_
  refine g_iload_n 1 0 dX17_isNamedFurther_6 rfl rfl ?_
  refine g_bipush (v := 8) dX17_isNamedFurther_7 (by decide) ?_
  refine g_icmp_eq 24 dX17_isNamedFurther_9 (by decide) ?_ ?_
  · refine G.sub [1, 0] rfl ?_
    exact gX17_isNamedFurther_p24 _ _ _
  · refine g_iload_n 1 0 dX17_isNamedFurther_12 rfl rfl ?_
    refine g_bipush (v := 9) dX17_isNamedFurther_13 (by decide) ?_
    refine g_icmp_eq 24 dX17_isNamedFurther_15 (by decide) ?_ ?_
    · refine G.sub [1, 0] rfl ?_
      exact gX17_isNamedFurther_p24 _ _ _
    · refine g_iload_n 1 0 dX17_isNamedFurther_18 rfl rfl ?_
      refine g_bipush (v := 11) dX17_isNamedFurther_19 (by decide) ?_
      refine g_icmp_le 31 dX17_isNamedFurther_21 (by decide) ?_ ?_
      · refine g_lconst (v := 0) dX17_isNamedFurther_31 (by decide) ?_
        refine G.sub [1, 0] rfl ?_
        exact gX17_isNamedFurther_p32 _ _ _ _
      · refine G.sub [1, 0] rfl ?_
        exact gX17_isNamedFurther_p24 _ _ _
theorem V.dX17_isNamed_0 : decode cX17_isNamed 0 = .ok (.aload_n 0, 1) := by decide +kernel
theorem V.dX17_isNamed_1 : decode cX17_isNamed 1 = .ok (.iload_n 1, 1) := by decide +kernel
theorem V.dX17_isNamed_2 : decode cX17_isNamed 2 = .ok (.iconst 1, 1) := by decide +kernel
theorem V.dX17_isNamed_3 : decode cX17_isNamed 3 = .ok (.iadd, 1) := by decide +kernel
theorem V.dX17_isNamed_4 : decode cX17_isNamed 4 = .ok (.putfield 594, 3) := by decide +kernel
theorem V.dX17_isNamed_7 : decode cX17_isNamed 7 = .ok (.iload_n 2, 1) := by decide +kernel
theorem V.dX17_isNamed_8 : decode cX17_isNamed 8 = .ok (.iconst 2, 1) := by decide +kernel
theorem V.dX17_isNamed_9 : decode cX17_isNamed 9 = .ok (.if_icmp .lt 30, 3) := by decide +kernel
theorem V.dX17_isNamed_12 : decode cX17_isNamed 12 = .ok (.iload_n 2, 1) := by decide +kernel
theorem V.dX17_isNamed_13 : decode cX17_isNamed 13 = .ok (.iconst 4, 1) := by decide +kernel
theorem V.dX17_isNamed_14 : decode cX17_isNamed 14 = .ok (.if_icmp .gt 25, 3) := by decide +kernel
theorem V.dX17_isNamed_17 : decode cX17_isNamed 17 = .ok (.aload_n 0, 1) := by decide +kernel
theorem V.dX17_isNamed_18 : decode cX17_isNamed 18 = .ok (.invokevirtual 600, 3) := by decide +kernel
theorem V.dX17_isNamed_21 : decode cX17_isNamed 21 = .ok (.aload_n 0, 1) := by decide +kernel
theorem V.dX17_isNamed_22 : decode cX17_isNamed 22 = .ok (.getfield 221, 3) := by decide +kernel
theorem V.dX17_isNamed_25 : decode cX17_isNamed 25 = .ok (.getfield 381, 3) := by decide +kernel
theorem V.dX17_isNamed_28 : decode cX17_isNamed 28 = .ok (.i2l, 1) := by decide +kernel
theorem V.dX17_isNamed_29 : decode cX17_isNamed 29 = .ok (.lcmp, 1) := by decide +kernel
theorem V.dX17_isNamed_30 : decode cX17_isNamed 30 = .ok (.ifCond .ge 7, 3) := by decide +kernel
theorem V.dX17_isNamed_33 : decode cX17_isNamed 33 = .ok (.iconst 1, 1) := by decide +kernel
theorem V.dX17_isNamed_34 : decode cX17_isNamed 34 = .ok (.goto 4, 3) := by decide +kernel
theorem V.dX17_isNamed_37 : decode cX17_isNamed 37 = .ok (.iconst 0, 1) := by decide +kernel
theorem V.dX17_isNamed_38 : decode cX17_isNamed 38 = .ok (.ireturn, 1) := by decide +kernel
theorem V.dX17_isNamed_39 : decode cX17_isNamed 39 = .ok (.iload_n 2, 1) := by decide +kernel
theorem V.dX17_isNamed_40 : decode cX17_isNamed 40 = .ok (.bipush 12, 2) := by decide +kernel
theorem V.dX17_isNamed_42 : decode cX17_isNamed 42 = .ok (.if_icmp .eq 9, 3) := by decide +kernel
theorem V.dX17_isNamed_45 : decode cX17_isNamed 45 = .ok (.iload_n 2, 1) := by decide +kernel
theorem V.dX17_isNamed_46 : decode cX17_isNamed 46 = .ok (.bipush 13, 2) := by decide +kernel
theorem V.dX17_isNamed_48 : decode cX17_isNamed 48 = .ok (.if_icmp .ne 22, 3) := by decide +kernel
theorem V.dX17_isNamed_51 : decode cX17_isNamed 51 = .ok (.aload_n 0, 1) := by decide +kernel
theorem V.dX17_isNamed_52 : decode cX17_isNamed 52 = .ok (.invokevirtual 603, 3) := by decide +kernel
theorem V.dX17_isNamed_55 : decode cX17_isNamed 55 = .ok (.aload_n 0, 1) := by decide +kernel
theorem V.dX17_isNamed_56 : decode cX17_isNamed 56 = .ok (.getfield 682, 3) := by decide +kernel
theorem V.dX17_isNamed_59 : decode cX17_isNamed 59 = .ok (.i2l, 1) := by decide +kernel
theorem V.dX17_isNamed_60 : decode cX17_isNamed 60 = .ok (.lcmp, 1) := by decide +kernel
theorem V.dX17_isNamed_61 : decode cX17_isNamed 61 = .ok (.ifCond .ge 7, 3) := by decide +kernel
theorem V.dX17_isNamed_64 : decode cX17_isNamed 64 = .ok (.iconst 1, 1) := by decide +kernel
theorem V.dX17_isNamed_65 : decode cX17_isNamed 65 = .ok (.goto 4, 3) := by decide +kernel
theorem V.dX17_isNamed_68 : decode cX17_isNamed 68 = .ok (.iconst 0, 1) := by decide +kernel
theorem V.dX17_isNamed_69 : decode cX17_isNamed 69 = .ok (.ireturn, 1) := by decide +kernel
theorem V.dX17_isNamed_70 : decode cX17_isNamed 70 = .ok (.iload_n 2, 1) := by decide +kernel
theorem V.dX17_isNamed_71 : decode cX17_isNamed 71 = .ok (.bipush 14, 2) := by decide +kernel
theorem V.dX17_isNamed_73 : decode cX17_isNamed 73 = .ok (.if_icmp .ne 70, 3) := by decide +kernel
theorem V.dX17_isNamed_76 : decode cX17_isNamed 76 = .ok (.aload_n 0, 1) := by decide +kernel
theorem V.dX17_isNamed_77 : decode cX17_isNamed 77 = .ok (.invokevirtual 603, 3) := by decide +kernel
theorem V.dX17_isNamed_80 : decode cX17_isNamed 80 = .ok (.lstore_n 3, 1) := by decide +kernel
theorem V.dX17_isNamed_81 : decode cX17_isNamed 81 = .ok (.iconst 1, 1) := by decide +kernel
theorem V.dX17_isNamed_82 : decode cX17_isNamed 82 = .ok (.istore 5, 2) := by decide +kernel
theorem V.dX17_isNamed_84 : decode cX17_isNamed 84 = .ok (.lconst 0, 1) := by decide +kernel
theorem V.dX17_isNamed_85 : decode cX17_isNamed 85 = .ok (.lstore 6, 2) := by decide +kernel
theorem V.dX17_isNamed_87 : decode cX17_isNamed 87 = .ok (.lload 6, 2) := by decide +kernel
theorem V.dX17_isNamed_89 : decode cX17_isNamed 89 = .ok (.lload_n 3, 1) := by decide +kernel
theorem V.dX17_isNamed_90 : decode cX17_isNamed 90 = .ok (.lcmp, 1) := by decide +kernel
theorem V.dX17_isNamed_91 : decode cX17_isNamed 91 = .ok (.ifCond .gt 49, 3) := by decide +kernel
theorem V.dX17_isNamed_94 : decode cX17_isNamed 94 = .ok (.aload_n 0, 1) := by decide +kernel
theorem V.dX17_isNamed_95 : decode cX17_isNamed 95 = .ok (.invokevirtual 603, 3) := by decide +kernel
theorem V.dX17_isNamed_98 : decode cX17_isNamed 98 = .ok (.aload_n 0, 1) := by decide +kernel
theorem V.dX17_isNamed_99 : decode cX17_isNamed 99 = .ok (.getfield 682, 3) := by decide +kernel
theorem V.dX17_isNamed_102 : decode cX17_isNamed 102 = .ok (.i2l, 1) := by decide +kernel
theorem V.dX17_isNamed_103 : decode cX17_isNamed 103 = .ok (.lcmp, 1) := by decide +kernel
theorem V.dX17_isNamed_104 : decode cX17_isNamed 104 = .ok (.ifCond .ge 7, 3) := by decide +kernel
theorem V.dX17_isNamed_107 : decode cX17_isNamed 107 = .ok (.iconst 1, 1) := by decide +kernel
theorem V.dX17_isNamed_108 : decode cX17_isNamed 108 = .ok (.goto 4, 3) := by decide +kernel
theorem V.dX17_isNamed_111 : decode cX17_isNamed 111 = .ok (.iconst 0, 1) := by decide +kernel
theorem V.dX17_isNamed_112 : decode cX17_isNamed 112 = .ok (.istore 8, 2) := by decide +kernel
theorem V.dX17_isNamed_114 : decode cX17_isNamed 114 = .ok (.iload 5, 2) := by decide +kernel
theorem V.dX17_isNamed_116 : decode cX17_isNamed 116 = .ok (.ifCond .eq 12, 3) := by decide +kernel
theorem V.dX17_isNamed_119 : decode cX17_isNamed 119 = .ok (.iload 8, 2) := by decide +kernel
theorem V.dX17_isNamed_121 : decode cX17_isNamed 121 = .ok (.ifCond .eq 7, 3) := by decide +kernel
theorem V.dX17_isNamed_124 : decode cX17_isNamed 124 = .ok (.iconst 1, 1) := by decide +kernel
theorem V.dX17_isNamed_125 : decode cX17_isNamed 125 = .ok (.goto 4, 3) := by decide +kernel
theorem V.dX17_isNamed_128 : decode cX17_isNamed 128 = .ok (.iconst 0, 1) := by decide +kernel
theorem V.dX17_isNamed_129 : decode cX17_isNamed 129 = .ok (.istore 5, 2) := by decide +kernel
theorem V.dX17_isNamed_131 : decode cX17_isNamed 131 = .ok (.lload 6, 2) := by decide +kernel
theorem V.dX17_isNamed_133 : decode cX17_isNamed 133 = .ok (.lconst 1, 1) := by decide +kernel
theorem V.dX17_isNamed_134 : decode cX17_isNamed 134 = .ok (.ladd, 1) := by decide +kernel
theorem V.dX17_isNamed_135 : decode cX17_isNamed 135 = .ok (.lstore 6, 2) := by decide +kernel
theorem V.dX17_isNamed_137 : decode cX17_isNamed 137 = .ok (.goto (-50), 3) := by decide +kernel
theorem V.dX17_isNamed_140 : decode cX17_isNamed 140 = .ok (.iload 5, 2) := by decide +kernel
theorem V.dX17_isNamed_142 : decode cX17_isNamed 142 = .ok (.ireturn, 1) := by decide +kernel
theorem V.dX17_isNamed_143 : decode cX17_isNamed 143 = .ok (.iload_n 2, 1) := by decide +kernel
theorem V.dX17_isNamed_144 : decode cX17_isNamed 144 = .ok (.bipush 16, 2) := by decide +kernel
theorem V.dX17_isNamed_146 : decode cX17_isNamed 146 = .ok (.if_icmp .ne 26, 3) := by decide +kernel
theorem V.dX17_isNamed_149 : decode cX17_isNamed 149 = .ok (.aload_n 0, 1) := by decide +kernel
theorem V.dX17_isNamed_150 : decode cX17_isNamed 150 = .ok (.invokevirtual 603, 3) := by decide +kernel
theorem V.dX17_isNamed_153 : decode cX17_isNamed 153 = .ok (.aload_n 0, 1) := by decide +kernel
theorem V.dX17_isNamed_154 : decode cX17_isNamed 154 = .ok (.getfield 221, 3) := by decide +kernel
theorem V.dX17_isNamed_157 : decode cX17_isNamed 157 = .ok (.iconst 0, 1) := by decide +kernel
theorem V.dX17_isNamed_158 : decode cX17_isNamed 158 = .ok (.invokevirtual 615, 3) := by decide +kernel
theorem V.dX17_isNamed_161 : decode cX17_isNamed 161 = .ok (.i2l, 1) := by decide +kernel
theorem V.dX17_isNamed_162 : decode cX17_isNamed 162 = .ok (.lcmp, 1) := by decide +kernel
theorem V.dX17_isNamed_163 : decode cX17_isNamed 163 = .ok (.ifCond .ge 7, 3) := by decide +kernel
theorem V.dX17_isNamed_166 : decode cX17_isNamed 166 = .ok (.iconst 1, 1) := by decide +kernel
theorem V.dX17_isNamed_167 : decode cX17_isNamed 167 = .ok (.goto 4, 3) := by decide +kernel
theorem V.dX17_isNamed_170 : decode cX17_isNamed 170 = .ok (.iconst 0, 1) := by decide +kernel
theorem V.dX17_isNamed_171 : decode cX17_isNamed 171 = .ok (.ireturn, 1) := by decide +kernel
theorem V.dX17_isNamed_172 : decode cX17_isNamed 172 = .ok (.iload_n 2, 1) := by decide +kernel
theorem V.dX17_isNamed_173 : decode cX17_isNamed 173 = .ok (.bipush 17, 2) := by decide +kernel
theorem V.dX17_isNamed_175 : decode cX17_isNamed 175 = .ok (.if_icmp .ne 63, 3) := by decide +kernel
theorem V.dX17_isNamed_178 : decode cX17_isNamed 178 = .ok (.aload_n 0, 1) := by decide +kernel
theorem V.dX17_isNamed_179 : decode cX17_isNamed 179 = .ok (.invokevirtual 603, 3) := by decide +kernel
theorem V.dX17_isNamed_182 : decode cX17_isNamed 182 = .ok (.lstore_n 3, 1) := by decide +kernel
theorem V.dX17_isNamed_183 : decode cX17_isNamed 183 = .ok (.aload_n 0, 1) := by decide +kernel
theorem V.dX17_isNamed_184 : decode cX17_isNamed 184 = .ok (.invokevirtual 603, 3) := by decide +kernel
theorem V.dX17_isNamed_187 : decode cX17_isNamed 187 = .ok (.lstore 5, 2) := by decide +kernel
theorem V.dX17_isNamed_189 : decode cX17_isNamed 189 = .ok (.lload_n 3, 1) := by decide +kernel
theorem V.dX17_isNamed_190 : decode cX17_isNamed 190 = .ok (.aload_n 0, 1) := by decide +kernel
theorem V.dX17_isNamed_191 : decode cX17_isNamed 191 = .ok (.getfield 221, 3) := by decide +kernel
theorem V.dX17_isNamed_194 : decode cX17_isNamed 194 = .ok (.getfield 381, 3) := by decide +kernel
theorem V.dX17_isNamed_197 : decode cX17_isNamed 197 = .ok (.i2l, 1) := by decide +kernel
theorem V.dX17_isNamed_198 : decode cX17_isNamed 198 = .ok (.lcmp, 1) := by decide +kernel
theorem V.dX17_isNamed_199 : decode cX17_isNamed 199 = .ok (.ifCond .ge 37, 3) := by decide +kernel
theorem V.dX17_isNamed_202 : decode cX17_isNamed 202 = .ok (.lload 5, 2) := by decide +kernel
theorem V.dX17_isNamed_204 : decode cX17_isNamed 204 = .ok (.aload_n 0, 1) := by decide +kernel
theorem V.dX17_isNamed_205 : decode cX17_isNamed 205 = .ok (.getfield 221, 3) := by decide +kernel
theorem V.dX17_isNamed_208 : decode cX17_isNamed 208 = .ok (.iconst 1, 1) := by decide +kernel
theorem V.dX17_isNamed_209 : decode cX17_isNamed 209 = .ok (.invokevirtual 615, 3) := by decide +kernel
theorem V.dX17_isNamed_212 : decode cX17_isNamed 212 = .ok (.i2l, 1) := by decide +kernel
theorem V.dX17_isNamed_213 : decode cX17_isNamed 213 = .ok (.lcmp, 1) := by decide +kernel
theorem V.dX17_isNamed_214 : decode cX17_isNamed 214 = .ok (.ifCond .ge 22, 3) := by decide +kernel
theorem V.dX17_isNamed_217 : decode cX17_isNamed 217 = .ok (.aload_n 0, 1) := by decide +kernel
theorem V.dX17_isNamed_218 : decode cX17_isNamed 218 = .ok (.getfield 221, 3) := by decide +kernel
theorem V.dX17_isNamed_221 : decode cX17_isNamed 221 = .ok (.lload 5, 2) := by decide +kernel
theorem V.dX17_isNamed_223 : decode cX17_isNamed 223 = .ok (.l2i, 1) := by decide +kernel
theorem V.dX17_isNamed_224 : decode cX17_isNamed 224 = .ok (.invokevirtual 661, 3) := by decide +kernel
theorem V.dX17_isNamed_227 : decode cX17_isNamed 227 = .ok (.bipush 112, 2) := by decide +kernel
theorem V.dX17_isNamed_229 : decode cX17_isNamed 229 = .ok (.if_icmp .ne 7, 3) := by decide +kernel
theorem V.dX17_isNamed_232 : decode cX17_isNamed 232 = .ok (.iconst 1, 1) := by decide +kernel
theorem V.dX17_isNamed_233 : decode cX17_isNamed 233 = .ok (.goto 4, 3) := by decide +kernel
theorem V.dX17_isNamed_236 : decode cX17_isNamed 236 = .ok (.iconst 0, 1) := by decide +kernel
theorem V.dX17_isNamed_237 : decode cX17_isNamed 237 = .ok (.ireturn, 1) := by decide +kernel
theorem V.dX17_isNamed_238 : decode cX17_isNamed 238 = .ok (.iload_n 2, 1) := by decide +kernel
theorem V.dX17_isNamed_239 : decode cX17_isNamed 239 = .ok (.bipush 32, 2) := by decide +kernel
theorem V.dX17_isNamed_241 : decode cX17_isNamed 241 = .ok (.if_icmp .lt 49, 3) := by decide +kernel
theorem V.dX17_isNamed_244 : decode cX17_isNamed 244 = .ok (.iload_n 2, 1) := by decide +kernel
theorem V.dX17_isNamed_245 : decode cX17_isNamed 245 = .ok (.bipush 34, 2) := by decide +kernel
theorem V.dX17_isNamed_247 : decode cX17_isNamed 247 = .ok (.if_icmp .gt 43, 3) := by decide +kernel
theorem V.dX17_isNamed_250 : decode cX17_isNamed 250 = .ok (.aload_n 0, 1) := by decide +kernel
theorem V.dX17_isNamed_251 : decode cX17_isNamed 251 = .ok (.invokevirtual 603, 3) := by decide +kernel
theorem V.dX17_isNamed_254 : decode cX17_isNamed 254 = .ok (.aload_n 0, 1) := by decide +kernel
theorem V.dX17_isNamed_255 : decode cX17_isNamed 255 = .ok (.getfield 221, 3) := by decide +kernel
theorem V.dX17_isNamed_258 : decode cX17_isNamed 258 = .ok (.getfield 387, 3) := by decide +kernel
theorem V.dX17_isNamed_261 : decode cX17_isNamed 261 = .ok (.aload_n 0, 1) := by decide +kernel
theorem V.dX17_isNamed_262 : decode cX17_isNamed 262 = .ok (.getfield 713, 3) := by decide +kernel
theorem V.dX17_isNamed_265 : decode cX17_isNamed 265 = .ok (.iaload, 1) := by decide +kernel
theorem V.dX17_isNamed_266 : decode cX17_isNamed 266 = .ok (.i2l, 1) := by decide +kernel
theorem V.dX17_isNamed_267 : decode cX17_isNamed 267 = .ok (.aload_n 0, 1) := by decide +kernel
theorem V.dX17_isNamed_268 : decode cX17_isNamed 268 = .ok (.getfield 221, 3) := by decide +kernel
theorem V.dX17_isNamed_271 : decode cX17_isNamed 271 = .ok (.getfield 520, 3) := by decide +kernel
theorem V.dX17_isNamed_274 : decode cX17_isNamed 274 = .ok (.aload_n 0, 1) := by decide +kernel
theorem V.dX17_isNamed_275 : decode cX17_isNamed 275 = .ok (.getfield 710, 3) := by decide +kernel
theorem V.dX17_isNamed_278 : decode cX17_isNamed 278 = .ok (.laload, 1) := by decide +kernel
theorem V.dX17_isNamed_279 : decode cX17_isNamed 279 = .ok (.ladd, 1) := by decide +kernel
theorem V.dX17_isNamed_280 : decode cX17_isNamed 280 = .ok (.lcmp, 1) := by decide +kernel
theorem V.dX17_isNamed_281 : decode cX17_isNamed 281 = .ok (.ifCond .ge 7, 3) := by decide +kernel
theorem V.dX17_isNamed_284 : decode cX17_isNamed 284 = .ok (.iconst 1, 1) := by decide +kernel
theorem V.dX17_isNamed_285 : decode cX17_isNamed 285 = .ok (.goto 4, 3) := by decide +kernel
theorem V.dX17_isNamed_288 : decode cX17_isNamed 288 = .ok (.iconst 0, 1) := by decide +kernel
theorem V.dX17_isNamed_289 : decode cX17_isNamed 289 = .ok (.ireturn, 1) := by decide +kernel
theorem V.dX17_isNamed_290 : decode cX17_isNamed 290 = .ok (.iload_n 2, 1) := by decide +kernel
theorem V.dX17_isNamed_291 : decode cX17_isNamed 291 = .ok (.bipush 35, 2) := by decide +kernel
theorem V.dX17_isNamed_293 : decode cX17_isNamed 293 = .ok (.if_icmp .eq 9, 3) := by decide +kernel
theorem V.dX17_isNamed_296 : decode cX17_isNamed 296 = .ok (.iload_n 2, 1) := by decide +kernel
theorem V.dX17_isNamed_297 : decode cX17_isNamed 297 = .ok (.bipush 36, 2) := by decide +kernel
theorem V.dX17_isNamed_299 : decode cX17_isNamed 299 = .ok (.if_icmp .ne 46, 3) := by decide +kernel
theorem V.dX17_isNamed_302 : decode cX17_isNamed 302 = .ok (.aload_n 0, 1) := by decide +kernel
theorem V.dX17_isNamed_303 : decode cX17_isNamed 303 = .ok (.invokevirtual 603, 3) := by decide +kernel
theorem V.dX17_isNamed_306 : decode cX17_isNamed 306 = .ok (.lstore_n 3, 1) := by decide +kernel
theorem V.dX17_isNamed_307 : decode cX17_isNamed 307 = .ok (.lload_n 3, 1) := by decide +kernel
theorem V.dX17_isNamed_308 : decode cX17_isNamed 308 = .ok (.aload_n 0, 1) := by decide +kernel
theorem V.dX17_isNamed_309 : decode cX17_isNamed 309 = .ok (.getfield 221, 3) := by decide +kernel
theorem V.dX17_isNamed_312 : decode cX17_isNamed 312 = .ok (.iconst 3, 1) := by decide +kernel
theorem V.dX17_isNamed_313 : decode cX17_isNamed 313 = .ok (.invokevirtual 615, 3) := by decide +kernel
theorem V.dX17_isNamed_316 : decode cX17_isNamed 316 = .ok (.i2l, 1) := by decide +kernel
theorem V.dX17_isNamed_317 : decode cX17_isNamed 317 = .ok (.lcmp, 1) := by decide +kernel
theorem V.dX17_isNamed_318 : decode cX17_isNamed 318 = .ok (.ifCond .ge 25, 3) := by decide +kernel
theorem V.dX17_isNamed_321 : decode cX17_isNamed 321 = .ok (.iload_n 2, 1) := by decide +kernel
theorem V.dX17_isNamed_322 : decode cX17_isNamed 322 = .ok (.bipush 35, 2) := by decide +kernel
theorem V.dX17_isNamed_324 : decode cX17_isNamed 324 = .ok (.if_icmp .eq 15, 3) := by decide +kernel
theorem V.dX17_isNamed_327 : decode cX17_isNamed 327 = .ok (.aload_n 0, 1) := by decide +kernel
theorem V.dX17_isNamed_328 : decode cX17_isNamed 328 = .ok (.getfield 221, 3) := by decide +kernel
theorem V.dX17_isNamed_331 : decode cX17_isNamed 331 = .ok (.lload_n 3, 1) := by decide +kernel
theorem V.dX17_isNamed_332 : decode cX17_isNamed 332 = .ok (.l2i, 1) := by decide +kernel
theorem V.dX17_isNamed_333 : decode cX17_isNamed 333 = .ok (.invokevirtual 667, 3) := by decide +kernel
theorem V.dX17_isNamed_336 : decode cX17_isNamed 336 = .ok (.ifCond .eq 7, 3) := by decide +kernel
theorem V.dX17_isNamed_339 : decode cX17_isNamed 339 = .ok (.iconst 1, 1) := by decide +kernel
theorem V.dX17_isNamed_340 : decode cX17_isNamed 340 = .ok (.goto 4, 3) := by decide +kernel
theorem V.dX17_isNamed_343 : decode cX17_isNamed 343 = .ok (.iconst 0, 1) := by decide +kernel
theorem V.dX17_isNamed_344 : decode cX17_isNamed 344 = .ok (.ireturn, 1) := by decide +kernel
theorem V.dX17_isNamed_345 : decode cX17_isNamed 345 = .ok (.iload_n 2, 1) := by decide +kernel
theorem V.dX17_isNamed_346 : decode cX17_isNamed 346 = .ok (.bipush 37, 2) := by decide +kernel
theorem V.dX17_isNamed_348 : decode cX17_isNamed 348 = .ok (.if_icmp .eq 9, 3) := by decide +kernel
theorem V.dX17_isNamed_351 : decode cX17_isNamed 351 = .ok (.iload_n 2, 1) := by decide +kernel
theorem V.dX17_isNamed_352 : decode cX17_isNamed 352 = .ok (.bipush 38, 2) := by decide +kernel
theorem V.dX17_isNamed_354 : decode cX17_isNamed 354 = .ok (.if_icmp .ne 26, 3) := by decide +kernel
theorem V.dX17_isNamed_357 : decode cX17_isNamed 357 = .ok (.aload_n 0, 1) := by decide +kernel
theorem V.dX17_isNamed_358 : decode cX17_isNamed 358 = .ok (.invokevirtual 603, 3) := by decide +kernel
theorem V.dX17_isNamed_361 : decode cX17_isNamed 361 = .ok (.aload_n 0, 1) := by decide +kernel
theorem V.dX17_isNamed_362 : decode cX17_isNamed 362 = .ok (.getfield 221, 3) := by decide +kernel
theorem V.dX17_isNamed_365 : decode cX17_isNamed 365 = .ok (.iconst 1, 1) := by decide +kernel
theorem V.dX17_isNamed_366 : decode cX17_isNamed 366 = .ok (.invokevirtual 615, 3) := by decide +kernel
theorem V.dX17_isNamed_369 : decode cX17_isNamed 369 = .ok (.i2l, 1) := by decide +kernel
theorem V.dX17_isNamed_370 : decode cX17_isNamed 370 = .ok (.lcmp, 1) := by decide +kernel
theorem V.dX17_isNamed_371 : decode cX17_isNamed 371 = .ok (.ifCond .ge 7, 3) := by decide +kernel
theorem V.dX17_isNamed_374 : decode cX17_isNamed 374 = .ok (.iconst 1, 1) := by decide +kernel
theorem V.dX17_isNamed_375 : decode cX17_isNamed 375 = .ok (.goto 4, 3) := by decide +kernel
theorem V.dX17_isNamed_378 : decode cX17_isNamed 378 = .ok (.iconst 0, 1) := by decide +kernel
theorem V.dX17_isNamed_379 : decode cX17_isNamed 379 = .ok (.ireturn, 1) := by decide +kernel
theorem V.dX17_isNamed_380 : decode cX17_isNamed 380 = .ok (.iload_n 2, 1) := by decide +kernel
theorem V.dX17_isNamed_381 : decode cX17_isNamed 381 = .ok (.invokestatic 572, 3) := by decide +kernel
theorem V.dX17_isNamed_384 : decode cX17_isNamed 384 = .ok (.ifCond .eq 33, 3) := by decide +kernel
theorem V.dX17_isNamed_387 : decode cX17_isNamed 387 = .ok (.aload_n 0, 1) := by decide +kernel
theorem V.dX17_isNamed_388 : decode cX17_isNamed 388 = .ok (.invokevirtual 603, 3) := by decide +kernel
theorem V.dX17_isNamed_391 : decode cX17_isNamed 391 = .ok (.iload_n 2, 1) := by decide +kernel
theorem V.dX17_isNamed_392 : decode cX17_isNamed 392 = .ok (.invokestatic 728, 3) := by decide +kernel
theorem V.dX17_isNamed_395 : decode cX17_isNamed 395 = .ok (.i2l, 1) := by decide +kernel
theorem V.dX17_isNamed_396 : decode cX17_isNamed 396 = .ok (.lcmp, 1) := by decide +kernel
theorem V.dX17_isNamed_397 : decode cX17_isNamed 397 = .ok (.ifCond .gt 18, 3) := by decide +kernel
theorem V.dX17_isNamed_400 : decode cX17_isNamed 400 = .ok (.aload_n 0, 1) := by decide +kernel
theorem V.dX17_isNamed_401 : decode cX17_isNamed 401 = .ok (.getfield 221, 3) := by decide +kernel
theorem V.dX17_isNamed_404 : decode cX17_isNamed 404 = .ok (.iconst 2, 1) := by decide +kernel
theorem V.dX17_isNamed_405 : decode cX17_isNamed 405 = .ok (.invokevirtual 615, 3) := by decide +kernel
theorem V.dX17_isNamed_408 : decode cX17_isNamed 408 = .ok (.ifCond .le 7, 3) := by decide +kernel
theorem V.dX17_isNamed_411 : decode cX17_isNamed 411 = .ok (.iconst 1, 1) := by decide +kernel
theorem V.dX17_isNamed_412 : decode cX17_isNamed 412 = .ok (.goto 4, 3) := by decide +kernel
theorem V.dX17_isNamed_415 : decode cX17_isNamed 415 = .ok (.iconst 0, 1) := by decide +kernel
theorem V.dX17_isNamed_416 : decode cX17_isNamed 416 = .ok (.ireturn, 1) := by decide +kernel
theorem V.dX17_isNamed_417 : decode cX17_isNamed 417 = .ok (.iload_n 2, 1) := by decide +kernel
theorem V.dX17_isNamed_418 : decode cX17_isNamed 418 = .ok (.bipush 63, 2) := by decide +kernel
theorem V.dX17_isNamed_420 : decode cX17_isNamed 420 = .ok (.if_icmp .eq 9, 3) := by decide +kernel
theorem V.dX17_isNamed_423 : decode cX17_isNamed 423 = .ok (.iload_n 2, 1) := by decide +kernel
theorem V.dX17_isNamed_424 : decode cX17_isNamed 424 = .ok (.bipush 64, 2) := by decide +kernel
theorem V.dX17_isNamed_426 : decode cX17_isNamed 426 = .ok (.if_icmp .ne 20, 3) := by decide +kernel
theorem V.dX17_isNamed_429 : decode cX17_isNamed 429 = .ok (.aload_n 0, 1) := by decide +kernel
theorem V.dX17_isNamed_430 : decode cX17_isNamed 430 = .ok (.getfield 221, 3) := by decide +kernel
theorem V.dX17_isNamed_433 : decode cX17_isNamed 433 = .ok (.iconst 2, 1) := by decide +kernel
theorem V.dX17_isNamed_434 : decode cX17_isNamed 434 = .ok (.invokevirtual 615, 3) := by decide +kernel
theorem V.dX17_isNamed_437 : decode cX17_isNamed 437 = .ok (.ifCond .le 7, 3) := by decide +kernel
theorem V.dX17_isNamed_440 : decode cX17_isNamed 440 = .ok (.iconst 1, 1) := by decide +kernel
theorem V.dX17_isNamed_441 : decode cX17_isNamed 441 = .ok (.goto 4, 3) := by decide +kernel
theorem V.dX17_isNamed_444 : decode cX17_isNamed 444 = .ok (.iconst 0, 1) := by decide +kernel
theorem V.dX17_isNamed_445 : decode cX17_isNamed 445 = .ok (.ireturn, 1) := by decide +kernel
theorem V.dX17_isNamed_446 : decode cX17_isNamed 446 = .ok (.iload_n 2, 1) := by decide +kernel
theorem V.dX17_isNamed_447 : decode cX17_isNamed 447 = .ok (.sipush 210, 3) := by decide +kernel
theorem V.dX17_isNamed_450 : decode cX17_isNamed 450 = .ok (.if_icmp .ne 38, 3) := by decide +kernel
theorem V.dX17_isNamed_453 : decode cX17_isNamed 453 = .ok (.aload_n 0, 1) := by decide +kernel
theorem V.dX17_isNamed_454 : decode cX17_isNamed 454 = .ok (.invokevirtual 603, 3) := by decide +kernel
theorem V.dX17_isNamed_457 : decode cX17_isNamed 457 = .ok (.lstore_n 3, 1) := by decide +kernel
theorem V.dX17_isNamed_458 : decode cX17_isNamed 458 = .ok (.lload_n 3, 1) := by decide +kernel
theorem V.dX17_isNamed_459 : decode cX17_isNamed 459 = .ok (.aload_n 0, 1) := by decide +kernel
theorem V.dX17_isNamed_460 : decode cX17_isNamed 460 = .ok (.getfield 221, 3) := by decide +kernel
theorem V.dX17_isNamed_463 : decode cX17_isNamed 463 = .ok (.iconst 0, 1) := by decide +kernel
theorem V.dX17_isNamed_464 : decode cX17_isNamed 464 = .ok (.invokevirtual 615, 3) := by decide +kernel
theorem V.dX17_isNamed_467 : decode cX17_isNamed 467 = .ok (.i2l, 1) := by decide +kernel
theorem V.dX17_isNamed_468 : decode cX17_isNamed 468 = .ok (.lcmp, 1) := by decide +kernel
theorem V.dX17_isNamed_469 : decode cX17_isNamed 469 = .ok (.ifCond .ge 17, 3) := by decide +kernel
theorem V.dX17_isNamed_472 : decode cX17_isNamed 472 = .ok (.aload_n 0, 1) := by decide +kernel
theorem V.dX17_isNamed_473 : decode cX17_isNamed 473 = .ok (.getfield 35, 3) := by decide +kernel
theorem V.dX17_isNamed_476 : decode cX17_isNamed 476 = .ok (.lload_n 3, 1) := by decide +kernel
theorem V.dX17_isNamed_477 : decode cX17_isNamed 477 = .ok (.l2i, 1) := by decide +kernel
theorem V.dX17_isNamed_478 : decode cX17_isNamed 478 = .ok (.baload, 1) := by decide +kernel
theorem V.dX17_isNamed_479 : decode cX17_isNamed 479 = .ok (.ifCond .eq 7, 3) := by decide +kernel
theorem V.dX17_isNamed_482 : decode cX17_isNamed 482 = .ok (.iconst 1, 1) := by decide +kernel
theorem V.dX17_isNamed_483 : decode cX17_isNamed 483 = .ok (.goto 4, 3) := by decide +kernel
theorem V.dX17_isNamed_486 : decode cX17_isNamed 486 = .ok (.iconst 0, 1) := by decide +kernel
theorem V.dX17_isNamed_487 : decode cX17_isNamed 487 = .ok (.ireturn, 1) := by decide +kernel
theorem V.dX17_isNamed_488 : decode cX17_isNamed 488 = .ok (.iload_n 2, 1) := by decide +kernel
theorem V.dX17_isNamed_489 : decode cX17_isNamed 489 = .ok (.sipush 252, 3) := by decide +kernel
theorem V.dX17_isNamed_492 : decode cX17_isNamed 492 = .ok (.if_icmp .ne 10, 3) := by decide +kernel
theorem V.dX17_isNamed_495 : decode cX17_isNamed 495 = .ok (.aload_n 0, 1) := by decide +kernel
theorem V.dX17_isNamed_496 : decode cX17_isNamed 496 = .ok (.invokevirtual 731, 3) := by decide +kernel
theorem V.dX17_isNamed_499 : decode cX17_isNamed 499 = .ok (.ifCond .eq 7, 3) := by decide +kernel
theorem V.dX17_isNamed_502 : decode cX17_isNamed 502 = .ok (.iconst 1, 1) := by decide +kernel
theorem V.dX17_isNamed_503 : decode cX17_isNamed 503 = .ok (.goto 4, 3) := by decide +kernel
theorem V.dX17_isNamed_506 : decode cX17_isNamed 506 = .ok (.iconst 0, 1) := by decide +kernel
theorem V.dX17_isNamed_507 : decode cX17_isNamed 507 = .ok (.ireturn, 1) := by decide +kernel
theorem V.fdX17_713 : FD RX17 713 17 30 0 := ⟨(RX17, TX17, 101), tyX17, rfl, rfl, in_X17, by decide, Or.inl q3066, rfl⟩
theorem V.fdX17_710 : FD RX17 710 17 29 0 := ⟨(RX17, TX17, 101), tyX17, rfl, rfl, in_X17, by decide, Or.inl q3065, rfl⟩
theorem V.mdX17_731 : MD RX17 731 yX17_isNamedFurther cX17_isNamedFurther 6 (some .boolean) 0 := ⟨Or.inl q3876, q377, q3879, by decide, by decide, by decide +kernel⟩
theorem V.mdX17_728 : MD RX17 728 yX17_widthOf cX17_widthOf 1 (some .int) 1 := ⟨Or.inl q3873, q377, q3875, by decide, by decide, by decide +kernel⟩
/-! ModuleEngineModel.isNamed(II)Z -/
def V.Mdl_isNamed_p51  (σ : HS) (x0 : Nat) : Option (Int32 × HS) :=
  ck (tg σ x0 = 18) <| cl (Mdl_word σ x0 ) fun r2 σ1 =>
  ck (tg σ1 x0 = 18) <|
  if ((gI σ1 x0 24).toInt64) ≤ r2 then (
    some ((0 : Int32), σ1))
  else (
    some ((1 : Int32), σ1))
theorem V.gX17_isNamed_p51 {X : CX}  (σ : HS) (x0 : Nat) : G X RX17 "isNamed" cX17_isNamed 9 (some .boolean) 3 71 enI 51 [(0, av x0)] [] σ (Mdl_isNamed_p51 σ x0) := by
  unfold Mdl_isNamed_p51
  refine g_aload_n 0 0 dX17_isNamed_51 rfl rfl ?_
  refine g_callV (fc := fun sς => Mdl_word sς x0 ) (ci := 17) (as := []) rfl rfl rfl q3813 qs250 mdX17_603 (ctX17_word x0 ) rfl (Nat.le_of_ble_eq_true rfl) (Nat.le_of_ble_eq_true rfl) (Nat.le_of_ble_eq_true rfl) pu_J dX17_isNamed_52 (fun r2 σ1 => ?_)
  refine g_aload_n 0 0 dX17_isNamed_55 rfl rfl ?_
  refine g_getI fdX17_682 dX17_isNamed_56 ?_
  refine g_i2l dX17_isNamed_59 ?_
  refine g_lcmp_ge 68 dX17_isNamed_60 dX17_isNamed_61 (by decide) ?_ ?_
  · refine g_iconst (v := 0) dX17_isNamed_68 (by decide) ?_
    exact g_zreturn rfl (by decide +kernel) dX17_isNamed_69
  · refine g_iconst (v := 1) dX17_isNamed_64 (by decide) ?_
    refine g_goto 69 dX17_isNamed_65 (by decide) ?_
    exact g_zreturn rfl (by decide +kernel) dX17_isNamed_69
def V.Mdl_isNamed_p339  (σ : HS)  : Option (Int32 × HS) :=
  some ((1 : Int32), σ)
theorem V.gX17_isNamed_p339 {X : CX}  (σ : HS)  : G X RX17 "isNamed" cX17_isNamed 9 (some .boolean) 3 71 enI 339 [] [] σ (Mdl_isNamed_p339 σ ) := by
  unfold Mdl_isNamed_p339
  refine g_iconst (v := 1) dX17_isNamed_339 (by decide) ?_
  refine g_goto 344 dX17_isNamed_340 (by decide) ?_
  exact g_zreturn rfl (by decide +kernel) dX17_isNamed_344
def V.Mdl_isNamed_p302  (σ : HS) (x0 : Nat) (x2 : Int32) : Option (Int32 × HS) :=
  ck (tg σ x0 = 18) <| cl (Mdl_word σ x0 ) fun r2 σ1 =>
  ck (tg σ1 x0 = 18) <|
  ck (tg σ1 (gR σ1 x0 10) = 21) <| cl (Pln_all σ1 (gR σ1 x0 10) (3 : Int32)) fun r4 σ3 =>
  if r4.toInt64 ≤ r2 then (
    some ((0 : Int32), σ3))
  else (
    if x2 = (35 : Int32) then (
      Mdl_isNamed_p339 σ3)
    else (
      ck (tg σ3 x0 = 18) <|
      ck (tg σ3 (gR σ3 x0 10) = 21) <| cl (Pln_globalMoves σ3 (gR σ3 x0 10) r2.toInt32) fun r6 σ5 =>
      if r6 = 0 then (
        some ((0 : Int32), σ5))
      else (
        Mdl_isNamed_p339 σ5)))
theorem V.gX17_isNamed_p302 {X : CX}  (σ : HS) (x0 : Nat) (x2 : Int32) : G X RX17 "isNamed" cX17_isNamed 9 (some .boolean) 3 71 enI 302 [(0, av x0), (2, iv x2)] [] σ (Mdl_isNamed_p302 σ x0 x2) := by
  unfold Mdl_isNamed_p302
  refine g_aload_n 0 0 dX17_isNamed_302 rfl rfl ?_
  refine g_callV (fc := fun sς => Mdl_word sς x0 ) (ci := 17) (as := []) rfl rfl rfl q3813 qs250 mdX17_603 (ctX17_word x0 ) rfl (Nat.le_of_ble_eq_true rfl) (Nat.le_of_ble_eq_true rfl) (Nat.le_of_ble_eq_true rfl) pu_J dX17_isNamed_303 (fun r2 σ1 => ?_)
  refine g_lstore_n 3 dX17_isNamed_306 rfl (by decide) rfl ?_
  refine g_lload_n 3 0 dX17_isNamed_307 rfl rfl ?_
  refine g_aload_n 0 1 dX17_isNamed_308 rfl rfl ?_
  refine g_getR fdX17_221 dX17_isNamed_309 ?_
  refine g_iconst (v := 3) dX17_isNamed_312 (by decide) ?_
  refine g_callV (fc := fun sς => Pln_all sς (gR σ1 x0 10) (3 : Int32)) (ci := 20) (as := [iv (3 : Int32)]) rfl rfl rfl q3780 q3781 mdX17_615 (ctX20_all (gR σ1 x0 10) (3 : Int32)) rfl (Nat.le_of_ble_eq_true rfl) (Nat.le_of_ble_eq_true rfl) (Nat.le_of_ble_eq_true rfl) pu_I dX17_isNamed_313 (fun r4 σ3 => ?_)
  refine g_i2l dX17_isNamed_316 ?_
  refine g_lcmp_ge 343 dX17_isNamed_317 dX17_isNamed_318 (by decide) ?_ ?_
  · refine g_iconst (v := 0) dX17_isNamed_343 (by decide) ?_
    exact g_zreturn rfl (by decide +kernel) dX17_isNamed_344
  · refine g_iload_n 2 2 dX17_isNamed_321 rfl rfl ?_
    refine g_bipush (v := 35) dX17_isNamed_322 (by decide) ?_
    refine g_icmp_eq 339 dX17_isNamed_324 (by decide) ?_ ?_
    · refine G.sub [] rfl ?_
      exact gX17_isNamed_p339 _
    · refine g_aload_n 0 1 dX17_isNamed_327 rfl rfl ?_
      refine g_getR fdX17_221 dX17_isNamed_328 ?_
      refine g_lload_n 3 0 dX17_isNamed_331 rfl rfl ?_
      refine g_l2i dX17_isNamed_332 ?_
      refine g_callV (fc := fun sς => Pln_globalMoves sς (gR σ3 x0 10) r2.toInt32) (ci := 20) (as := [iv r2.toInt32]) rfl rfl rfl q3846 q3847 mdX17_667 (ctX20_globalMoves (gR σ3 x0 10) r2.toInt32) rfl (Nat.le_of_ble_eq_true rfl) (Nat.le_of_ble_eq_true rfl) (Nat.le_of_ble_eq_true rfl) pu_I dX17_isNamed_333 (fun r6 σ5 => ?_)
      refine g_if_eq 343 dX17_isNamed_336 (by decide) ?_ ?_
      · refine g_iconst (v := 0) dX17_isNamed_343 (by decide) ?_
        exact g_zreturn rfl (by decide +kernel) dX17_isNamed_344
      · refine G.sub [] rfl ?_
        exact gX17_isNamed_p339 _
def V.Mdl_isNamed_p357  (σ : HS) (x0 : Nat) : Option (Int32 × HS) :=
  ck (tg σ x0 = 18) <| cl (Mdl_word σ x0 ) fun r2 σ1 =>
  ck (tg σ1 x0 = 18) <|
  ck (tg σ1 (gR σ1 x0 10) = 21) <| cl (Pln_all σ1 (gR σ1 x0 10) (1 : Int32)) fun r4 σ3 =>
  if r4.toInt64 ≤ r2 then (
    some ((0 : Int32), σ3))
  else (
    some ((1 : Int32), σ3))
theorem V.gX17_isNamed_p357 {X : CX}  (σ : HS) (x0 : Nat) : G X RX17 "isNamed" cX17_isNamed 9 (some .boolean) 3 71 enI 357 [(0, av x0)] [] σ (Mdl_isNamed_p357 σ x0) := by
  unfold Mdl_isNamed_p357
  refine g_aload_n 0 0 dX17_isNamed_357 rfl rfl ?_
  refine g_callV (fc := fun sς => Mdl_word sς x0 ) (ci := 17) (as := []) rfl rfl rfl q3813 qs250 mdX17_603 (ctX17_word x0 ) rfl (Nat.le_of_ble_eq_true rfl) (Nat.le_of_ble_eq_true rfl) (Nat.le_of_ble_eq_true rfl) pu_J dX17_isNamed_358 (fun r2 σ1 => ?_)
  refine g_aload_n 0 0 dX17_isNamed_361 rfl rfl ?_
  refine g_getR fdX17_221 dX17_isNamed_362 ?_
  refine g_iconst (v := 1) dX17_isNamed_365 (by decide) ?_
  refine g_callV (fc := fun sς => Pln_all sς (gR σ1 x0 10) (1 : Int32)) (ci := 20) (as := [iv (1 : Int32)]) rfl rfl rfl q3780 q3781 mdX17_615 (ctX20_all (gR σ1 x0 10) (1 : Int32)) rfl (Nat.le_of_ble_eq_true rfl) (Nat.le_of_ble_eq_true rfl) (Nat.le_of_ble_eq_true rfl) pu_I dX17_isNamed_366 (fun r4 σ3 => ?_)
  refine g_i2l dX17_isNamed_369 ?_
  refine g_lcmp_ge 378 dX17_isNamed_370 dX17_isNamed_371 (by decide) ?_ ?_
  · refine g_iconst (v := 0) dX17_isNamed_378 (by decide) ?_
    exact g_zreturn rfl (by decide +kernel) dX17_isNamed_379
  · refine g_iconst (v := 1) dX17_isNamed_374 (by decide) ?_
    refine g_goto 379 dX17_isNamed_375 (by decide) ?_
    exact g_zreturn rfl (by decide +kernel) dX17_isNamed_379
def V.Mdl_isNamed_p429  (σ : HS) (x0 : Nat) : Option (Int32 × HS) :=
  ck (tg σ x0 = 18) <|
  ck (tg σ (gR σ x0 10) = 21) <| cl (Pln_all σ (gR σ x0 10) (2 : Int32)) fun r2 σ1 =>
  if r2 ≤ 0 then (
    some ((0 : Int32), σ1))
  else (
    some ((1 : Int32), σ1))
theorem V.gX17_isNamed_p429 {X : CX}  (σ : HS) (x0 : Nat) : G X RX17 "isNamed" cX17_isNamed 9 (some .boolean) 3 71 enI 429 [(0, av x0)] [] σ (Mdl_isNamed_p429 σ x0) := by
  unfold Mdl_isNamed_p429
  refine g_aload_n 0 0 dX17_isNamed_429 rfl rfl ?_
  refine g_getR fdX17_221 dX17_isNamed_430 ?_
  refine g_iconst (v := 2) dX17_isNamed_433 (by decide) ?_
  refine g_callV (fc := fun sς => Pln_all sς (gR σ x0 10) (2 : Int32)) (ci := 20) (as := [iv (2 : Int32)]) rfl rfl rfl q3780 q3781 mdX17_615 (ctX20_all (gR σ x0 10) (2 : Int32)) rfl (Nat.le_of_ble_eq_true rfl) (Nat.le_of_ble_eq_true rfl) (Nat.le_of_ble_eq_true rfl) pu_I dX17_isNamed_434 (fun r2 σ1 => ?_)
  refine g_if_le 444 dX17_isNamed_437 (by decide) ?_ ?_
  · refine g_iconst (v := 0) dX17_isNamed_444 (by decide) ?_
    exact g_zreturn rfl (by decide +kernel) dX17_isNamed_445
  · refine g_iconst (v := 1) dX17_isNamed_440 (by decide) ?_
    refine g_goto 445 dX17_isNamed_441 (by decide) ?_
    exact g_zreturn rfl (by decide +kernel) dX17_isNamed_445
def V.Mdl_isNamed_p502  (σ : HS)  : Option (Int32 × HS) :=
  some ((1 : Int32), σ)
theorem V.gX17_isNamed_p502 {X : CX}  (σ : HS)  : G X RX17 "isNamed" cX17_isNamed 9 (some .boolean) 3 71 enI 502 [] [] σ (Mdl_isNamed_p502 σ ) := by
  unfold Mdl_isNamed_p502
  refine g_iconst (v := 1) dX17_isNamed_502 (by decide) ?_
  refine g_goto 507 dX17_isNamed_503 (by decide) ?_
  exact g_zreturn rfl (by decide +kernel) dX17_isNamed_507
def V.Mdl_isNamed_p290  (σ : HS) (x0 : Nat) (x2 : Int32) : Option (Int32 × HS) :=
  if x2 = (35 : Int32) then (
    Mdl_isNamed_p302 σ x0 x2)
  else (
    if x2 = (36 : Int32) then (
      Mdl_isNamed_p302 σ x0 x2)
    else (
      if x2 = (37 : Int32) then (
        Mdl_isNamed_p357 σ x0)
      else (
        if x2 = (38 : Int32) then (
          Mdl_isNamed_p357 σ x0)
        else (
          cl (Mdl_isAccess σ x2) fun r2 σ1 =>
          if r2 = 0 then (
            if x2 = (63 : Int32) then (
              Mdl_isNamed_p429 σ1 x0)
            else (
              if x2 = (64 : Int32) then (
                Mdl_isNamed_p429 σ1 x0)
              else (
                if x2 = (210 : Int32) then (
                  ck (tg σ1 x0 = 18) <| cl (Mdl_word σ1 x0 ) fun r6 σ5 =>
                  ck (tg σ5 x0 = 18) <|
                  ck (tg σ5 (gR σ5 x0 10) = 21) <| cl (Pln_all σ5 (gR σ5 x0 10) (0 : Int32)) fun r8 σ7 =>
                  if r8.toInt64 ≤ r6 then (
                    some ((0 : Int32), σ7))
                  else (
                    ck (tg σ7 x0 = 18) <|
                    ck (tg σ7 (gR σ7 x0 20) = 103 ∧ inb r6.toInt32 (ln σ7 (gR σ7 x0 20))) <|
                    if (gI σ7 (gR σ7 x0 20) (ix r6.toInt32)) = 0 then (
                      some ((0 : Int32), σ7))
                    else (
                      some ((1 : Int32), σ7))))
                else (
                  if x2 = (252 : Int32) then (
                    ck (tg σ1 x0 = 18) <| cl (Mdl_isNamedFurther σ1 x0 ) fun r4 σ3 =>
                    if r4 = 0 then (
                      some ((0 : Int32), σ3))
                    else (
                      Mdl_isNamed_p502 σ3))
                  else (
                    Mdl_isNamed_p502 σ1)))))
          else (
            ck (tg σ1 x0 = 18) <| cl (Mdl_word σ1 x0 ) fun r10 σ9 =>
            cl (Mdl_widthOf σ9 x2) fun r12 σ11 =>
            if r12.toInt64 < r10 then (
              some ((0 : Int32), σ11))
            else (
              ck (tg σ11 x0 = 18) <|
              ck (tg σ11 (gR σ11 x0 10) = 21) <| cl (Pln_all σ11 (gR σ11 x0 10) (2 : Int32)) fun r14 σ13 =>
              if r14 ≤ 0 then (
                some ((0 : Int32), σ13))
              else (
                some ((1 : Int32), σ13))))))))
theorem V.gX17_isNamed_p290 {X : CX}  (σ : HS) (x0 : Nat) (x2 : Int32) : G X RX17 "isNamed" cX17_isNamed 9 (some .boolean) 3 71 enI 290 [(0, av x0), (2, iv x2)] [] σ (Mdl_isNamed_p290 σ x0 x2) := by
  unfold Mdl_isNamed_p290
  refine g_iload_n 2 1 dX17_isNamed_290 rfl rfl ?_
  refine g_bipush (v := 35) dX17_isNamed_291 (by decide) ?_
  refine g_icmp_eq 302 dX17_isNamed_293 (by decide) ?_ ?_
  · exact gX17_isNamed_p302 _ _ _
  · refine g_iload_n 2 1 dX17_isNamed_296 rfl rfl ?_
    refine g_bipush (v := 36) dX17_isNamed_297 (by decide) ?_
    refine g_icmp_ne 345 dX17_isNamed_299 (by decide) ?_ ?_
    · refine g_iload_n 2 1 dX17_isNamed_345 rfl rfl ?_
      refine g_bipush (v := 37) dX17_isNamed_346 (by decide) ?_
      refine g_icmp_eq 357 dX17_isNamed_348 (by decide) ?_ ?_
      · refine G.sub [0] rfl ?_
        exact gX17_isNamed_p357 _ _
      · refine g_iload_n 2 1 dX17_isNamed_351 rfl rfl ?_
        refine g_bipush (v := 38) dX17_isNamed_352 (by decide) ?_
        refine g_icmp_ne 380 dX17_isNamed_354 (by decide) ?_ ?_
        · refine g_iload_n 2 1 dX17_isNamed_380 rfl rfl ?_
          refine g_callS (fc := fun sς => Mdl_isAccess sς x2) (as := [iv x2]) q3721 mdX17_572 (ctX17_isAccess x2) rfl (Nat.le_of_ble_eq_true rfl) (Nat.le_of_ble_eq_true rfl) (Nat.le_of_ble_eq_true rfl) pu_I dX17_isNamed_381 (fun r2 σ1 => ?_)
          refine g_if_eq 417 dX17_isNamed_384 (by decide) ?_ ?_
          · refine g_iload_n 2 1 dX17_isNamed_417 rfl rfl ?_
            refine g_bipush (v := 63) dX17_isNamed_418 (by decide) ?_
            refine g_icmp_eq 429 dX17_isNamed_420 (by decide) ?_ ?_
            · refine G.sub [0] rfl ?_
              exact gX17_isNamed_p429 _ _
            · refine g_iload_n 2 1 dX17_isNamed_423 rfl rfl ?_
              refine g_bipush (v := 64) dX17_isNamed_424 (by decide) ?_
              refine g_icmp_ne 446 dX17_isNamed_426 (by decide) ?_ ?_
              · refine g_iload_n 2 1 dX17_isNamed_446 rfl rfl ?_
                refine g_sipush (v := 210) dX17_isNamed_447 (by decide) ?_
                refine g_icmp_ne 488 dX17_isNamed_450 (by decide) ?_ ?_
                · refine g_iload_n 2 1 dX17_isNamed_488 rfl rfl ?_
                  refine g_sipush (v := 252) dX17_isNamed_489 (by decide) ?_
                  refine g_icmp_ne 502 dX17_isNamed_492 (by decide) ?_ ?_
                  · refine G.sub [] rfl ?_
                    exact gX17_isNamed_p502 _
                  · refine g_aload_n 0 0 dX17_isNamed_495 rfl rfl ?_
                    refine g_callV (fc := fun sς => Mdl_isNamedFurther sς x0 ) (ci := 17) (as := []) rfl rfl rfl q3878 qs262 mdX17_731 (ctX17_isNamedFurther x0 ) rfl (Nat.le_of_ble_eq_true rfl) (Nat.le_of_ble_eq_true rfl) (Nat.le_of_ble_eq_true rfl) pu_I dX17_isNamed_496 (fun r4 σ3 => ?_)
                    refine g_if_eq 506 dX17_isNamed_499 (by decide) ?_ ?_
                    · refine g_iconst (v := 0) dX17_isNamed_506 (by decide) ?_
                      exact g_zreturn rfl (by decide +kernel) dX17_isNamed_507
                    · refine G.sub [] rfl ?_
                      exact gX17_isNamed_p502 _
                · refine g_aload_n 0 0 dX17_isNamed_453 rfl rfl ?_
                  refine g_callV (fc := fun sς => Mdl_word sς x0 ) (ci := 17) (as := []) rfl rfl rfl q3813 qs250 mdX17_603 (ctX17_word x0 ) rfl (Nat.le_of_ble_eq_true rfl) (Nat.le_of_ble_eq_true rfl) (Nat.le_of_ble_eq_true rfl) pu_J dX17_isNamed_454 (fun r6 σ5 => ?_)
                  refine g_lstore_n 3 dX17_isNamed_457 rfl (by decide) rfl ?_
                  refine g_lload_n 3 0 dX17_isNamed_458 rfl rfl ?_
                  refine g_aload_n 0 1 dX17_isNamed_459 rfl rfl ?_
                  refine g_getR fdX17_221 dX17_isNamed_460 ?_
                  refine g_iconst (v := 0) dX17_isNamed_463 (by decide) ?_
                  refine g_callV (fc := fun sς => Pln_all sς (gR σ5 x0 10) (0 : Int32)) (ci := 20) (as := [iv (0 : Int32)]) rfl rfl rfl q3780 q3781 mdX17_615 (ctX20_all (gR σ5 x0 10) (0 : Int32)) rfl (Nat.le_of_ble_eq_true rfl) (Nat.le_of_ble_eq_true rfl) (Nat.le_of_ble_eq_true rfl) pu_I dX17_isNamed_464 (fun r8 σ7 => ?_)
                  refine g_i2l dX17_isNamed_467 ?_
                  refine g_lcmp_ge 486 dX17_isNamed_468 dX17_isNamed_469 (by decide) ?_ ?_
                  · refine g_iconst (v := 0) dX17_isNamed_486 (by decide) ?_
                    exact g_zreturn rfl (by decide +kernel) dX17_isNamed_487
                  · refine g_aload_n 0 1 dX17_isNamed_472 rfl rfl ?_
                    refine g_getR fdX17_35 dX17_isNamed_473 ?_
                    refine g_lload_n 3 0 dX17_isNamed_476 rfl rfl ?_
                    refine g_l2i dX17_isNamed_477 ?_
                    refine g_zaload dX17_isNamed_478 ?_
                    refine g_if_eq 486 dX17_isNamed_479 (by decide) ?_ ?_
                    · refine g_iconst (v := 0) dX17_isNamed_486 (by decide) ?_
                      exact g_zreturn rfl (by decide +kernel) dX17_isNamed_487
                    · refine g_iconst (v := 1) dX17_isNamed_482 (by decide) ?_
                      refine g_goto 487 dX17_isNamed_483 (by decide) ?_
                      exact g_zreturn rfl (by decide +kernel) dX17_isNamed_487
              · refine G.sub [0] rfl ?_
                exact gX17_isNamed_p429 _ _
          · refine g_aload_n 0 0 dX17_isNamed_387 rfl rfl ?_
            refine g_callV (fc := fun sς => Mdl_word sς x0 ) (ci := 17) (as := []) rfl rfl rfl q3813 qs250 mdX17_603 (ctX17_word x0 ) rfl (Nat.le_of_ble_eq_true rfl) (Nat.le_of_ble_eq_true rfl) (Nat.le_of_ble_eq_true rfl) pu_J dX17_isNamed_388 (fun r10 σ9 => ?_)
            refine g_iload_n 2 1 dX17_isNamed_391 rfl rfl ?_
            refine g_callS (fc := fun sς => Mdl_widthOf sς x2) (as := [iv x2]) q3874 mdX17_728 (ctX17_widthOf x2) rfl (Nat.le_of_ble_eq_true rfl) (Nat.le_of_ble_eq_true rfl) (Nat.le_of_ble_eq_true rfl) pu_I dX17_isNamed_392 (fun r12 σ11 => ?_)
            refine g_i2l dX17_isNamed_395 ?_
            refine g_lcmp_gt 415 dX17_isNamed_396 dX17_isNamed_397 (by decide) ?_ ?_
            · refine g_iconst (v := 0) dX17_isNamed_415 (by decide) ?_
              exact g_zreturn rfl (by decide +kernel) dX17_isNamed_416
            · refine g_aload_n 0 0 dX17_isNamed_400 rfl rfl ?_
              refine g_getR fdX17_221 dX17_isNamed_401 ?_
              refine g_iconst (v := 2) dX17_isNamed_404 (by decide) ?_
              refine g_callV (fc := fun sς => Pln_all sς (gR σ11 x0 10) (2 : Int32)) (ci := 20) (as := [iv (2 : Int32)]) rfl rfl rfl q3780 q3781 mdX17_615 (ctX20_all (gR σ11 x0 10) (2 : Int32)) rfl (Nat.le_of_ble_eq_true rfl) (Nat.le_of_ble_eq_true rfl) (Nat.le_of_ble_eq_true rfl) pu_I dX17_isNamed_405 (fun r14 σ13 => ?_)
              refine g_if_le 415 dX17_isNamed_408 (by decide) ?_ ?_
              · refine g_iconst (v := 0) dX17_isNamed_415 (by decide) ?_
                exact g_zreturn rfl (by decide +kernel) dX17_isNamed_416
              · refine g_iconst (v := 1) dX17_isNamed_411 (by decide) ?_
                refine g_goto 416 dX17_isNamed_412 (by decide) ?_
                exact g_zreturn rfl (by decide +kernel) dX17_isNamed_416
        · refine G.sub [0] rfl ?_
          exact gX17_isNamed_p357 _ _
    · exact gX17_isNamed_p302 _ _ _
def V.Mdl_isNamed_p129 (rec87 : HS → Nat → Int64 → Int32 → Int64 → Option (Int32 × HS)) (σ : HS) (x0 : Nat) (x3 : Int64) (x6 : Int64) (s0 : Int32) : Option (Int32 × HS) :=
  bn (x6 + (1 : Int64)) fun y1 =>
  rec87 σ x0 x3 s0 y1
theorem V.gX17_isNamed_p129 {X : CX} (rec87 : HS → Nat → Int64 → Int32 → Int64 → Option (Int32 × HS)) (hrec87 : ∀ (σ : HS) (x0 : Nat) (x3 : Int64) (x5 : Int32) (x6 : Int64), G X RX17 "isNamed" cX17_isNamed 9 (some .boolean) 3 71 enI 87 [(0, av x0), (3, jv x3), (5, iv x5), (6, jv x6)] [] σ (rec87 σ x0 x3 x5 x6)) (σ : HS) (x0 : Nat) (x3 : Int64) (x6 : Int64) (s0 : Int32) : G X RX17 "isNamed" cX17_isNamed 9 (some .boolean) 3 71 enI 129 [(0, av x0), (3, jv x3), (6, jv x6)] [iv s0] σ (Mdl_isNamed_p129 rec87 σ x0 x3 x6 s0) := by
  unfold Mdl_isNamed_p129
  refine g_istore dX17_isNamed_129 (by decide) rfl ?_
  refine g_lload 3 dX17_isNamed_131 rfl ?_
  refine g_lconst (v := 1) dX17_isNamed_133 (by decide) ?_
  refine g_ladd dX17_isNamed_134 ?_
  refine g_nmJ (fun y1 => ?_)
  refine g_lstore dX17_isNamed_135 (by decide) rfl ?_
  refine g_goto 87 dX17_isNamed_137 (by decide) ?_
  refine G.sub [2, 3, 1, 0] rfl ?_
  exact hrec87 _ _ _ _ _
def V.Mdl_isNamed_p128 (rec87 : HS → Nat → Int64 → Int32 → Int64 → Option (Int32 × HS)) (σ : HS) (x0 : Nat) (x3 : Int64) (x6 : Int64) : Option (Int32 × HS) :=
  Mdl_isNamed_p129 rec87 σ x0 x3 x6 (0 : Int32)
theorem V.gX17_isNamed_p128 {X : CX} (rec87 : HS → Nat → Int64 → Int32 → Int64 → Option (Int32 × HS)) (hrec87 : ∀ (σ : HS) (x0 : Nat) (x3 : Int64) (x5 : Int32) (x6 : Int64), G X RX17 "isNamed" cX17_isNamed 9 (some .boolean) 3 71 enI 87 [(0, av x0), (3, jv x3), (5, iv x5), (6, jv x6)] [] σ (rec87 σ x0 x3 x5 x6)) (σ : HS) (x0 : Nat) (x3 : Int64) (x6 : Int64) : G X RX17 "isNamed" cX17_isNamed 9 (some .boolean) 3 71 enI 128 [(0, av x0), (3, jv x3), (6, jv x6)] [] σ (Mdl_isNamed_p128 rec87 σ x0 x3 x6) := by
  unfold Mdl_isNamed_p128
  refine g_iconst (v := 0) dX17_isNamed_128 (by decide) ?_
  exact gX17_isNamed_p129 rec87 hrec87 _ _ _ _ _
def V.Mdl_isNamed_p112 (rec87 : HS → Nat → Int64 → Int32 → Int64 → Option (Int32 × HS)) (σ : HS) (x0 : Nat) (x3 : Int64) (x5 : Int32) (x6 : Int64) (s0 : Int32) : Option (Int32 × HS) :=
  if x5 = 0 then (
    Mdl_isNamed_p128 rec87 σ x0 x3 x6)
  else (
    if s0 = 0 then (
      Mdl_isNamed_p128 rec87 σ x0 x3 x6)
    else (
      Mdl_isNamed_p129 rec87 σ x0 x3 x6 (1 : Int32)))
theorem V.gX17_isNamed_p112 {X : CX} (rec87 : HS → Nat → Int64 → Int32 → Int64 → Option (Int32 × HS)) (hrec87 : ∀ (σ : HS) (x0 : Nat) (x3 : Int64) (x5 : Int32) (x6 : Int64), G X RX17 "isNamed" cX17_isNamed 9 (some .boolean) 3 71 enI 87 [(0, av x0), (3, jv x3), (5, iv x5), (6, jv x6)] [] σ (rec87 σ x0 x3 x5 x6)) (σ : HS) (x0 : Nat) (x3 : Int64) (x5 : Int32) (x6 : Int64) (s0 : Int32) : G X RX17 "isNamed" cX17_isNamed 9 (some .boolean) 3 71 enI 112 [(0, av x0), (3, jv x3), (5, iv x5), (6, jv x6)] [iv s0] σ (Mdl_isNamed_p112 rec87 σ x0 x3 x5 x6 s0) := by
  unfold Mdl_isNamed_p112
  refine g_istore dX17_isNamed_112 (by decide) rfl ?_
  refine g_iload 3 dX17_isNamed_114 rfl ?_
  refine g_if_eq 128 dX17_isNamed_116 (by decide) ?_ ?_
  · refine G.sub [1, 2, 4] rfl ?_
    exact gX17_isNamed_p128 rec87 hrec87 _ _ _ _
  · refine g_iload 0 dX17_isNamed_119 rfl ?_
    refine g_if_eq 128 dX17_isNamed_121 (by decide) ?_ ?_
    · refine G.sub [1, 2, 4] rfl ?_
      exact gX17_isNamed_p128 rec87 hrec87 _ _ _ _
    · refine g_iconst (v := 1) dX17_isNamed_124 (by decide) ?_
      refine g_goto 129 dX17_isNamed_125 (by decide) ?_
      refine G.sub [1, 2, 4] rfl ?_
      exact gX17_isNamed_p129 rec87 hrec87 _ _ _ _ _
def V.Mdl_isNamed_p87  : Nat → HS → Nat → Int64 → Int32 → Int64 → Option (Int32 × HS)
  | 0, _, _, _, _, _ => none
  | n + 1, σ, x0, x3, x5, x6 =>
    if x3 < x6 then (
      ck (zb x5) (some (x5, σ)))
    else (
      ck (tg σ x0 = 18) <| cl (Mdl_word σ x0 ) fun r2 σ1 =>
      ck (tg σ1 x0 = 18) <|
      if ((gI σ1 x0 24).toInt64) ≤ r2 then (
        Mdl_isNamed_p112 (Mdl_isNamed_p87 n) σ1 x0 x3 x5 x6 (0 : Int32))
      else (
        Mdl_isNamed_p112 (Mdl_isNamed_p87 n) σ1 x0 x3 x5 x6 (1 : Int32)))
theorem V.gX17_isNamed_p87 {X : CX}  : ∀ (n : Nat) (σ : HS) (x0 : Nat) (x3 : Int64) (x5 : Int32) (x6 : Int64), G X RX17 "isNamed" cX17_isNamed 9 (some .boolean) 3 71 enI 87 [(0, av x0), (3, jv x3), (5, iv x5), (6, jv x6)] [] σ (Mdl_isNamed_p87 n σ x0 x3 x5 x6)
  | 0, σ, x0, x3, x5, x6 => by rw [Mdl_isNamed_p87]; exact G.nul
  | n + 1, σ, x0, x3, x5, x6 => by
    rw [Mdl_isNamed_p87]
    refine g_lload 3 dX17_isNamed_87 rfl ?_
    refine g_lload_n 3 1 dX17_isNamed_89 rfl rfl ?_
    refine g_lcmp_gt 140 dX17_isNamed_90 dX17_isNamed_91 (by decide) ?_ ?_
    · refine g_iload 2 dX17_isNamed_140 rfl ?_
      exact g_zreturnc rfl dX17_isNamed_142
    · refine g_aload_n 0 0 dX17_isNamed_94 rfl rfl ?_
      refine g_callV (fc := fun sς => Mdl_word sς x0 ) (ci := 17) (as := []) rfl rfl rfl q3813 qs250 mdX17_603 (ctX17_word x0 ) rfl (Nat.le_of_ble_eq_true rfl) (Nat.le_of_ble_eq_true rfl) (Nat.le_of_ble_eq_true rfl) pu_J dX17_isNamed_95 (fun r2 σ1 => ?_)
      refine g_aload_n 0 0 dX17_isNamed_98 rfl rfl ?_
      refine g_getI fdX17_682 dX17_isNamed_99 ?_
      refine g_i2l dX17_isNamed_102 ?_
      refine g_lcmp_ge 111 dX17_isNamed_103 dX17_isNamed_104 (by decide) ?_ ?_
      · refine g_iconst (v := 0) dX17_isNamed_111 (by decide) ?_
        exact gX17_isNamed_p112 (Mdl_isNamed_p87 n) (gX17_isNamed_p87 n) _ _ _ _ _ _
      · refine g_iconst (v := 1) dX17_isNamed_107 (by decide) ?_
        refine g_goto 112 dX17_isNamed_108 (by decide) ?_
        exact gX17_isNamed_p112 (Mdl_isNamed_p87 n) (gX17_isNamed_p87 n) _ _ _ _ _ _
def V.Mdl_isNamed_p39  (σ : HS) (x0 : Nat) (x2 : Int32) : Option (Int32 × HS) :=
  if x2 = (12 : Int32) then (
    Mdl_isNamed_p51 σ x0)
  else (
    if x2 = (13 : Int32) then (
      Mdl_isNamed_p51 σ x0)
    else (
      if x2 = (14 : Int32) then (
        ck (tg σ x0 = 18) <| cl (Mdl_word σ x0 ) fun r16 σ15 =>
        Mdl_isNamed_p87 FU σ15 x0 r16 (1 : Int32) (0 : Int64))
      else (
        if x2 = (16 : Int32) then (
          ck (tg σ x0 = 18) <| cl (Mdl_word σ x0 ) fun r12 σ11 =>
          ck (tg σ11 x0 = 18) <|
          ck (tg σ11 (gR σ11 x0 10) = 21) <| cl (Pln_all σ11 (gR σ11 x0 10) (0 : Int32)) fun r14 σ13 =>
          if r14.toInt64 ≤ r12 then (
            some ((0 : Int32), σ13))
          else (
            some ((1 : Int32), σ13)))
        else (
          if x2 = (17 : Int32) then (
            ck (tg σ x0 = 18) <| cl (Mdl_word σ x0 ) fun r4 σ3 =>
            ck (tg σ3 x0 = 18) <| cl (Mdl_word σ3 x0 ) fun r6 σ5 =>
            ck (tg σ5 x0 = 18) <|
            ck (tg σ5 (gR σ5 x0 10) = 21) <|
            if ((gI σ5 (gR σ5 x0 10) 4).toInt64) ≤ r4 then (
              some ((0 : Int32), σ5))
            else (
              ck (tg σ5 x0 = 18) <|
              ck (tg σ5 (gR σ5 x0 10) = 21) <| cl (Pln_all σ5 (gR σ5 x0 10) (1 : Int32)) fun r8 σ7 =>
              if r8.toInt64 ≤ r6 then (
                some ((0 : Int32), σ7))
              else (
                ck (tg σ7 x0 = 18) <|
                ck (tg σ7 (gR σ7 x0 10) = 21) <| cl (Pln_typeOfTable σ7 (gR σ7 x0 10) r6.toInt32) fun r10 σ9 =>
                if r10 = (112 : Int32) then (
                  some ((1 : Int32), σ9))
                else (
                  some ((0 : Int32), σ9)))))
          else (
            if x2 < (32 : Int32) then (
              Mdl_isNamed_p290 σ x0 x2)
            else (
              if (34 : Int32) < x2 then (
                Mdl_isNamed_p290 σ x0 x2)
              else (
                ck (tg σ x0 = 18) <| cl (Mdl_word σ x0 ) fun r2 σ1 =>
                ck (tg σ1 x0 = 18) <|
                ck (tg σ1 (gR σ1 x0 10) = 21) <|
                ck (tg σ1 x0 = 18) <|
                ck (tg σ1 (gR σ1 (gR σ1 x0 10) 5) = 100 ∧ inb (gI σ1 x0 30) (ln σ1 (gR σ1 (gR σ1 x0 10) 5))) <|
                ck (tg σ1 x0 = 18) <|
                ck (tg σ1 (gR σ1 x0 10) = 21) <|
                ck (tg σ1 x0 = 18) <|
                ck (tg σ1 (gR σ1 (gR σ1 x0 10) 52) = 101 ∧ inb (gI σ1 x0 29) (ln σ1 (gR σ1 (gR σ1 x0 10) 52))) <|
                if (((gI σ1 (gR σ1 (gR σ1 x0 10) 5) (ix (gI σ1 x0 30))).toInt64) + (gJ σ1 (gR σ1 (gR σ1 x0 10) 52) (ix (gI σ1 x0 29)))) ≤ r2 then (
                  some ((0 : Int32), σ1))
                else (
                  some ((1 : Int32), σ1)))))))))
theorem V.gX17_isNamed_p39 {X : CX}  (σ : HS) (x0 : Nat) (x2 : Int32) : G X RX17 "isNamed" cX17_isNamed 9 (some .boolean) 3 71 enI 39 [(0, av x0), (2, iv x2)] [] σ (Mdl_isNamed_p39 σ x0 x2) := by
  unfold Mdl_isNamed_p39
  refine g_iload_n 2 1 dX17_isNamed_39 rfl rfl ?_
  refine g_bipush (v := 12) dX17_isNamed_40 (by decide) ?_
  refine g_icmp_eq 51 dX17_isNamed_42 (by decide) ?_ ?_
  · refine G.sub [0] rfl ?_
    exact gX17_isNamed_p51 _ _
  · refine g_iload_n 2 1 dX17_isNamed_45 rfl rfl ?_
    refine g_bipush (v := 13) dX17_isNamed_46 (by decide) ?_
    refine g_icmp_ne 70 dX17_isNamed_48 (by decide) ?_ ?_
    · refine g_iload_n 2 1 dX17_isNamed_70 rfl rfl ?_
      refine g_bipush (v := 14) dX17_isNamed_71 (by decide) ?_
      refine g_icmp_ne 143 dX17_isNamed_73 (by decide) ?_ ?_
      · refine g_iload_n 2 1 dX17_isNamed_143 rfl rfl ?_
        refine g_bipush (v := 16) dX17_isNamed_144 (by decide) ?_
        refine g_icmp_ne 172 dX17_isNamed_146 (by decide) ?_ ?_
        · refine g_iload_n 2 1 dX17_isNamed_172 rfl rfl ?_
          refine g_bipush (v := 17) dX17_isNamed_173 (by decide) ?_
          refine g_icmp_ne 238 dX17_isNamed_175 (by decide) ?_ ?_
          · refine g_iload_n 2 1 dX17_isNamed_238 rfl rfl ?_
            refine g_bipush (v := 32) dX17_isNamed_239 (by decide) ?_
            refine g_icmp_lt 290 dX17_isNamed_241 (by decide) ?_ ?_
            · exact gX17_isNamed_p290 _ _ _
            · refine g_iload_n 2 1 dX17_isNamed_244 rfl rfl ?_
              refine g_bipush (v := 34) dX17_isNamed_245 (by decide) ?_
              refine g_icmp_gt 290 dX17_isNamed_247 (by decide) ?_ ?_
              · exact gX17_isNamed_p290 _ _ _
              · refine g_aload_n 0 0 dX17_isNamed_250 rfl rfl ?_
                refine g_callV (fc := fun sς => Mdl_word sς x0 ) (ci := 17) (as := []) rfl rfl rfl q3813 qs250 mdX17_603 (ctX17_word x0 ) rfl (Nat.le_of_ble_eq_true rfl) (Nat.le_of_ble_eq_true rfl) (Nat.le_of_ble_eq_true rfl) pu_J dX17_isNamed_251 (fun r2 σ1 => ?_)
                refine g_aload_n 0 0 dX17_isNamed_254 rfl rfl ?_
                refine g_getR fdX17_221 dX17_isNamed_255 ?_
                refine g_getR fdX17_387 dX17_isNamed_258 ?_
                refine g_aload_n 0 0 dX17_isNamed_261 rfl rfl ?_
                refine g_getI fdX17_713 dX17_isNamed_262 ?_
                refine g_iaload dX17_isNamed_265 ?_
                refine g_i2l dX17_isNamed_266 ?_
                refine g_aload_n 0 0 dX17_isNamed_267 rfl rfl ?_
                refine g_getR fdX17_221 dX17_isNamed_268 ?_
                refine g_getR fdX17_520 dX17_isNamed_271 ?_
                refine g_aload_n 0 0 dX17_isNamed_274 rfl rfl ?_
                refine g_getI fdX17_710 dX17_isNamed_275 ?_
                refine g_laload dX17_isNamed_278 ?_
                refine g_ladd dX17_isNamed_279 ?_
                refine g_lcmp_ge 288 dX17_isNamed_280 dX17_isNamed_281 (by decide) ?_ ?_
                · refine g_iconst (v := 0) dX17_isNamed_288 (by decide) ?_
                  exact g_zreturn rfl (by decide +kernel) dX17_isNamed_289
                · refine g_iconst (v := 1) dX17_isNamed_284 (by decide) ?_
                  refine g_goto 289 dX17_isNamed_285 (by decide) ?_
                  exact g_zreturn rfl (by decide +kernel) dX17_isNamed_289
          · refine g_aload_n 0 0 dX17_isNamed_178 rfl rfl ?_
            refine g_callV (fc := fun sς => Mdl_word sς x0 ) (ci := 17) (as := []) rfl rfl rfl q3813 qs250 mdX17_603 (ctX17_word x0 ) rfl (Nat.le_of_ble_eq_true rfl) (Nat.le_of_ble_eq_true rfl) (Nat.le_of_ble_eq_true rfl) pu_J dX17_isNamed_179 (fun r4 σ3 => ?_)
            refine g_lstore_n 3 dX17_isNamed_182 rfl (by decide) rfl ?_
            refine g_aload_n 0 1 dX17_isNamed_183 rfl rfl ?_
            refine g_callV (fc := fun sς => Mdl_word sς x0 ) (ci := 17) (as := []) rfl rfl rfl q3813 qs250 mdX17_603 (ctX17_word x0 ) rfl (Nat.le_of_ble_eq_true rfl) (Nat.le_of_ble_eq_true rfl) (Nat.le_of_ble_eq_true rfl) pu_J dX17_isNamed_184 (fun r6 σ5 => ?_)
            refine g_lstore dX17_isNamed_187 (by decide) rfl ?_
            refine g_lload_n 3 1 dX17_isNamed_189 rfl rfl ?_
            refine g_aload_n 0 2 dX17_isNamed_190 rfl rfl ?_
            refine g_getR fdX17_221 dX17_isNamed_191 ?_
            refine g_getI fdX17_381 dX17_isNamed_194 ?_
            refine g_i2l dX17_isNamed_197 ?_
            refine g_lcmp_ge 236 dX17_isNamed_198 dX17_isNamed_199 (by decide) ?_ ?_
            · refine g_iconst (v := 0) dX17_isNamed_236 (by decide) ?_
              exact g_zreturn rfl (by decide +kernel) dX17_isNamed_237
            · refine g_lload 0 dX17_isNamed_202 rfl ?_
              refine g_aload_n 0 2 dX17_isNamed_204 rfl rfl ?_
              refine g_getR fdX17_221 dX17_isNamed_205 ?_
              refine g_iconst (v := 1) dX17_isNamed_208 (by decide) ?_
              refine g_callV (fc := fun sς => Pln_all sς (gR σ5 x0 10) (1 : Int32)) (ci := 20) (as := [iv (1 : Int32)]) rfl rfl rfl q3780 q3781 mdX17_615 (ctX20_all (gR σ5 x0 10) (1 : Int32)) rfl (Nat.le_of_ble_eq_true rfl) (Nat.le_of_ble_eq_true rfl) (Nat.le_of_ble_eq_true rfl) pu_I dX17_isNamed_209 (fun r8 σ7 => ?_)
              refine g_i2l dX17_isNamed_212 ?_
              refine g_lcmp_ge 236 dX17_isNamed_213 dX17_isNamed_214 (by decide) ?_ ?_
              · refine g_iconst (v := 0) dX17_isNamed_236 (by decide) ?_
                exact g_zreturn rfl (by decide +kernel) dX17_isNamed_237
              · refine g_aload_n 0 2 dX17_isNamed_217 rfl rfl ?_
                refine g_getR fdX17_221 dX17_isNamed_218 ?_
                refine g_lload 0 dX17_isNamed_221 rfl ?_
                refine g_l2i dX17_isNamed_223 ?_
                refine g_callV (fc := fun sς => Pln_typeOfTable sς (gR σ7 x0 10) r6.toInt32) (ci := 20) (as := [iv r6.toInt32]) rfl rfl rfl q3858 q3859 mdX17_661 (ctX20_typeOfTable (gR σ7 x0 10) r6.toInt32) rfl (Nat.le_of_ble_eq_true rfl) (Nat.le_of_ble_eq_true rfl) (Nat.le_of_ble_eq_true rfl) pu_I dX17_isNamed_224 (fun r10 σ9 => ?_)
                refine g_bipush (v := 112) dX17_isNamed_227 (by decide) ?_
                refine g_icmp_ne 236 dX17_isNamed_229 (by decide) ?_ ?_
                · refine g_iconst (v := 0) dX17_isNamed_236 (by decide) ?_
                  exact g_zreturn rfl (by decide +kernel) dX17_isNamed_237
                · refine g_iconst (v := 1) dX17_isNamed_232 (by decide) ?_
                  refine g_goto 237 dX17_isNamed_233 (by decide) ?_
                  exact g_zreturn rfl (by decide +kernel) dX17_isNamed_237
        · refine g_aload_n 0 0 dX17_isNamed_149 rfl rfl ?_
          refine g_callV (fc := fun sς => Mdl_word sς x0 ) (ci := 17) (as := []) rfl rfl rfl q3813 qs250 mdX17_603 (ctX17_word x0 ) rfl (Nat.le_of_ble_eq_true rfl) (Nat.le_of_ble_eq_true rfl) (Nat.le_of_ble_eq_true rfl) pu_J dX17_isNamed_150 (fun r12 σ11 => ?_)
          refine g_aload_n 0 0 dX17_isNamed_153 rfl rfl ?_
          refine g_getR fdX17_221 dX17_isNamed_154 ?_
          refine g_iconst (v := 0) dX17_isNamed_157 (by decide) ?_
          refine g_callV (fc := fun sς => Pln_all sς (gR σ11 x0 10) (0 : Int32)) (ci := 20) (as := [iv (0 : Int32)]) rfl rfl rfl q3780 q3781 mdX17_615 (ctX20_all (gR σ11 x0 10) (0 : Int32)) rfl (Nat.le_of_ble_eq_true rfl) (Nat.le_of_ble_eq_true rfl) (Nat.le_of_ble_eq_true rfl) pu_I dX17_isNamed_158 (fun r14 σ13 => ?_)
          refine g_i2l dX17_isNamed_161 ?_
          refine g_lcmp_ge 170 dX17_isNamed_162 dX17_isNamed_163 (by decide) ?_ ?_
          · refine g_iconst (v := 0) dX17_isNamed_170 (by decide) ?_
            exact g_zreturn rfl (by decide +kernel) dX17_isNamed_171
          · refine g_iconst (v := 1) dX17_isNamed_166 (by decide) ?_
            refine g_goto 171 dX17_isNamed_167 (by decide) ?_
            exact g_zreturn rfl (by decide +kernel) dX17_isNamed_171
      · refine g_aload_n 0 0 dX17_isNamed_76 rfl rfl ?_
        refine g_callV (fc := fun sς => Mdl_word sς x0 ) (ci := 17) (as := []) rfl rfl rfl q3813 qs250 mdX17_603 (ctX17_word x0 ) rfl (Nat.le_of_ble_eq_true rfl) (Nat.le_of_ble_eq_true rfl) (Nat.le_of_ble_eq_true rfl) pu_J dX17_isNamed_77 (fun r16 σ15 => ?_)
        refine g_lstore_n 3 dX17_isNamed_80 rfl (by decide) rfl ?_
        refine g_iconst (v := 1) dX17_isNamed_81 (by decide) ?_
        refine g_istore dX17_isNamed_82 (by decide) rfl ?_
        refine g_lconst (v := 0) dX17_isNamed_84 (by decide) ?_
        refine g_lstore dX17_isNamed_85 (by decide) rfl ?_
        refine G.sub [3, 2, 1, 0] rfl ?_
        exact gX17_isNamed_p87 FU _ _ _ _ _
    · refine G.sub [0] rfl ?_
      exact gX17_isNamed_p51 _ _
def V.Mdl_isNamed (σ : HS) (x0 : Nat) (x1 : Int32) (x2 : Int32) : Option (Int32 × HS) :=
  ck (tg σ x0 = 18) <| bn (sI σ x0 19 (x1 + (1 : Int32))) fun σ1 =>
  if x2 < (2 : Int32) then (
    Mdl_isNamed_p39 σ1 x0 x2)
  else (
    if (4 : Int32) < x2 then (
      Mdl_isNamed_p39 σ1 x0 x2)
    else (
      ck (tg σ1 x0 = 18) <| cl (Mdl_blockWord σ1 x0 ) fun r3 σ2 =>
      ck (tg σ2 x0 = 18) <|
      ck (tg σ2 (gR σ2 x0 10) = 21) <|
      if ((gI σ2 (gR σ2 x0 10) 4).toInt64) ≤ r3 then (
        some ((0 : Int32), σ2))
      else (
        some ((1 : Int32), σ2))))
theorem V.ctX17_isNamed (x0 : Nat) (x1 : Int32) (x2 : Int32) : Ct yX17_isNamed  cX17_isNamed 9 (some .boolean) 3 71 eI [av x0, iv x1, iv x2] (fun σ => Mdl_isNamed σ x0 x1 x2) := by
  refine Ct.of (own := RX17) (nm := "isNamed") (desc := "(II)Z") rfl (by decide) (Nat.le_of_ble_eq_true rfl) (by decide) (fun X σ => ?_)
  show G X RX17 "isNamed" cX17_isNamed 9 (some .boolean) 3 71 enI 0 [(0, av x0), (1, iv x1), (2, iv x2)] [] σ (Mdl_isNamed σ x0 x1 x2)
  unfold Mdl_isNamed
  refine g_aload_n 0 0 dX17_isNamed_0 rfl rfl ?_
  refine g_iload_n 1 1 dX17_isNamed_1 rfl rfl ?_
  refine g_iconst (v := 1) dX17_isNamed_2 (by decide) ?_
  refine g_iadd dX17_isNamed_3 ?_
  refine g_putI fpX17_594 dX17_isNamed_4 (fun σ1 => ?_)
  refine g_iload_n 2 2 dX17_isNamed_7 rfl rfl ?_
  refine g_iconst (v := 2) dX17_isNamed_8 (by decide) ?_
  refine g_icmp_lt 39 dX17_isNamed_9 (by decide) ?_ ?_
  · refine G.sub [0, 2] rfl ?_
    exact gX17_isNamed_p39 _ _ _
  · refine g_iload_n 2 2 dX17_isNamed_12 rfl rfl ?_
    refine g_iconst (v := 4) dX17_isNamed_13 (by decide) ?_
    refine g_icmp_gt 39 dX17_isNamed_14 (by decide) ?_ ?_
    · refine G.sub [0, 2] rfl ?_
      exact gX17_isNamed_p39 _ _ _
    · refine g_aload_n 0 0 dX17_isNamed_17 rfl rfl ?_
      refine g_callV (fc := fun sς => Mdl_blockWord sς x0 ) (ci := 17) (as := []) rfl rfl rfl q3826 qs253 mdX17_600 (ctX17_blockWord x0 ) rfl (Nat.le_of_ble_eq_true rfl) (Nat.le_of_ble_eq_true rfl) (Nat.le_of_ble_eq_true rfl) pu_J dX17_isNamed_18 (fun r3 σ2 => ?_)
      refine g_aload_n 0 0 dX17_isNamed_21 rfl rfl ?_
      refine g_getR fdX17_221 dX17_isNamed_22 ?_
      refine g_getI fdX17_381 dX17_isNamed_25 ?_
      refine g_i2l dX17_isNamed_28 ?_
      refine g_lcmp_ge 37 dX17_isNamed_29 dX17_isNamed_30 (by decide) ?_ ?_
      · refine g_iconst (v := 0) dX17_isNamed_37 (by decide) ?_
        exact g_zreturn rfl (by decide +kernel) dX17_isNamed_38
      · refine g_iconst (v := 1) dX17_isNamed_33 (by decide) ?_
        refine g_goto 38 dX17_isNamed_34 (by decide) ?_
        exact g_zreturn rfl (by decide +kernel) dX17_isNamed_38
theorem V.dX17_operandOf_0 : decode cX17_operandOf 0 = .ok (.iload_n 0, 1) := by decide +kernel
theorem V.dX17_operandOf_1 : decode cX17_operandOf 1 = .ok (.bipush 103, 2) := by decide +kernel
theorem V.dX17_operandOf_3 : decode cX17_operandOf 3 = .ok (.if_icmp .ge 41, 3) := by decide +kernel
theorem V.dX17_operandOf_6 : decode cX17_operandOf 6 = .ok (.iload_n 0, 1) := by decide +kernel
theorem V.dX17_operandOf_7 : decode cX17_operandOf 7 = .ok (.bipush 69, 2) := by decide +kernel
theorem V.dX17_operandOf_9 : decode cX17_operandOf 9 = .ok (.if_icmp .eq 9, 3) := by decide +kernel
theorem V.dX17_operandOf_12 : decode cX17_operandOf 12 = .ok (.iload_n 0, 1) := by decide +kernel
theorem V.dX17_operandOf_13 : decode cX17_operandOf 13 = .ok (.bipush 80, 2) := by decide +kernel
theorem V.dX17_operandOf_15 : decode cX17_operandOf 15 = .ok (.if_icmp .ge 7, 3) := by decide +kernel
theorem V.dX17_operandOf_18 : decode cX17_operandOf 18 = .ok (.iconst 0, 1) := by decide +kernel
theorem V.dX17_operandOf_19 : decode cX17_operandOf 19 = .ok (.goto 24, 3) := by decide +kernel
theorem V.dX17_operandOf_22 : decode cX17_operandOf 22 = .ok (.iload_n 0, 1) := by decide +kernel
theorem V.dX17_operandOf_23 : decode cX17_operandOf 23 = .ok (.bipush 91, 2) := by decide +kernel
theorem V.dX17_operandOf_25 : decode cX17_operandOf 25 = .ok (.if_icmp .ge 7, 3) := by decide +kernel
theorem V.dX17_operandOf_28 : decode cX17_operandOf 28 = .ok (.iconst 1, 1) := by decide +kernel
theorem V.dX17_operandOf_29 : decode cX17_operandOf 29 = .ok (.goto 14, 3) := by decide +kernel
theorem V.dX17_operandOf_32 : decode cX17_operandOf 32 = .ok (.iload_n 0, 1) := by decide +kernel
theorem V.dX17_operandOf_33 : decode cX17_operandOf 33 = .ok (.bipush 97, 2) := by decide +kernel
theorem V.dX17_operandOf_35 : decode cX17_operandOf 35 = .ok (.if_icmp .ge 7, 3) := by decide +kernel
theorem V.dX17_operandOf_38 : decode cX17_operandOf 38 = .ok (.iconst 2, 1) := by decide +kernel
theorem V.dX17_operandOf_39 : decode cX17_operandOf 39 = .ok (.goto 4, 3) := by decide +kernel
theorem V.dX17_operandOf_42 : decode cX17_operandOf 42 = .ok (.iconst 3, 1) := by decide +kernel
theorem V.dX17_operandOf_43 : decode cX17_operandOf 43 = .ok (.ireturn, 1) := by decide +kernel
theorem V.dX17_operandOf_44 : decode cX17_operandOf 44 = .ok (.iload_n 0, 1) := by decide +kernel
theorem V.dX17_operandOf_45 : decode cX17_operandOf 45 = .ok (.sipush 167, 3) := by decide +kernel
theorem V.dX17_operandOf_48 : decode cX17_operandOf 48 = .ok (.if_icmp .ge 37, 3) := by decide +kernel
theorem V.dX17_operandOf_51 : decode cX17_operandOf 51 = .ok (.iload_n 0, 1) := by decide +kernel
theorem V.dX17_operandOf_52 : decode cX17_operandOf 52 = .ok (.bipush 121, 2) := by decide +kernel
theorem V.dX17_operandOf_54 : decode cX17_operandOf 54 = .ok (.if_icmp .ge 7, 3) := by decide +kernel
theorem V.dX17_operandOf_57 : decode cX17_operandOf 57 = .ok (.iconst 0, 1) := by decide +kernel
theorem V.dX17_operandOf_58 : decode cX17_operandOf 58 = .ok (.goto 26, 3) := by decide +kernel
theorem V.dX17_operandOf_61 : decode cX17_operandOf 61 = .ok (.iload_n 0, 1) := by decide +kernel
theorem V.dX17_operandOf_62 : decode cX17_operandOf 62 = .ok (.sipush 139, 3) := by decide +kernel
theorem V.dX17_operandOf_65 : decode cX17_operandOf 65 = .ok (.if_icmp .ge 7, 3) := by decide +kernel
theorem V.dX17_operandOf_68 : decode cX17_operandOf 68 = .ok (.iconst 1, 1) := by decide +kernel
theorem V.dX17_operandOf_69 : decode cX17_operandOf 69 = .ok (.goto 15, 3) := by decide +kernel
theorem V.dX17_operandOf_72 : decode cX17_operandOf 72 = .ok (.iload_n 0, 1) := by decide +kernel
theorem V.dX17_operandOf_73 : decode cX17_operandOf 73 = .ok (.sipush 153, 3) := by decide +kernel
theorem V.dX17_operandOf_76 : decode cX17_operandOf 76 = .ok (.if_icmp .ge 7, 3) := by decide +kernel
theorem V.dX17_operandOf_79 : decode cX17_operandOf 79 = .ok (.iconst 2, 1) := by decide +kernel
theorem V.dX17_operandOf_80 : decode cX17_operandOf 80 = .ok (.goto 4, 3) := by decide +kernel
theorem V.dX17_operandOf_83 : decode cX17_operandOf 83 = .ok (.iconst 3, 1) := by decide +kernel
theorem V.dX17_operandOf_84 : decode cX17_operandOf 84 = .ok (.ireturn, 1) := by decide +kernel
theorem V.dX17_operandOf_85 : decode cX17_operandOf 85 = .ok (.iload_n 0, 1) := by decide +kernel
theorem V.dX17_operandOf_86 : decode cX17_operandOf 86 = .ok (.tableswitch 176 167 205 #[172, 174, 174, 176, 176, 170, 170, 174, 174, 176, 176, 170, 170, 172, 172, 176, 170, 170, 172, 172, 174, 174, 176, 170, 172, 170, 170, 172, 172, 172, 176, 176, 176, 174, 174, 176, 176, 174, 174], 170) := by decide +kernel
theorem V.dX17_operandOf_256 : decode cX17_operandOf 256 = .ok (.iconst 0, 1) := by decide +kernel
theorem V.dX17_operandOf_257 : decode cX17_operandOf 257 = .ok (.ireturn, 1) := by decide +kernel
theorem V.dX17_operandOf_258 : decode cX17_operandOf 258 = .ok (.iconst 1, 1) := by decide +kernel
theorem V.dX17_operandOf_259 : decode cX17_operandOf 259 = .ok (.ireturn, 1) := by decide +kernel
theorem V.dX17_operandOf_260 : decode cX17_operandOf 260 = .ok (.iconst 2, 1) := by decide +kernel
theorem V.dX17_operandOf_261 : decode cX17_operandOf 261 = .ok (.ireturn, 1) := by decide +kernel
theorem V.dX17_operandOf_262 : decode cX17_operandOf 262 = .ok (.iconst 3, 1) := by decide +kernel
theorem V.dX17_operandOf_263 : decode cX17_operandOf 263 = .ok (.ireturn, 1) := by decide +kernel
/-! ModuleEngineModel.operandOf(I)I -/
def V.Mdl_operandOf_p18  (σ : HS)  : Option (Int32 × HS) :=
  some ((0 : Int32), σ)
theorem V.gX17_operandOf_p18 {X : CX}  (σ : HS)  : G X RX17 "operandOf" cX17_operandOf 1 (some .int) 0 0 enI 18 [] [] σ (Mdl_operandOf_p18 σ ) := by
  unfold Mdl_operandOf_p18
  refine g_iconst (v := 0) dX17_operandOf_18 (by decide) ?_
  refine g_goto 43 dX17_operandOf_19 (by decide) ?_
  exact g_ireturn rfl dX17_operandOf_43
def V.Mdl_operandOf (σ : HS) (x0 : Int32) : Option (Int32 × HS) :=
  if (103 : Int32) ≤ x0 then (
    if (167 : Int32) ≤ x0 then (
      swx x0 [
        (167, (
          some ((1 : Int32), σ))),
        (168, (
          some ((2 : Int32), σ))),
        (169, (
          some ((2 : Int32), σ))),
        (172, (
          some ((0 : Int32), σ))),
        (173, (
          some ((0 : Int32), σ))),
        (174, (
          some ((2 : Int32), σ))),
        (175, (
          some ((2 : Int32), σ))),
        (178, (
          some ((0 : Int32), σ))),
        (179, (
          some ((0 : Int32), σ))),
        (180, (
          some ((1 : Int32), σ))),
        (181, (
          some ((1 : Int32), σ))),
        (183, (
          some ((0 : Int32), σ))),
        (184, (
          some ((0 : Int32), σ))),
        (185, (
          some ((1 : Int32), σ))),
        (186, (
          some ((1 : Int32), σ))),
        (187, (
          some ((2 : Int32), σ))),
        (188, (
          some ((2 : Int32), σ))),
        (190, (
          some ((0 : Int32), σ))),
        (191, (
          some ((1 : Int32), σ))),
        (192, (
          some ((0 : Int32), σ))),
        (193, (
          some ((0 : Int32), σ))),
        (194, (
          some ((1 : Int32), σ))),
        (195, (
          some ((1 : Int32), σ))),
        (196, (
          some ((1 : Int32), σ))),
        (200, (
          some ((2 : Int32), σ))),
        (201, (
          some ((2 : Int32), σ))),
        (204, (
          some ((2 : Int32), σ))),
        (205, (
          some ((2 : Int32), σ)))
        ] (
        some ((3 : Int32), σ)))
    else (
      if (121 : Int32) ≤ x0 then (
        if (139 : Int32) ≤ x0 then (
          if (153 : Int32) ≤ x0 then (
            some ((3 : Int32), σ))
          else (
            some ((2 : Int32), σ)))
        else (
          some ((1 : Int32), σ)))
      else (
        some ((0 : Int32), σ))))
  else (
    if x0 = (69 : Int32) then (
      Mdl_operandOf_p18 σ)
    else (
      if (80 : Int32) ≤ x0 then (
        if (91 : Int32) ≤ x0 then (
          if (97 : Int32) ≤ x0 then (
            some ((3 : Int32), σ))
          else (
            some ((2 : Int32), σ)))
        else (
          some ((1 : Int32), σ)))
      else (
        Mdl_operandOf_p18 σ)))
theorem V.ctX17_operandOf (x0 : Int32) : Ct yX17_operandOf  cX17_operandOf 1 (some .int) 0 0 eI [iv x0] (fun σ => Mdl_operandOf σ x0) := by
  refine Ct.of (own := RX17) (nm := "operandOf") (desc := "(I)I") rfl (by decide) (Nat.le_of_ble_eq_true rfl) (by decide) (fun X σ => ?_)
  show G X RX17 "operandOf" cX17_operandOf 1 (some .int) 0 0 enI 0 [(0, iv x0)] [] σ (Mdl_operandOf σ x0)
  unfold Mdl_operandOf
  refine g_iload_n 0 0 dX17_operandOf_0 rfl rfl ?_
  refine g_bipush (v := 103) dX17_operandOf_1 (by decide) ?_
  refine g_icmp_ge 44 dX17_operandOf_3 (by decide) ?_ ?_
  · refine g_iload_n 0 0 dX17_operandOf_44 rfl rfl ?_
    refine g_sipush (v := 167) dX17_operandOf_45 (by decide) ?_
    refine g_icmp_ge 85 dX17_operandOf_48 (by decide) ?_ ?_
    · refine g_iload_n 0 0 dX17_operandOf_85 rfl rfl ?_
      refine g_tsw dX17_operandOf_86 (by decide +kernel) ?_
      refine g_case ex0 (t := 258) (by decide +kernel) ?_ (fun hx => ?_)
      · refine g_iconst (v := 1) dX17_operandOf_258 (by decide) ?_
        exact g_ireturn rfl dX17_operandOf_259
      refine g_case hx (t := 260) (by decide +kernel) ?_ (fun hx => ?_)
      · refine g_iconst (v := 2) dX17_operandOf_260 (by decide) ?_
        exact g_ireturn rfl dX17_operandOf_261
      refine g_case hx (t := 260) (by decide +kernel) ?_ (fun hx => ?_)
      · refine g_iconst (v := 2) dX17_operandOf_260 (by decide) ?_
        exact g_ireturn rfl dX17_operandOf_261
      refine g_case hx (t := 256) (by decide +kernel) ?_ (fun hx => ?_)
      · refine g_iconst (v := 0) dX17_operandOf_256 (by decide) ?_
        exact g_ireturn rfl dX17_operandOf_257
      refine g_case hx (t := 256) (by decide +kernel) ?_ (fun hx => ?_)
      · refine g_iconst (v := 0) dX17_operandOf_256 (by decide) ?_
        exact g_ireturn rfl dX17_operandOf_257
      refine g_case hx (t := 260) (by decide +kernel) ?_ (fun hx => ?_)
      · refine g_iconst (v := 2) dX17_operandOf_260 (by decide) ?_
        exact g_ireturn rfl dX17_operandOf_261
      refine g_case hx (t := 260) (by decide +kernel) ?_ (fun hx => ?_)
      · refine g_iconst (v := 2) dX17_operandOf_260 (by decide) ?_
        exact g_ireturn rfl dX17_operandOf_261
      refine g_case hx (t := 256) (by decide +kernel) ?_ (fun hx => ?_)
      · refine g_iconst (v := 0) dX17_operandOf_256 (by decide) ?_
        exact g_ireturn rfl dX17_operandOf_257
      refine g_case hx (t := 256) (by decide +kernel) ?_ (fun hx => ?_)
      · refine g_iconst (v := 0) dX17_operandOf_256 (by decide) ?_
        exact g_ireturn rfl dX17_operandOf_257
      refine g_case hx (t := 258) (by decide +kernel) ?_ (fun hx => ?_)
      · refine g_iconst (v := 1) dX17_operandOf_258 (by decide) ?_
        exact g_ireturn rfl dX17_operandOf_259
      refine g_case hx (t := 258) (by decide +kernel) ?_ (fun hx => ?_)
      · refine g_iconst (v := 1) dX17_operandOf_258 (by decide) ?_
        exact g_ireturn rfl dX17_operandOf_259
      refine g_case hx (t := 256) (by decide +kernel) ?_ (fun hx => ?_)
      · refine g_iconst (v := 0) dX17_operandOf_256 (by decide) ?_
        exact g_ireturn rfl dX17_operandOf_257
      refine g_case hx (t := 256) (by decide +kernel) ?_ (fun hx => ?_)
      · refine g_iconst (v := 0) dX17_operandOf_256 (by decide) ?_
        exact g_ireturn rfl dX17_operandOf_257
      refine g_case hx (t := 258) (by decide +kernel) ?_ (fun hx => ?_)
      · refine g_iconst (v := 1) dX17_operandOf_258 (by decide) ?_
        exact g_ireturn rfl dX17_operandOf_259
      refine g_case hx (t := 258) (by decide +kernel) ?_ (fun hx => ?_)
      · refine g_iconst (v := 1) dX17_operandOf_258 (by decide) ?_
        exact g_ireturn rfl dX17_operandOf_259
      refine g_case hx (t := 260) (by decide +kernel) ?_ (fun hx => ?_)
      · refine g_iconst (v := 2) dX17_operandOf_260 (by decide) ?_
        exact g_ireturn rfl dX17_operandOf_261
      refine g_case hx (t := 260) (by decide +kernel) ?_ (fun hx => ?_)
      · refine g_iconst (v := 2) dX17_operandOf_260 (by decide) ?_
        exact g_ireturn rfl dX17_operandOf_261
      refine g_case hx (t := 256) (by decide +kernel) ?_ (fun hx => ?_)
      · refine g_iconst (v := 0) dX17_operandOf_256 (by decide) ?_
        exact g_ireturn rfl dX17_operandOf_257
      refine g_case hx (t := 258) (by decide +kernel) ?_ (fun hx => ?_)
      · refine g_iconst (v := 1) dX17_operandOf_258 (by decide) ?_
        exact g_ireturn rfl dX17_operandOf_259
      refine g_case hx (t := 256) (by decide +kernel) ?_ (fun hx => ?_)
      · refine g_iconst (v := 0) dX17_operandOf_256 (by decide) ?_
        exact g_ireturn rfl dX17_operandOf_257
      refine g_case hx (t := 256) (by decide +kernel) ?_ (fun hx => ?_)
      · refine g_iconst (v := 0) dX17_operandOf_256 (by decide) ?_
        exact g_ireturn rfl dX17_operandOf_257
      refine g_case hx (t := 258) (by decide +kernel) ?_ (fun hx => ?_)
      · refine g_iconst (v := 1) dX17_operandOf_258 (by decide) ?_
        exact g_ireturn rfl dX17_operandOf_259
      refine g_case hx (t := 258) (by decide +kernel) ?_ (fun hx => ?_)
      · refine g_iconst (v := 1) dX17_operandOf_258 (by decide) ?_
        exact g_ireturn rfl dX17_operandOf_259
      refine g_case hx (t := 258) (by decide +kernel) ?_ (fun hx => ?_)
      · refine g_iconst (v := 1) dX17_operandOf_258 (by decide) ?_
        exact g_ireturn rfl dX17_operandOf_259
      refine g_case hx (t := 260) (by decide +kernel) ?_ (fun hx => ?_)
      · refine g_iconst (v := 2) dX17_operandOf_260 (by decide) ?_
        exact g_ireturn rfl dX17_operandOf_261
      refine g_case hx (t := 260) (by decide +kernel) ?_ (fun hx => ?_)
      · refine g_iconst (v := 2) dX17_operandOf_260 (by decide) ?_
        exact g_ireturn rfl dX17_operandOf_261
      refine g_case hx (t := 260) (by decide +kernel) ?_ (fun hx => ?_)
      · refine g_iconst (v := 2) dX17_operandOf_260 (by decide) ?_
        exact g_ireturn rfl dX17_operandOf_261
      refine g_case hx (t := 260) (by decide +kernel) ?_ (fun hx => ?_)
      · refine g_iconst (v := 2) dX17_operandOf_260 (by decide) ?_
        exact g_ireturn rfl dX17_operandOf_261
      refine g_dflt (t := 262) (tswT_d (by decide +kernel) (by decide +kernel) hx) ?_
      refine g_iconst (v := 3) dX17_operandOf_262 (by decide) ?_
      exact g_ireturn rfl dX17_operandOf_263
    · refine g_iload_n 0 0 dX17_operandOf_51 rfl rfl ?_
      refine g_bipush (v := 121) dX17_operandOf_52 (by decide) ?_
      refine g_icmp_ge 61 dX17_operandOf_54 (by decide) ?_ ?_
      · refine g_iload_n 0 0 dX17_operandOf_61 rfl rfl ?_
        refine g_sipush (v := 139) dX17_operandOf_62 (by decide) ?_
        refine g_icmp_ge 72 dX17_operandOf_65 (by decide) ?_ ?_
        · refine g_iload_n 0 0 dX17_operandOf_72 rfl rfl ?_
          refine g_sipush (v := 153) dX17_operandOf_73 (by decide) ?_
          refine g_icmp_ge 83 dX17_operandOf_76 (by decide) ?_ ?_
          · refine g_iconst (v := 3) dX17_operandOf_83 (by decide) ?_
            exact g_ireturn rfl dX17_operandOf_84
          · refine g_iconst (v := 2) dX17_operandOf_79 (by decide) ?_
            refine g_goto 84 dX17_operandOf_80 (by decide) ?_
            exact g_ireturn rfl dX17_operandOf_84
        · refine g_iconst (v := 1) dX17_operandOf_68 (by decide) ?_
          refine g_goto 84 dX17_operandOf_69 (by decide) ?_
          exact g_ireturn rfl dX17_operandOf_84
      · refine g_iconst (v := 0) dX17_operandOf_57 (by decide) ?_
        refine g_goto 84 dX17_operandOf_58 (by decide) ?_
        exact g_ireturn rfl dX17_operandOf_84
  · refine g_iload_n 0 0 dX17_operandOf_6 rfl rfl ?_
    refine g_bipush (v := 69) dX17_operandOf_7 (by decide) ?_
    refine g_icmp_eq 18 dX17_operandOf_9 (by decide) ?_ ?_
    · refine G.sub [] rfl ?_
      exact gX17_operandOf_p18 _
    · refine g_iload_n 0 0 dX17_operandOf_12 rfl rfl ?_
      refine g_bipush (v := 80) dX17_operandOf_13 (by decide) ?_
      refine g_icmp_ge 22 dX17_operandOf_15 (by decide) ?_ ?_
      · refine g_iload_n 0 0 dX17_operandOf_22 rfl rfl ?_
        refine g_bipush (v := 91) dX17_operandOf_23 (by decide) ?_
        refine g_icmp_ge 32 dX17_operandOf_25 (by decide) ?_ ?_
        · refine g_iload_n 0 0 dX17_operandOf_32 rfl rfl ?_
          refine g_bipush (v := 97) dX17_operandOf_33 (by decide) ?_
          refine g_icmp_ge 42 dX17_operandOf_35 (by decide) ?_ ?_
          · refine g_iconst (v := 3) dX17_operandOf_42 (by decide) ?_
            exact g_ireturn rfl dX17_operandOf_43
          · refine g_iconst (v := 2) dX17_operandOf_38 (by decide) ?_
            refine g_goto 43 dX17_operandOf_39 (by decide) ?_
            exact g_ireturn rfl dX17_operandOf_43
        · refine g_iconst (v := 1) dX17_operandOf_28 (by decide) ?_
          refine g_goto 43 dX17_operandOf_29 (by decide) ?_
          exact g_ireturn rfl dX17_operandOf_43
      · refine G.sub [] rfl ?_
        exact gX17_operandOf_p18 _
theorem V.dX17_hasTwo_0 : decode cX17_hasTwo 0 = .ok (.iload_n 0, 1) := by decide +kernel
theorem V.dX17_hasTwo_1 : decode cX17_hasTwo 1 = .ok (.bipush 69, 2) := by decide +kernel
theorem V.dX17_hasTwo_3 : decode cX17_hasTwo 3 = .ok (.if_icmp .le 15, 3) := by decide +kernel
theorem V.dX17_hasTwo_6 : decode cX17_hasTwo 6 = .ok (.iload_n 0, 1) := by decide +kernel
theorem V.dX17_hasTwo_7 : decode cX17_hasTwo 7 = .ok (.bipush 103, 2) := by decide +kernel
theorem V.dX17_hasTwo_9 : decode cX17_hasTwo 9 = .ok (.if_icmp .ge 9, 3) := by decide +kernel
theorem V.dX17_hasTwo_12 : decode cX17_hasTwo 12 = .ok (.iload_n 0, 1) := by decide +kernel
theorem V.dX17_hasTwo_13 : decode cX17_hasTwo 13 = .ok (.bipush 80, 2) := by decide +kernel
theorem V.dX17_hasTwo_15 : decode cX17_hasTwo 15 = .ok (.if_icmp .ne 56, 3) := by decide +kernel
theorem V.dX17_hasTwo_18 : decode cX17_hasTwo 18 = .ok (.iload_n 0, 1) := by decide +kernel
theorem V.dX17_hasTwo_19 : decode cX17_hasTwo 19 = .ok (.bipush 105, 2) := by decide +kernel
theorem V.dX17_hasTwo_21 : decode cX17_hasTwo 21 = .ok (.if_icmp .le 9, 3) := by decide +kernel
theorem V.dX17_hasTwo_24 : decode cX17_hasTwo 24 = .ok (.iload_n 0, 1) := by decide +kernel
theorem V.dX17_hasTwo_25 : decode cX17_hasTwo 25 = .ok (.bipush 121, 2) := by decide +kernel
theorem V.dX17_hasTwo_27 : decode cX17_hasTwo 27 = .ok (.if_icmp .lt 44, 3) := by decide +kernel
theorem V.dX17_hasTwo_30 : decode cX17_hasTwo 30 = .ok (.iload_n 0, 1) := by decide +kernel
theorem V.dX17_hasTwo_31 : decode cX17_hasTwo 31 = .ok (.bipush 123, 2) := by decide +kernel
theorem V.dX17_hasTwo_33 : decode cX17_hasTwo 33 = .ok (.if_icmp .le 10, 3) := by decide +kernel
theorem V.dX17_hasTwo_36 : decode cX17_hasTwo 36 = .ok (.iload_n 0, 1) := by decide +kernel
theorem V.dX17_hasTwo_37 : decode cX17_hasTwo 37 = .ok (.sipush 139, 3) := by decide +kernel
theorem V.dX17_hasTwo_40 : decode cX17_hasTwo 40 = .ok (.if_icmp .lt 31, 3) := by decide +kernel
theorem V.dX17_hasTwo_43 : decode cX17_hasTwo 43 = .ok (.iload_n 0, 1) := by decide +kernel
theorem V.dX17_hasTwo_44 : decode cX17_hasTwo 44 = .ok (.sipush 145, 3) := by decide +kernel
theorem V.dX17_hasTwo_47 : decode cX17_hasTwo 47 = .ok (.if_icmp .le 10, 3) := by decide +kernel
theorem V.dX17_hasTwo_50 : decode cX17_hasTwo 50 = .ok (.iload_n 0, 1) := by decide +kernel
theorem V.dX17_hasTwo_51 : decode cX17_hasTwo 51 = .ok (.sipush 153, 3) := by decide +kernel
theorem V.dX17_hasTwo_54 : decode cX17_hasTwo 54 = .ok (.if_icmp .lt 17, 3) := by decide +kernel
theorem V.dX17_hasTwo_57 : decode cX17_hasTwo 57 = .ok (.iload_n 0, 1) := by decide +kernel
theorem V.dX17_hasTwo_58 : decode cX17_hasTwo 58 = .ok (.sipush 159, 3) := by decide +kernel
theorem V.dX17_hasTwo_61 : decode cX17_hasTwo 61 = .ok (.if_icmp .le 14, 3) := by decide +kernel
theorem V.dX17_hasTwo_64 : decode cX17_hasTwo 64 = .ok (.iload_n 0, 1) := by decide +kernel
theorem V.dX17_hasTwo_65 : decode cX17_hasTwo 65 = .ok (.sipush 167, 3) := by decide +kernel
theorem V.dX17_hasTwo_68 : decode cX17_hasTwo 68 = .ok (.if_icmp .ge 7, 3) := by decide +kernel
theorem V.dX17_hasTwo_71 : decode cX17_hasTwo 71 = .ok (.iconst 1, 1) := by decide +kernel
theorem V.dX17_hasTwo_72 : decode cX17_hasTwo 72 = .ok (.goto 4, 3) := by decide +kernel
theorem V.dX17_hasTwo_75 : decode cX17_hasTwo 75 = .ok (.iconst 0, 1) := by decide +kernel
theorem V.dX17_hasTwo_76 : decode cX17_hasTwo 76 = .ok (.ireturn, 1) := by decide +kernel
/-! ModuleEngineModel.hasTwo(I)Z -/
def V.Mdl_hasTwo_p71  (σ : HS)  : Option (Int32 × HS) :=
  some ((1 : Int32), σ)
theorem V.gX17_hasTwo_p71 {X : CX}  (σ : HS)  : G X RX17 "hasTwo" cX17_hasTwo 1 (some .boolean) 0 0 enI 71 [] [] σ (Mdl_hasTwo_p71 σ ) := by
  unfold Mdl_hasTwo_p71
  refine g_iconst (v := 1) dX17_hasTwo_71 (by decide) ?_
  refine g_goto 76 dX17_hasTwo_72 (by decide) ?_
  exact g_zreturn rfl (by decide +kernel) dX17_hasTwo_76
def V.Mdl_hasTwo_p57  (σ : HS) (x0 : Int32) : Option (Int32 × HS) :=
  if x0 ≤ (159 : Int32) then (
    some ((0 : Int32), σ))
  else (
    if (167 : Int32) ≤ x0 then (
      some ((0 : Int32), σ))
    else (
      Mdl_hasTwo_p71 σ))
theorem V.gX17_hasTwo_p57 {X : CX}  (σ : HS) (x0 : Int32) : G X RX17 "hasTwo" cX17_hasTwo 1 (some .boolean) 0 0 enI 57 [(0, iv x0)] [] σ (Mdl_hasTwo_p57 σ x0) := by
  unfold Mdl_hasTwo_p57
  refine g_iload_n 0 0 dX17_hasTwo_57 rfl rfl ?_
  refine g_sipush (v := 159) dX17_hasTwo_58 (by decide) ?_
  refine g_icmp_le 75 dX17_hasTwo_61 (by decide) ?_ ?_
  · refine g_iconst (v := 0) dX17_hasTwo_75 (by decide) ?_
    exact g_zreturn rfl (by decide +kernel) dX17_hasTwo_76
  · refine g_iload_n 0 0 dX17_hasTwo_64 rfl rfl ?_
    refine g_sipush (v := 167) dX17_hasTwo_65 (by decide) ?_
    refine g_icmp_ge 75 dX17_hasTwo_68 (by decide) ?_ ?_
    · refine g_iconst (v := 0) dX17_hasTwo_75 (by decide) ?_
      exact g_zreturn rfl (by decide +kernel) dX17_hasTwo_76
    · refine G.sub [] rfl ?_
      exact gX17_hasTwo_p71 _
def V.Mdl_hasTwo_p43  (σ : HS) (x0 : Int32) : Option (Int32 × HS) :=
  if x0 ≤ (145 : Int32) then (
    Mdl_hasTwo_p57 σ x0)
  else (
    if x0 < (153 : Int32) then (
      Mdl_hasTwo_p71 σ)
    else (
      Mdl_hasTwo_p57 σ x0))
theorem V.gX17_hasTwo_p43 {X : CX}  (σ : HS) (x0 : Int32) : G X RX17 "hasTwo" cX17_hasTwo 1 (some .boolean) 0 0 enI 43 [(0, iv x0)] [] σ (Mdl_hasTwo_p43 σ x0) := by
  unfold Mdl_hasTwo_p43
  refine g_iload_n 0 0 dX17_hasTwo_43 rfl rfl ?_
  refine g_sipush (v := 145) dX17_hasTwo_44 (by decide) ?_
  refine g_icmp_le 57 dX17_hasTwo_47 (by decide) ?_ ?_
  · exact gX17_hasTwo_p57 _ _
  · refine g_iload_n 0 0 dX17_hasTwo_50 rfl rfl ?_
    refine g_sipush (v := 153) dX17_hasTwo_51 (by decide) ?_
    refine g_icmp_lt 71 dX17_hasTwo_54 (by decide) ?_ ?_
    · refine G.sub [] rfl ?_
      exact gX17_hasTwo_p71 _
    · exact gX17_hasTwo_p57 _ _
def V.Mdl_hasTwo_p30  (σ : HS) (x0 : Int32) : Option (Int32 × HS) :=
  if x0 ≤ (123 : Int32) then (
    Mdl_hasTwo_p43 σ x0)
  else (
    if x0 < (139 : Int32) then (
      Mdl_hasTwo_p71 σ)
    else (
      Mdl_hasTwo_p43 σ x0))
theorem V.gX17_hasTwo_p30 {X : CX}  (σ : HS) (x0 : Int32) : G X RX17 "hasTwo" cX17_hasTwo 1 (some .boolean) 0 0 enI 30 [(0, iv x0)] [] σ (Mdl_hasTwo_p30 σ x0) := by
  unfold Mdl_hasTwo_p30
  refine g_iload_n 0 0 dX17_hasTwo_30 rfl rfl ?_
  refine g_bipush (v := 123) dX17_hasTwo_31 (by decide) ?_
  refine g_icmp_le 43 dX17_hasTwo_33 (by decide) ?_ ?_
  · exact gX17_hasTwo_p43 _ _
  · refine g_iload_n 0 0 dX17_hasTwo_36 rfl rfl ?_
    refine g_sipush (v := 139) dX17_hasTwo_37 (by decide) ?_
    refine g_icmp_lt 71 dX17_hasTwo_40 (by decide) ?_ ?_
    · refine G.sub [] rfl ?_
      exact gX17_hasTwo_p71 _
    · exact gX17_hasTwo_p43 _ _
def V.Mdl_hasTwo_p18  (σ : HS) (x0 : Int32) : Option (Int32 × HS) :=
  if x0 ≤ (105 : Int32) then (
    Mdl_hasTwo_p30 σ x0)
  else (
    if x0 < (121 : Int32) then (
      Mdl_hasTwo_p71 σ)
    else (
      Mdl_hasTwo_p30 σ x0))
theorem V.gX17_hasTwo_p18 {X : CX}  (σ : HS) (x0 : Int32) : G X RX17 "hasTwo" cX17_hasTwo 1 (some .boolean) 0 0 enI 18 [(0, iv x0)] [] σ (Mdl_hasTwo_p18 σ x0) := by
  unfold Mdl_hasTwo_p18
  refine g_iload_n 0 0 dX17_hasTwo_18 rfl rfl ?_
  refine g_bipush (v := 105) dX17_hasTwo_19 (by decide) ?_
  refine g_icmp_le 30 dX17_hasTwo_21 (by decide) ?_ ?_
  · exact gX17_hasTwo_p30 _ _
  · refine g_iload_n 0 0 dX17_hasTwo_24 rfl rfl ?_
    refine g_bipush (v := 121) dX17_hasTwo_25 (by decide) ?_
    refine g_icmp_lt 71 dX17_hasTwo_27 (by decide) ?_ ?_
    · refine G.sub [] rfl ?_
      exact gX17_hasTwo_p71 _
    · exact gX17_hasTwo_p30 _ _
def V.Mdl_hasTwo (σ : HS) (x0 : Int32) : Option (Int32 × HS) :=
  if x0 ≤ (69 : Int32) then (
    Mdl_hasTwo_p18 σ x0)
  else (
    if (103 : Int32) ≤ x0 then (
      Mdl_hasTwo_p18 σ x0)
    else (
      if x0 = (80 : Int32) then (
        Mdl_hasTwo_p18 σ x0)
      else (
        Mdl_hasTwo_p71 σ)))
theorem V.ctX17_hasTwo (x0 : Int32) : Ct yX17_hasTwo  cX17_hasTwo 1 (some .boolean) 0 0 eI [iv x0] (fun σ => Mdl_hasTwo σ x0) := by
  refine Ct.of (own := RX17) (nm := "hasTwo") (desc := "(I)Z") rfl (by decide) (Nat.le_of_ble_eq_true rfl) (by decide) (fun X σ => ?_)
  show G X RX17 "hasTwo" cX17_hasTwo 1 (some .boolean) 0 0 enI 0 [(0, iv x0)] [] σ (Mdl_hasTwo σ x0)
  unfold Mdl_hasTwo
  refine g_iload_n 0 0 dX17_hasTwo_0 rfl rfl ?_
  refine g_bipush (v := 69) dX17_hasTwo_1 (by decide) ?_
  refine g_icmp_le 18 dX17_hasTwo_3 (by decide) ?_ ?_
  · exact gX17_hasTwo_p18 _ _
  · refine g_iload_n 0 0 dX17_hasTwo_6 rfl rfl ?_
    refine g_bipush (v := 103) dX17_hasTwo_7 (by decide) ?_
    refine g_icmp_ge 18 dX17_hasTwo_9 (by decide) ?_ ?_
    · exact gX17_hasTwo_p18 _ _
    · refine g_iload_n 0 0 dX17_hasTwo_12 rfl rfl ?_
      refine g_bipush (v := 80) dX17_hasTwo_13 (by decide) ?_
      refine g_icmp_ne 71 dX17_hasTwo_15 (by decide) ?_ ?_
      · refine G.sub [] rfl ?_
        exact gX17_hasTwo_p71 _
      · exact gX17_hasTwo_p18 _ _
theorem V.dX17_take_0 : decode cX17_take 0 = .ok (.aload_n 0, 1) := by decide +kernel
theorem V.dX17_take_1 : decode cX17_take 1 = .ok (.getfield 682, 3) := by decide +kernel
theorem V.dX17_take_4 : decode cX17_take 4 = .ok (.iconst 1, 1) := by decide +kernel
theorem V.dX17_take_5 : decode cX17_take 5 = .ok (.isub, 1) := by decide +kernel
theorem V.dX17_take_6 : decode cX17_take 6 = .ok (.istore_n 2, 1) := by decide +kernel
theorem V.dX17_take_7 : decode cX17_take 7 = .ok (.aload_n 0, 1) := by decide +kernel
theorem V.dX17_take_8 : decode cX17_take 8 = .ok (.getfield 685, 3) := by decide +kernel
theorem V.dX17_take_11 : decode cX17_take 11 = .ok (.aload_n 0, 1) := by decide +kernel
theorem V.dX17_take_12 : decode cX17_take 12 = .ok (.getfield 49, 3) := by decide +kernel
theorem V.dX17_take_15 : decode cX17_take 15 = .ok (.iload_n 2, 1) := by decide +kernel
theorem V.dX17_take_16 : decode cX17_take 16 = .ok (.iaload, 1) := by decide +kernel
theorem V.dX17_take_17 : decode cX17_take 17 = .ok (.if_icmp .ne 24, 3) := by decide +kernel
theorem V.dX17_take_20 : decode cX17_take 20 = .ok (.aload_n 0, 1) := by decide +kernel
theorem V.dX17_take_21 : decode cX17_take 21 = .ok (.getfield 52, 3) := by decide +kernel
theorem V.dX17_take_24 : decode cX17_take 24 = .ok (.iload_n 2, 1) := by decide +kernel
theorem V.dX17_take_25 : decode cX17_take 25 = .ok (.baload, 1) := by decide +kernel
theorem V.dX17_take_26 : decode cX17_take 26 = .ok (.ifCond .ne 13, 3) := by decide +kernel
theorem V.dX17_take_29 : decode cX17_take 29 = .ok (.aload_n 0, 1) := by decide +kernel
theorem V.dX17_take_30 : decode cX17_take 30 = .ok (.bipush 29, 2) := by decide +kernel
theorem V.dX17_take_32 : decode cX17_take 32 = .ok (.aload_n 0, 1) := by decide +kernel
theorem V.dX17_take_33 : decode cX17_take 33 = .ok (.getfield 686, 3) := by decide +kernel
theorem V.dX17_take_36 : decode cX17_take 36 = .ok (.invokevirtual 257, 3) := by decide +kernel
theorem V.dX17_take_39 : decode cX17_take 39 = .ok (.iconst (-1), 1) := by decide +kernel
theorem V.dX17_take_40 : decode cX17_take 40 = .ok (.ireturn, 1) := by decide +kernel
theorem V.dX17_take_41 : decode cX17_take 41 = .ok (.aload_n 0, 1) := by decide +kernel
theorem V.dX17_take_42 : decode cX17_take 42 = .ok (.dup, 1) := by decide +kernel
theorem V.dX17_take_43 : decode cX17_take 43 = .ok (.getfield 685, 3) := by decide +kernel
theorem V.dX17_take_46 : decode cX17_take 46 = .ok (.iconst 1, 1) := by decide +kernel
theorem V.dX17_take_47 : decode cX17_take 47 = .ok (.isub, 1) := by decide +kernel
theorem V.dX17_take_48 : decode cX17_take 48 = .ok (.putfield 685, 3) := by decide +kernel
theorem V.dX17_take_51 : decode cX17_take 51 = .ok (.aload_n 0, 1) := by decide +kernel
theorem V.dX17_take_52 : decode cX17_take 52 = .ok (.getfield 39, 3) := by decide +kernel
theorem V.dX17_take_55 : decode cX17_take 55 = .ok (.aload_n 0, 1) := by decide +kernel
theorem V.dX17_take_56 : decode cX17_take 56 = .ok (.getfield 685, 3) := by decide +kernel
theorem V.dX17_take_59 : decode cX17_take 59 = .ok (.iaload, 1) := by decide +kernel
theorem V.dX17_take_60 : decode cX17_take 60 = .ok (.istore_n 3, 1) := by decide +kernel
theorem V.dX17_take_61 : decode cX17_take 61 = .ok (.iload_n 1, 1) := by decide +kernel
theorem V.dX17_take_62 : decode cX17_take 62 = .ok (.ifCond .eq 23, 3) := by decide +kernel
theorem V.dX17_take_65 : decode cX17_take 65 = .ok (.iload_n 3, 1) := by decide +kernel
theorem V.dX17_take_66 : decode cX17_take 66 = .ok (.iconst (-1), 1) := by decide +kernel
theorem V.dX17_take_67 : decode cX17_take 67 = .ok (.if_icmp .eq 18, 3) := by decide +kernel
theorem V.dX17_take_70 : decode cX17_take 70 = .ok (.iload_n 3, 1) := by decide +kernel
theorem V.dX17_take_71 : decode cX17_take 71 = .ok (.iload_n 1, 1) := by decide +kernel
theorem V.dX17_take_72 : decode cX17_take 72 = .ok (.if_icmp .eq 13, 3) := by decide +kernel
theorem V.dX17_take_75 : decode cX17_take 75 = .ok (.aload_n 0, 1) := by decide +kernel
theorem V.dX17_take_76 : decode cX17_take 76 = .ok (.bipush 29, 2) := by decide +kernel
theorem V.dX17_take_78 : decode cX17_take 78 = .ok (.aload_n 0, 1) := by decide +kernel
theorem V.dX17_take_79 : decode cX17_take 79 = .ok (.getfield 686, 3) := by decide +kernel
theorem V.dX17_take_82 : decode cX17_take 82 = .ok (.invokevirtual 257, 3) := by decide +kernel
theorem V.dX17_take_85 : decode cX17_take 85 = .ok (.iload_n 3, 1) := by decide +kernel
theorem V.dX17_take_86 : decode cX17_take 86 = .ok (.ireturn, 1) := by decide +kernel
theorem V.fpX17_685 {nm : String} : FP RX17 nm 685 17 23 (.int) := ⟨(RX17, TX17, 101), tyX17, rfl, rfl, in_X17, by decide, tyX17_ok, nmX17, rfl, Or.inl ⟨rfl, Or.inl q3059⟩⟩
theorem V.fdX17_39 : FD RX17 39 17 22 2 := ⟨(RX17, TX17, 101), tyX17, rfl, rfl, in_X17, by decide, Or.inl q3058, rfl⟩
/-! ModuleEngineModel.take(I)I -/
def V.Mdl_take (σ : HS) (x0 : Nat) (x1 : Int32) : Option ((Nat ⊕ Int32) × HS) :=
  ck (tg σ x0 = 18) <|
  bn ((gI σ x0 24) - (1 : Int32)) fun y1 =>
  ck (tg σ x0 = 18) <|
  ck (tg σ x0 = 18) <|
  ck (tg σ (gR σ x0 27) = 100 ∧ inb y1 (ln σ (gR σ x0 27))) <|
  if (gI σ x0 23) = (gI σ (gR σ x0 27) (ix y1)) then (
    ck (tg σ x0 = 18) <|
    ck (tg σ (gR σ x0 28) = 103 ∧ inb y1 (ln σ (gR σ x0 28))) <|
    if (gI σ (gR σ x0 28) (ix y1)) = 0 then (
      ck (tg σ x0 = 18) <|
      ck (tg σ x0 = 18) <| clT (Mdl_stops σ x0 (29 : Int32) (gI σ x0 31)) fun _ σ5 =>
      some (.inr (-1 : Int32), σ5))
    else (
      some (.inr (-1 : Int32), σ)))
  else (
    ck (tg σ x0 = 18) <|
    ck (tg σ x0 = 18) <| bn (sI σ x0 23 ((gI σ x0 23) - (1 : Int32))) fun σ2 =>
    ck (tg σ2 x0 = 18) <|
    ck (tg σ2 x0 = 18) <|
    ck (tg σ2 (gR σ2 x0 22) = 100 ∧ inb (gI σ2 x0 23) (ln σ2 (gR σ2 x0 22))) <|
    bn (gI σ2 (gR σ2 x0 22) (ix (gI σ2 x0 23))) fun y3 =>
    if x1 = 0 then (
      some (.inr y3, σ2))
    else (
      if y3 = (-1 : Int32) then (
        some (.inr y3, σ2))
      else (
        if y3 = x1 then (
          some (.inr y3, σ2))
        else (
          ck (tg σ2 x0 = 18) <|
          ck (tg σ2 x0 = 18) <| clT (Mdl_stops σ2 x0 (29 : Int32) (gI σ2 x0 31)) fun _ σ4 =>
          some (.inr y3, σ4)))))
theorem V.ctX17_take (x0 : Nat) (x1 : Int32) : Ct yX17_take  cX17_take 4 (some .int) 1 22 eXI [av x0, iv x1] (fun σ => Mdl_take σ x0 x1) := by
  refine Ct.of (own := RX17) (nm := "take") (desc := "(I)I") rfl (by decide) (Nat.le_of_ble_eq_true rfl) (by decide) (fun X σ => ?_)
  show G X RX17 "take" cX17_take 4 (some .int) 1 22 (enX enI (cxz X)) 0 [(0, av x0), (1, iv x1)] [] σ (Mdl_take σ x0 x1)
  unfold Mdl_take
  refine g_aload_n 0 0 dX17_take_0 rfl rfl ?_
  refine g_getI fdX17_682 dX17_take_1 ?_
  refine g_iconst (v := 1) dX17_take_4 (by decide) ?_
  refine g_isub dX17_take_5 ?_
  refine g_nmI (fun y1 => ?_)
  refine g_istore_n 2 dX17_take_6 rfl (by decide) rfl ?_
  refine g_aload_n 0 1 dX17_take_7 rfl rfl ?_
  refine g_getI fdX17_685 dX17_take_8 ?_
  refine g_aload_n 0 1 dX17_take_11 rfl rfl ?_
  refine g_getR fdX17_49 dX17_take_12 ?_
  refine g_iload_n 2 0 dX17_take_15 rfl rfl ?_
  refine g_iaload dX17_take_16 ?_
  refine g_icmp_ne 41 dX17_take_17 (by decide) ?_ ?_
  · refine g_aload_n 0 1 dX17_take_41 rfl rfl ?_
    refine g_dup dX17_take_42 rfl ?_
    refine g_getI fdX17_685 dX17_take_43 ?_
    refine g_iconst (v := 1) dX17_take_46 (by decide) ?_
    refine g_isub dX17_take_47 ?_
    refine g_putI fpX17_685 dX17_take_48 (fun σ2 => ?_)
    refine g_aload_n 0 1 dX17_take_51 rfl rfl ?_
    refine g_getR fdX17_39 dX17_take_52 ?_
    refine g_aload_n 0 1 dX17_take_55 rfl rfl ?_
    refine g_getI fdX17_685 dX17_take_56 ?_
    refine g_iaload dX17_take_59 ?_
    refine g_nmI (fun y3 => ?_)
    refine g_istore_n 3 dX17_take_60 rfl (by decide) rfl ?_
    refine g_iload_n 1 3 dX17_take_61 rfl rfl ?_
    refine g_if_eq 85 dX17_take_62 (by decide) ?_ ?_
    · refine g_iload_n 3 0 dX17_take_85 rfl rfl ?_
      exact g_ireturn rfl dX17_take_86
    · refine g_iload_n 3 0 dX17_take_65 rfl rfl ?_
      refine g_iconst (v := (-1)) dX17_take_66 (by decide) ?_
      refine g_icmp_eq 85 dX17_take_67 (by decide) ?_ ?_
      · refine g_iload_n 3 0 dX17_take_85 rfl rfl ?_
        exact g_ireturn rfl dX17_take_86
      · refine g_iload_n 3 0 dX17_take_70 rfl rfl ?_
        refine g_iload_n 1 3 dX17_take_71 rfl rfl ?_
        refine g_icmp_eq 85 dX17_take_72 (by decide) ?_ ?_
        · refine g_iload_n 3 0 dX17_take_85 rfl rfl ?_
          exact g_ireturn rfl dX17_take_86
        · refine g_aload_n 0 2 dX17_take_75 rfl rfl ?_
          refine g_bipush (v := 29) dX17_take_76 (by decide) ?_
          refine g_aload_n 0 2 dX17_take_78 rfl rfl ?_
          refine g_getI fdX17_686 dX17_take_79 ?_
          refine g_callVT (fc := fun sς => Mdl_stops sς x0 (29 : Int32) (gI σ2 x0 31)) (ci := 17) (as := [iv (29 : Int32), iv (gI σ2 x0 31)]) rfl rfl rfl q3606 qs214 q3604 mdX17_257 (ctX17_stops x0 (29 : Int32) (gI σ2 x0 31)) rfl (Nat.le_of_ble_eq_true rfl) (Nat.le_of_ble_eq_true rfl) (Nat.le_of_ble_eq_true rfl) pu_V (by decide) dX17_take_82 (fun _ σ4 => ?_)
          refine g_iload_n 3 0 dX17_take_85 rfl rfl ?_
          exact g_ireturn rfl dX17_take_86
  · refine g_aload_n 0 1 dX17_take_20 rfl rfl ?_
    refine g_getR fdX17_52 dX17_take_21 ?_
    refine g_iload_n 2 0 dX17_take_24 rfl rfl ?_
    refine g_zaload dX17_take_25 ?_
    refine g_if_ne 39 dX17_take_26 (by decide) ?_ ?_
    · refine g_iconst (v := (-1)) dX17_take_39 (by decide) ?_
      exact g_ireturn rfl dX17_take_40
    · refine g_aload_n 0 1 dX17_take_29 rfl rfl ?_
      refine g_bipush (v := 29) dX17_take_30 (by decide) ?_
      refine g_aload_n 0 1 dX17_take_32 rfl rfl ?_
      refine g_getI fdX17_686 dX17_take_33 ?_
      refine g_callVT (fc := fun sς => Mdl_stops sς x0 (29 : Int32) (gI σ x0 31)) (ci := 17) (as := [iv (29 : Int32), iv (gI σ x0 31)]) rfl rfl rfl q3606 qs214 q3604 mdX17_257 (ctX17_stops x0 (29 : Int32) (gI σ x0 31)) rfl (Nat.le_of_ble_eq_true rfl) (Nat.le_of_ble_eq_true rfl) (Nat.le_of_ble_eq_true rfl) pu_V (by decide) dX17_take_36 (fun _ σ5 => ?_)
      refine g_iconst (v := (-1)) dX17_take_39 (by decide) ?_
      exact g_ireturn rfl dX17_take_40
theorem V.dX17_takes_0 : decode cX17_takes 0 = .ok (.iconst 0, 1) := by decide +kernel
theorem V.dX17_takes_1 : decode cX17_takes 1 = .ok (.istore_n 3, 1) := by decide +kernel
theorem V.dX17_takes_2 : decode cX17_takes 2 = .ok (.iload_n 3, 1) := by decide +kernel
theorem V.dX17_takes_3 : decode cX17_takes 3 = .ok (.iload_n 2, 1) := by decide +kernel
theorem V.dX17_takes_4 : decode cX17_takes 4 = .ok (.if_icmp .ge 16, 3) := by decide +kernel
theorem V.dX17_takes_7 : decode cX17_takes 7 = .ok (.aload_n 0, 1) := by decide +kernel
theorem V.dX17_takes_8 : decode cX17_takes 8 = .ok (.iload_n 1, 1) := by decide +kernel
theorem V.dX17_takes_9 : decode cX17_takes 9 = .ok (.invokevirtual 692, 3) := by decide +kernel
theorem V.dX17_takes_12 : decode cX17_takes 12 = .ok (.istore 4, 2) := by decide +kernel
theorem V.dX17_takes_14 : decode cX17_takes 14 = .ok (.iinc 3 1, 3) := by decide +kernel
theorem V.dX17_takes_17 : decode cX17_takes 17 = .ok (.goto (-15), 3) := by decide +kernel
theorem V.dX17_takes_20 : decode cX17_takes 20 = .ok (.return_, 1) := by decide +kernel
theorem V.mdX17_692 : MD RX17 692 yX17_take cX17_take 4 (some .int) 1 := ⟨Or.inl q3898, q377, q3901, by decide, by decide, by decide +kernel⟩
/-! ModuleEngineModel.takes(II)V -/
def V.Mdl_takes_p2  : Nat → HS → Nat → Int32 → Int32 → Int32 → Option ((Nat ⊕ Unit) × HS)
  | 0, _, _, _, _, _ => none
  | n + 1, σ, x0, x1, x2, x3 =>
    if x2 ≤ x3 then (
      some (.inr (), σ))
    else (
      ck (tg σ x0 = 18) <| clT (Mdl_take σ x0 x1) fun r2 σ1 =>
      bn (x3 + (1 : Int32)) fun y3 =>
      Mdl_takes_p2 n σ1 x0 x1 x2 y3)
theorem V.gX17_takes_p2 {X : CX}  : ∀ (n : Nat) (σ : HS) (x0 : Nat) (x1 : Int32) (x2 : Int32) (x3 : Int32), G X RX17 "takes" cX17_takes 5 none 2 45 (enX enV (cxz X)) 2 [(0, av x0), (1, iv x1), (2, iv x2), (3, iv x3)] [] σ (Mdl_takes_p2 n σ x0 x1 x2 x3)
  | 0, σ, x0, x1, x2, x3 => by rw [Mdl_takes_p2]; exact G.nul
  | n + 1, σ, x0, x1, x2, x3 => by
    rw [Mdl_takes_p2]
    refine g_iload_n 3 3 dX17_takes_2 rfl rfl ?_
    refine g_iload_n 2 2 dX17_takes_3 rfl rfl ?_
    refine g_icmp_ge 20 dX17_takes_4 (by decide) ?_ ?_
    · exact g_return rfl dX17_takes_20
    · refine g_aload_n 0 0 dX17_takes_7 rfl rfl ?_
      refine g_iload_n 1 1 dX17_takes_8 rfl rfl ?_
      refine g_callVT (fc := fun sς => Mdl_take sς x0 x1) (ci := 17) (as := [iv x1]) rfl rfl rfl q3900 qs266 q3898 mdX17_692 (ctX17_take x0 x1) rfl (Nat.le_of_ble_eq_true rfl) (Nat.le_of_ble_eq_true rfl) (Nat.le_of_ble_eq_true rfl) pu_I (by decide) dX17_takes_9 (fun r2 σ1 => ?_)
      refine g_istore dX17_takes_12 (by decide) rfl ?_
      refine g_iincB (w := 1) 4 dX17_takes_14 rfl (by decide) (by decide) (fun _ => rfl) (fun y3 => ?_)
      refine g_goto 2 dX17_takes_17 (by decide) ?_
      refine G.sub [2, 3, 4, 0] rfl ?_
      exact gX17_takes_p2 n _ _ _ _ _
def V.Mdl_takes (σ : HS) (x0 : Nat) (x1 : Int32) (x2 : Int32) : Option ((Nat ⊕ Unit) × HS) :=
  Mdl_takes_p2 FU σ x0 x1 x2 (0 : Int32)
theorem V.ctX17_takes (x0 : Nat) (x1 : Int32) (x2 : Int32) : Ct yX17_takes  cX17_takes 5 none 2 45 eXV [av x0, iv x1, iv x2] (fun σ => Mdl_takes σ x0 x1 x2) := by
  refine Ct.of (own := RX17) (nm := "takes") (desc := "(II)V") rfl (by decide) (Nat.le_of_ble_eq_true rfl) (by decide) (fun X σ => ?_)
  show G X RX17 "takes" cX17_takes 5 none 2 45 (enX enV (cxz X)) 0 [(0, av x0), (1, iv x1), (2, iv x2)] [] σ (Mdl_takes σ x0 x1 x2)
  unfold Mdl_takes
  refine g_iconst (v := 0) dX17_takes_0 (by decide) ?_
  refine g_istore_n 3 dX17_takes_1 rfl (by decide) rfl ?_
  refine G.sub [1, 2, 3, 0] rfl ?_
  exact gX17_takes_p2 FU _ _ _ _ _
theorem V.dX17_resultOf_0 : decode cX17_resultOf 0 = .ok (.iload_n 0, 1) := by decide +kernel
theorem V.dX17_resultOf_1 : decode cX17_resultOf 1 = .ok (.bipush 103, 2) := by decide +kernel
theorem V.dX17_resultOf_3 : decode cX17_resultOf 3 = .ok (.if_icmp .ge 5, 3) := by decide +kernel
theorem V.dX17_resultOf_6 : decode cX17_resultOf 6 = .ok (.iconst 0, 1) := by decide +kernel
theorem V.dX17_resultOf_7 : decode cX17_resultOf 7 = .ok (.ireturn, 1) := by decide +kernel
theorem V.dX17_resultOf_8 : decode cX17_resultOf 8 = .ok (.iload_n 0, 1) := by decide +kernel
theorem V.dX17_resultOf_9 : decode cX17_resultOf 9 = .ok (.sipush 167, 3) := by decide +kernel
theorem V.dX17_resultOf_12 : decode cX17_resultOf 12 = .ok (.if_icmp .ge 8, 3) := by decide +kernel
theorem V.dX17_resultOf_15 : decode cX17_resultOf 15 = .ok (.iload_n 0, 1) := by decide +kernel
theorem V.dX17_resultOf_16 : decode cX17_resultOf 16 = .ok (.invokestatic 753, 3) := by decide +kernel
theorem V.dX17_resultOf_19 : decode cX17_resultOf 19 = .ok (.ireturn, 1) := by decide +kernel
theorem V.dX17_resultOf_20 : decode cX17_resultOf 20 = .ok (.iload_n 0, 1) := by decide +kernel
theorem V.dX17_resultOf_21 : decode cX17_resultOf 21 = .ok (.sipush 172, 3) := by decide +kernel
theorem V.dX17_resultOf_24 : decode cX17_resultOf 24 = .ok (.if_icmp .lt 38, 3) := by decide +kernel
theorem V.dX17_resultOf_27 : decode cX17_resultOf 27 = .ok (.iload_n 0, 1) := by decide +kernel
theorem V.dX17_resultOf_28 : decode cX17_resultOf 28 = .ok (.sipush 188, 3) := by decide +kernel
theorem V.dX17_resultOf_31 : decode cX17_resultOf 31 = .ok (.if_icmp .eq 31, 3) := by decide +kernel
theorem V.dX17_resultOf_34 : decode cX17_resultOf 34 = .ok (.iload_n 0, 1) := by decide +kernel
theorem V.dX17_resultOf_35 : decode cX17_resultOf 35 = .ok (.sipush 192, 3) := by decide +kernel
theorem V.dX17_resultOf_38 : decode cX17_resultOf 38 = .ok (.if_icmp .eq 24, 3) := by decide +kernel
theorem V.dX17_resultOf_41 : decode cX17_resultOf 41 = .ok (.iload_n 0, 1) := by decide +kernel
theorem V.dX17_resultOf_42 : decode cX17_resultOf 42 = .ok (.sipush 193, 3) := by decide +kernel
theorem V.dX17_resultOf_45 : decode cX17_resultOf 45 = .ok (.if_icmp .eq 17, 3) := by decide +kernel
theorem V.dX17_resultOf_48 : decode cX17_resultOf 48 = .ok (.iload_n 0, 1) := by decide +kernel
theorem V.dX17_resultOf_49 : decode cX17_resultOf 49 = .ok (.sipush 200, 3) := by decide +kernel
theorem V.dX17_resultOf_52 : decode cX17_resultOf 52 = .ok (.if_icmp .lt 12, 3) := by decide +kernel
theorem V.dX17_resultOf_55 : decode cX17_resultOf 55 = .ok (.iload_n 0, 1) := by decide +kernel
theorem V.dX17_resultOf_56 : decode cX17_resultOf 56 = .ok (.sipush 204, 3) := by decide +kernel
theorem V.dX17_resultOf_59 : decode cX17_resultOf 59 = .ok (.if_icmp .ge 5, 3) := by decide +kernel
theorem V.dX17_resultOf_62 : decode cX17_resultOf 62 = .ok (.iconst 0, 1) := by decide +kernel
theorem V.dX17_resultOf_63 : decode cX17_resultOf 63 = .ok (.ireturn, 1) := by decide +kernel
theorem V.dX17_resultOf_64 : decode cX17_resultOf 64 = .ok (.iload_n 0, 1) := by decide +kernel
theorem V.dX17_resultOf_65 : decode cX17_resultOf 65 = .ok (.sipush 178, 3) := by decide +kernel
theorem V.dX17_resultOf_68 : decode cX17_resultOf 68 = .ok (.if_icmp .lt 17, 3) := by decide +kernel
theorem V.dX17_resultOf_71 : decode cX17_resultOf 71 = .ok (.iload_n 0, 1) := by decide +kernel
theorem V.dX17_resultOf_72 : decode cX17_resultOf 72 = .ok (.sipush 189, 3) := by decide +kernel
theorem V.dX17_resultOf_75 : decode cX17_resultOf 75 = .ok (.if_icmp .eq 10, 3) := by decide +kernel
theorem V.dX17_resultOf_78 : decode cX17_resultOf 78 = .ok (.iload_n 0, 1) := by decide +kernel
theorem V.dX17_resultOf_79 : decode cX17_resultOf 79 = .ok (.sipush 193, 3) := by decide +kernel
theorem V.dX17_resultOf_82 : decode cX17_resultOf 82 = .ok (.if_icmp .le 5, 3) := by decide +kernel
theorem V.dX17_resultOf_85 : decode cX17_resultOf 85 = .ok (.iconst 1, 1) := by decide +kernel
theorem V.dX17_resultOf_86 : decode cX17_resultOf 86 = .ok (.ireturn, 1) := by decide +kernel
theorem V.dX17_resultOf_87 : decode cX17_resultOf 87 = .ok (.iload_n 0, 1) := by decide +kernel
theorem V.dX17_resultOf_88 : decode cX17_resultOf 88 = .ok (.sipush 183, 3) := by decide +kernel
theorem V.dX17_resultOf_91 : decode cX17_resultOf 91 = .ok (.if_icmp .lt 10, 3) := by decide +kernel
theorem V.dX17_resultOf_94 : decode cX17_resultOf 94 = .ok (.iload_n 0, 1) := by decide +kernel
theorem V.dX17_resultOf_95 : decode cX17_resultOf 95 = .ok (.sipush 190, 3) := by decide +kernel
theorem V.dX17_resultOf_98 : decode cX17_resultOf 98 = .ok (.if_icmp .ne 7, 3) := by decide +kernel
theorem V.dX17_resultOf_101 : decode cX17_resultOf 101 = .ok (.iconst 2, 1) := by decide +kernel
theorem V.dX17_resultOf_102 : decode cX17_resultOf 102 = .ok (.goto 4, 3) := by decide +kernel
theorem V.dX17_resultOf_105 : decode cX17_resultOf 105 = .ok (.iconst 3, 1) := by decide +kernel
theorem V.dX17_resultOf_106 : decode cX17_resultOf 106 = .ok (.ireturn, 1) := by decide +kernel
theorem V.mdX17_753 : MD RX17 753 yX17_operandOf cX17_operandOf 1 (some .int) 1 := ⟨Or.inl q3888, q377, q3890, by decide, by decide, by decide +kernel⟩
/-! ModuleEngineModel.resultOf(I)I -/
def V.Mdl_resultOf_p101  (σ : HS)  : Option (Int32 × HS) :=
  some ((2 : Int32), σ)
theorem V.gX17_resultOf_p101 {X : CX}  (σ : HS)  : G X RX17 "resultOf" cX17_resultOf 1 (some .int) 1 20 enI 101 [] [] σ (Mdl_resultOf_p101 σ ) := by
  unfold Mdl_resultOf_p101
  refine g_iconst (v := 2) dX17_resultOf_101 (by decide) ?_
  refine g_goto 106 dX17_resultOf_102 (by decide) ?_
  exact g_ireturn rfl dX17_resultOf_106
def V.Mdl_resultOf_p64  (σ : HS) (x0 : Int32) : Option (Int32 × HS) :=
  if x0 < (178 : Int32) then (
    some ((1 : Int32), σ))
  else (
    if x0 = (189 : Int32) then (
      some ((1 : Int32), σ))
    else (
      if x0 ≤ (193 : Int32) then (
        if x0 < (183 : Int32) then (
          Mdl_resultOf_p101 σ)
        else (
          if x0 = (190 : Int32) then (
            Mdl_resultOf_p101 σ)
          else (
            some ((3 : Int32), σ))))
      else (
        some ((1 : Int32), σ))))
theorem V.gX17_resultOf_p64 {X : CX}  (σ : HS) (x0 : Int32) : G X RX17 "resultOf" cX17_resultOf 1 (some .int) 1 20 enI 64 [(0, iv x0)] [] σ (Mdl_resultOf_p64 σ x0) := by
  unfold Mdl_resultOf_p64
  refine g_iload_n 0 0 dX17_resultOf_64 rfl rfl ?_
  refine g_sipush (v := 178) dX17_resultOf_65 (by decide) ?_
  refine g_icmp_lt 85 dX17_resultOf_68 (by decide) ?_ ?_
  · refine g_iconst (v := 1) dX17_resultOf_85 (by decide) ?_
    exact g_ireturn rfl dX17_resultOf_86
  · refine g_iload_n 0 0 dX17_resultOf_71 rfl rfl ?_
    refine g_sipush (v := 189) dX17_resultOf_72 (by decide) ?_
    refine g_icmp_eq 85 dX17_resultOf_75 (by decide) ?_ ?_
    · refine g_iconst (v := 1) dX17_resultOf_85 (by decide) ?_
      exact g_ireturn rfl dX17_resultOf_86
    · refine g_iload_n 0 0 dX17_resultOf_78 rfl rfl ?_
      refine g_sipush (v := 193) dX17_resultOf_79 (by decide) ?_
      refine g_icmp_le 87 dX17_resultOf_82 (by decide) ?_ ?_
      · refine g_iload_n 0 0 dX17_resultOf_87 rfl rfl ?_
        refine g_sipush (v := 183) dX17_resultOf_88 (by decide) ?_
        refine g_icmp_lt 101 dX17_resultOf_91 (by decide) ?_ ?_
        · refine G.sub [] rfl ?_
          exact gX17_resultOf_p101 _
        · refine g_iload_n 0 0 dX17_resultOf_94 rfl rfl ?_
          refine g_sipush (v := 190) dX17_resultOf_95 (by decide) ?_
          refine g_icmp_ne 105 dX17_resultOf_98 (by decide) ?_ ?_
          · refine g_iconst (v := 3) dX17_resultOf_105 (by decide) ?_
            exact g_ireturn rfl dX17_resultOf_106
          · refine G.sub [] rfl ?_
            exact gX17_resultOf_p101 _
      · refine g_iconst (v := 1) dX17_resultOf_85 (by decide) ?_
        exact g_ireturn rfl dX17_resultOf_86
def V.Mdl_resultOf (σ : HS) (x0 : Int32) : Option (Int32 × HS) :=
  if (103 : Int32) ≤ x0 then (
    if (167 : Int32) ≤ x0 then (
      if x0 < (172 : Int32) then (
        some ((0 : Int32), σ))
      else (
        if x0 = (188 : Int32) then (
          some ((0 : Int32), σ))
        else (
          if x0 = (192 : Int32) then (
            some ((0 : Int32), σ))
          else (
            if x0 = (193 : Int32) then (
              some ((0 : Int32), σ))
            else (
              if x0 < (200 : Int32) then (
                Mdl_resultOf_p64 σ x0)
              else (
                if (204 : Int32) ≤ x0 then (
                  Mdl_resultOf_p64 σ x0)
                else (
                  some ((0 : Int32), σ))))))))
    else (
      cl (Mdl_operandOf σ x0) fun r2 σ1 =>
      some (r2, σ1)))
  else (
    some ((0 : Int32), σ))
theorem V.ctX17_resultOf (x0 : Int32) : Ct yX17_resultOf  cX17_resultOf 1 (some .int) 1 20 eI [iv x0] (fun σ => Mdl_resultOf σ x0) := by
  refine Ct.of (own := RX17) (nm := "resultOf") (desc := "(I)I") rfl (by decide) (Nat.le_of_ble_eq_true rfl) (by decide) (fun X σ => ?_)
  show G X RX17 "resultOf" cX17_resultOf 1 (some .int) 1 20 enI 0 [(0, iv x0)] [] σ (Mdl_resultOf σ x0)
  unfold Mdl_resultOf
  refine g_iload_n 0 0 dX17_resultOf_0 rfl rfl ?_
  refine g_bipush (v := 103) dX17_resultOf_1 (by decide) ?_
  refine g_icmp_ge 8 dX17_resultOf_3 (by decide) ?_ ?_
  · refine g_iload_n 0 0 dX17_resultOf_8 rfl rfl ?_
    refine g_sipush (v := 167) dX17_resultOf_9 (by decide) ?_
    refine g_icmp_ge 20 dX17_resultOf_12 (by decide) ?_ ?_
    · refine g_iload_n 0 0 dX17_resultOf_20 rfl rfl ?_
      refine g_sipush (v := 172) dX17_resultOf_21 (by decide) ?_
      refine g_icmp_lt 62 dX17_resultOf_24 (by decide) ?_ ?_
      · refine g_iconst (v := 0) dX17_resultOf_62 (by decide) ?_
        exact g_ireturn rfl dX17_resultOf_63
      · refine g_iload_n 0 0 dX17_resultOf_27 rfl rfl ?_
        refine g_sipush (v := 188) dX17_resultOf_28 (by decide) ?_
        refine g_icmp_eq 62 dX17_resultOf_31 (by decide) ?_ ?_
        · refine g_iconst (v := 0) dX17_resultOf_62 (by decide) ?_
          exact g_ireturn rfl dX17_resultOf_63
        · refine g_iload_n 0 0 dX17_resultOf_34 rfl rfl ?_
          refine g_sipush (v := 192) dX17_resultOf_35 (by decide) ?_
          refine g_icmp_eq 62 dX17_resultOf_38 (by decide) ?_ ?_
          · refine g_iconst (v := 0) dX17_resultOf_62 (by decide) ?_
            exact g_ireturn rfl dX17_resultOf_63
          · refine g_iload_n 0 0 dX17_resultOf_41 rfl rfl ?_
            refine g_sipush (v := 193) dX17_resultOf_42 (by decide) ?_
            refine g_icmp_eq 62 dX17_resultOf_45 (by decide) ?_ ?_
            · refine g_iconst (v := 0) dX17_resultOf_62 (by decide) ?_
              exact g_ireturn rfl dX17_resultOf_63
            · refine g_iload_n 0 0 dX17_resultOf_48 rfl rfl ?_
              refine g_sipush (v := 200) dX17_resultOf_49 (by decide) ?_
              refine g_icmp_lt 64 dX17_resultOf_52 (by decide) ?_ ?_
              · exact gX17_resultOf_p64 _ _
              · refine g_iload_n 0 0 dX17_resultOf_55 rfl rfl ?_
                refine g_sipush (v := 204) dX17_resultOf_56 (by decide) ?_
                refine g_icmp_ge 64 dX17_resultOf_59 (by decide) ?_ ?_
                · exact gX17_resultOf_p64 _ _
                · refine g_iconst (v := 0) dX17_resultOf_62 (by decide) ?_
                  exact g_ireturn rfl dX17_resultOf_63
    · refine g_iload_n 0 0 dX17_resultOf_15 rfl rfl ?_
      refine g_callS (fc := fun sς => Mdl_operandOf sς x0) (as := [iv x0]) q3889 mdX17_753 (ctX17_operandOf x0) rfl (Nat.le_of_ble_eq_true rfl) (Nat.le_of_ble_eq_true rfl) (Nat.le_of_ble_eq_true rfl) pu_I dX17_resultOf_16 (fun r2 σ1 => ?_)
      exact g_ireturn rfl dX17_resultOf_19
  · refine g_iconst (v := 0) dX17_resultOf_6 (by decide) ?_
    exact g_ireturn rfl dX17_resultOf_7
