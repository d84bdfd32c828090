set_option maxRecDepth 100000
theorem V.dJ5_divideUnsigned_0 : decode cJ5_divideUnsigned 0 = .ok (.lload_n 2, 1) := by decide +kernel
theorem V.dJ5_divideUnsigned_1 : decode cJ5_divideUnsigned 1 = .ok (.lconst 0, 1) := by decide +kernel
theorem V.dJ5_divideUnsigned_2 : decode cJ5_divideUnsigned 2 = .ok (.lcmp, 1) := by decide +kernel
theorem V.dJ5_divideUnsigned_3 : decode cJ5_divideUnsigned 3 = .ok (.ifCond .lt 38, 3) := by decide +kernel
theorem V.dJ5_divideUnsigned_6 : decode cJ5_divideUnsigned 6 = .ok (.lload_n 0, 1) := by decide +kernel
theorem V.dJ5_divideUnsigned_7 : decode cJ5_divideUnsigned 7 = .ok (.iconst 1, 1) := by decide +kernel
theorem V.dJ5_divideUnsigned_8 : decode cJ5_divideUnsigned 8 = .ok (.lushr, 1) := by decide +kernel
theorem V.dJ5_divideUnsigned_9 : decode cJ5_divideUnsigned 9 = .ok (.lload_n 2, 1) := by decide +kernel
theorem V.dJ5_divideUnsigned_10 : decode cJ5_divideUnsigned 10 = .ok (.ldiv, 1) := by decide +kernel
theorem V.dJ5_divideUnsigned_11 : decode cJ5_divideUnsigned 11 = .ok (.iconst 1, 1) := by decide +kernel
theorem V.dJ5_divideUnsigned_12 : decode cJ5_divideUnsigned 12 = .ok (.lshl, 1) := by decide +kernel
theorem V.dJ5_divideUnsigned_13 : decode cJ5_divideUnsigned 13 = .ok (.lstore 4, 2) := by decide +kernel
theorem V.dJ5_divideUnsigned_15 : decode cJ5_divideUnsigned 15 = .ok (.lload_n 0, 1) := by decide +kernel
theorem V.dJ5_divideUnsigned_16 : decode cJ5_divideUnsigned 16 = .ok (.lload 4, 2) := by decide +kernel
theorem V.dJ5_divideUnsigned_18 : decode cJ5_divideUnsigned 18 = .ok (.lload_n 2, 1) := by decide +kernel
theorem V.dJ5_divideUnsigned_19 : decode cJ5_divideUnsigned 19 = .ok (.lmul, 1) := by decide +kernel
theorem V.dJ5_divideUnsigned_20 : decode cJ5_divideUnsigned 20 = .ok (.lsub, 1) := by decide +kernel
theorem V.dJ5_divideUnsigned_21 : decode cJ5_divideUnsigned 21 = .ok (.lstore 6, 2) := by decide +kernel
theorem V.dJ5_divideUnsigned_23 : decode cJ5_divideUnsigned 23 = .ok (.lload 4, 2) := by decide +kernel
theorem V.dJ5_divideUnsigned_25 : decode cJ5_divideUnsigned 25 = .ok (.lload 6, 2) := by decide +kernel
theorem V.dJ5_divideUnsigned_27 : decode cJ5_divideUnsigned 27 = .ok (.lload 6, 2) := by decide +kernel
theorem V.dJ5_divideUnsigned_29 : decode cJ5_divideUnsigned 29 = .ok (.lload_n 2, 1) := by decide +kernel
theorem V.dJ5_divideUnsigned_30 : decode cJ5_divideUnsigned 30 = .ok (.lsub, 1) := by decide +kernel
theorem V.dJ5_divideUnsigned_31 : decode cJ5_divideUnsigned 31 = .ok (.ldc2_w 306, 3) := by decide +kernel
theorem V.dJ5_divideUnsigned_34 : decode cJ5_divideUnsigned 34 = .ok (.lxor, 1) := by decide +kernel
theorem V.dJ5_divideUnsigned_35 : decode cJ5_divideUnsigned 35 = .ok (.lor, 1) := by decide +kernel
theorem V.dJ5_divideUnsigned_36 : decode cJ5_divideUnsigned 36 = .ok (.bipush 63, 2) := by decide +kernel
theorem V.dJ5_divideUnsigned_38 : decode cJ5_divideUnsigned 38 = .ok (.lushr, 1) := by decide +kernel
theorem V.dJ5_divideUnsigned_39 : decode cJ5_divideUnsigned 39 = .ok (.ladd, 1) := by decide +kernel
theorem V.dJ5_divideUnsigned_40 : decode cJ5_divideUnsigned 40 = .ok (.lreturn, 1) := by decide +kernel
theorem V.dJ5_divideUnsigned_41 : decode cJ5_divideUnsigned 41 = .ok (.lload_n 0, 1) := by decide +kernel
theorem V.dJ5_divideUnsigned_42 : decode cJ5_divideUnsigned 42 = .ok (.lload_n 0, 1) := by decide +kernel
theorem V.dJ5_divideUnsigned_43 : decode cJ5_divideUnsigned 43 = .ok (.lload_n 2, 1) := by decide +kernel
theorem V.dJ5_divideUnsigned_44 : decode cJ5_divideUnsigned 44 = .ok (.lsub, 1) := by decide +kernel
theorem V.dJ5_divideUnsigned_45 : decode cJ5_divideUnsigned 45 = .ok (.ldc2_w 306, 3) := by decide +kernel
theorem V.dJ5_divideUnsigned_48 : decode cJ5_divideUnsigned 48 = .ok (.lxor, 1) := by decide +kernel
theorem V.dJ5_divideUnsigned_49 : decode cJ5_divideUnsigned 49 = .ok (.land, 1) := by decide +kernel
theorem V.dJ5_divideUnsigned_50 : decode cJ5_divideUnsigned 50 = .ok (.bipush 63, 2) := by decide +kernel
theorem V.dJ5_divideUnsigned_52 : decode cJ5_divideUnsigned 52 = .ok (.lushr, 1) := by decide +kernel
theorem V.dJ5_divideUnsigned_53 : decode cJ5_divideUnsigned 53 = .ok (.lreturn, 1) := by decide +kernel
/-! java/lang/Long.divideUnsigned(JJ)J -/
def V.Lng_divideUnsigned (σ : HS) (x0 : Int64) (x2 : Int64) : Option (Int64 × HS) :=
  if x2 < (0 : Int64) then (
    some (lushr (x0 &&& ((x0 - x2) ^^^ (-1 : Int64))) (63 : Int32), σ))
  else (
    ck (¬ x2 = 0) <|
    bn (lshl ((lushr x0 (1 : Int32)) / x2) (1 : Int32)) fun y1 =>
    bn (x0 - (y1 * x2)) fun y2 =>
    some (y1 + (lushr (y2 ||| ((y2 - x2) ^^^ (-1 : Int64))) (63 : Int32)), σ))
theorem V.ctJ5_divideUnsigned (x0 : Int64) (x2 : Int64) : Ct yJ5_divideUnsigned  cJ5_divideUnsigned 8 (some .long) 0 0 eJ [jv x0, jv x2] (fun σ => Lng_divideUnsigned σ x0 x2) := by
  refine Ct.of (own := RJ5) (nm := "divideUnsigned") (desc := "(JJ)J") rfl (by decide) (Nat.le_of_ble_eq_true rfl) (by decide) (fun X σ => ?_)
  show G X RJ5 "divideUnsigned" cJ5_divideUnsigned 8 (some .long) 0 0 enJ 0 [(0, jv x0), (2, jv x2)] [] σ (Lng_divideUnsigned σ x0 x2)
  unfold Lng_divideUnsigned
  refine g_lload_n 2 1 dJ5_divideUnsigned_0 rfl rfl ?_
  refine g_lconst (v := 0) dJ5_divideUnsigned_1 (by decide) ?_
  refine g_lcmp_lt 41 dJ5_divideUnsigned_2 dJ5_divideUnsigned_3 (by decide) ?_ ?_
  · refine g_lload_n 0 0 dJ5_divideUnsigned_41 rfl rfl ?_
    refine g_lload_n 0 0 dJ5_divideUnsigned_42 rfl rfl ?_
    refine g_lload_n 2 1 dJ5_divideUnsigned_43 rfl rfl ?_
    refine g_lsub dJ5_divideUnsigned_44 ?_
    refine g_ldc2 q4231 dJ5_divideUnsigned_45 ?_
    refine g_lxor dJ5_divideUnsigned_48 ?_
    refine g_land dJ5_divideUnsigned_49 ?_
    refine g_bipush (v := 63) dJ5_divideUnsigned_50 (by decide) ?_
    refine g_lushr dJ5_divideUnsigned_52 ?_
    exact g_lreturn rfl dJ5_divideUnsigned_53
  · refine g_lload_n 0 0 dJ5_divideUnsigned_6 rfl rfl ?_
    refine g_iconst (v := 1) dJ5_divideUnsigned_7 (by decide) ?_
    refine g_lushr dJ5_divideUnsigned_8 ?_
    refine g_lload_n 2 1 dJ5_divideUnsigned_9 rfl rfl ?_
    refine g_ldiv dJ5_divideUnsigned_10 ?_
    refine g_iconst (v := 1) dJ5_divideUnsigned_11 (by decide) ?_
    refine g_lshl dJ5_divideUnsigned_12 ?_
    refine g_nmJ (fun y1 => ?_)
    refine g_lstore dJ5_divideUnsigned_13 (by decide) rfl ?_
    refine g_lload_n 0 1 dJ5_divideUnsigned_15 rfl rfl ?_
    refine g_lload 0 dJ5_divideUnsigned_16 rfl ?_
    refine g_lload_n 2 2 dJ5_divideUnsigned_18 rfl rfl ?_
    refine g_lmul dJ5_divideUnsigned_19 ?_
    refine g_lsub dJ5_divideUnsigned_20 ?_
    refine g_nmJ (fun y2 => ?_)
    refine g_lstore dJ5_divideUnsigned_21 (by decide) rfl ?_
    refine g_lload 1 dJ5_divideUnsigned_23 rfl ?_
    refine g_lload 0 dJ5_divideUnsigned_25 rfl ?_
    refine g_lload 0 dJ5_divideUnsigned_27 rfl ?_
    refine g_lload_n 2 3 dJ5_divideUnsigned_29 rfl rfl ?_
    refine g_lsub dJ5_divideUnsigned_30 ?_
    refine g_ldc2 q4231 dJ5_divideUnsigned_31 ?_
    refine g_lxor dJ5_divideUnsigned_34 ?_
    refine g_lor dJ5_divideUnsigned_35 ?_
    refine g_bipush (v := 63) dJ5_divideUnsigned_36 (by decide) ?_
    refine g_lushr dJ5_divideUnsigned_38 ?_
    refine g_ladd dJ5_divideUnsigned_39 ?_
    exact g_lreturn rfl dJ5_divideUnsigned_40
theorem V.dJ5_remainderUnsigned_0 : decode cJ5_remainderUnsigned 0 = .ok (.lload_n 2, 1) := by decide +kernel
theorem V.dJ5_remainderUnsigned_1 : decode cJ5_remainderUnsigned 1 = .ok (.lconst 0, 1) := by decide +kernel
theorem V.dJ5_remainderUnsigned_2 : decode cJ5_remainderUnsigned 2 = .ok (.lcmp, 1) := by decide +kernel
theorem V.dJ5_remainderUnsigned_3 : decode cJ5_remainderUnsigned 3 = .ok (.ifCond .lt 37, 3) := by decide +kernel
theorem V.dJ5_remainderUnsigned_6 : decode cJ5_remainderUnsigned 6 = .ok (.lload_n 0, 1) := by decide +kernel
theorem V.dJ5_remainderUnsigned_7 : decode cJ5_remainderUnsigned 7 = .ok (.iconst 1, 1) := by decide +kernel
theorem V.dJ5_remainderUnsigned_8 : decode cJ5_remainderUnsigned 8 = .ok (.lushr, 1) := by decide +kernel
theorem V.dJ5_remainderUnsigned_9 : decode cJ5_remainderUnsigned 9 = .ok (.lload_n 2, 1) := by decide +kernel
theorem V.dJ5_remainderUnsigned_10 : decode cJ5_remainderUnsigned 10 = .ok (.ldiv, 1) := by decide +kernel
theorem V.dJ5_remainderUnsigned_11 : decode cJ5_remainderUnsigned 11 = .ok (.iconst 1, 1) := by decide +kernel
theorem V.dJ5_remainderUnsigned_12 : decode cJ5_remainderUnsigned 12 = .ok (.lshl, 1) := by decide +kernel
theorem V.dJ5_remainderUnsigned_13 : decode cJ5_remainderUnsigned 13 = .ok (.lstore 4, 2) := by decide +kernel
theorem V.dJ5_remainderUnsigned_15 : decode cJ5_remainderUnsigned 15 = .ok (.lload_n 0, 1) := by decide +kernel
theorem V.dJ5_remainderUnsigned_16 : decode cJ5_remainderUnsigned 16 = .ok (.lload 4, 2) := by decide +kernel
theorem V.dJ5_remainderUnsigned_18 : decode cJ5_remainderUnsigned 18 = .ok (.lload_n 2, 1) := by decide +kernel
theorem V.dJ5_remainderUnsigned_19 : decode cJ5_remainderUnsigned 19 = .ok (.lmul, 1) := by decide +kernel
theorem V.dJ5_remainderUnsigned_20 : decode cJ5_remainderUnsigned 20 = .ok (.lsub, 1) := by decide +kernel
theorem V.dJ5_remainderUnsigned_21 : decode cJ5_remainderUnsigned 21 = .ok (.lstore 6, 2) := by decide +kernel
theorem V.dJ5_remainderUnsigned_23 : decode cJ5_remainderUnsigned 23 = .ok (.lload 6, 2) := by decide +kernel
theorem V.dJ5_remainderUnsigned_25 : decode cJ5_remainderUnsigned 25 = .ok (.lload 6, 2) := by decide +kernel
theorem V.dJ5_remainderUnsigned_27 : decode cJ5_remainderUnsigned 27 = .ok (.lload_n 2, 1) := by decide +kernel
theorem V.dJ5_remainderUnsigned_28 : decode cJ5_remainderUnsigned 28 = .ok (.lsub, 1) := by decide +kernel
theorem V.dJ5_remainderUnsigned_29 : decode cJ5_remainderUnsigned 29 = .ok (.ldc2_w 306, 3) := by decide +kernel
theorem V.dJ5_remainderUnsigned_32 : decode cJ5_remainderUnsigned 32 = .ok (.lxor, 1) := by decide +kernel
theorem V.dJ5_remainderUnsigned_33 : decode cJ5_remainderUnsigned 33 = .ok (.bipush 63, 2) := by decide +kernel
theorem V.dJ5_remainderUnsigned_35 : decode cJ5_remainderUnsigned 35 = .ok (.lshr, 1) := by decide +kernel
theorem V.dJ5_remainderUnsigned_36 : decode cJ5_remainderUnsigned 36 = .ok (.lload_n 2, 1) := by decide +kernel
theorem V.dJ5_remainderUnsigned_37 : decode cJ5_remainderUnsigned 37 = .ok (.land, 1) := by decide +kernel
theorem V.dJ5_remainderUnsigned_38 : decode cJ5_remainderUnsigned 38 = .ok (.lsub, 1) := by decide +kernel
theorem V.dJ5_remainderUnsigned_39 : decode cJ5_remainderUnsigned 39 = .ok (.lreturn, 1) := by decide +kernel
theorem V.dJ5_remainderUnsigned_40 : decode cJ5_remainderUnsigned 40 = .ok (.lload_n 0, 1) := by decide +kernel
theorem V.dJ5_remainderUnsigned_41 : decode cJ5_remainderUnsigned 41 = .ok (.lload_n 0, 1) := by decide +kernel
theorem V.dJ5_remainderUnsigned_42 : decode cJ5_remainderUnsigned 42 = .ok (.lload_n 0, 1) := by decide +kernel
theorem V.dJ5_remainderUnsigned_43 : decode cJ5_remainderUnsigned 43 = .ok (.lload_n 2, 1) := by decide +kernel
theorem V.dJ5_remainderUnsigned_44 : decode cJ5_remainderUnsigned 44 = .ok (.lsub, 1) := by decide +kernel
theorem V.dJ5_remainderUnsigned_45 : decode cJ5_remainderUnsigned 45 = .ok (.ldc2_w 306, 3) := by decide +kernel
theorem V.dJ5_remainderUnsigned_48 : decode cJ5_remainderUnsigned 48 = .ok (.lxor, 1) := by decide +kernel
theorem V.dJ5_remainderUnsigned_49 : decode cJ5_remainderUnsigned 49 = .ok (.land, 1) := by decide +kernel
theorem V.dJ5_remainderUnsigned_50 : decode cJ5_remainderUnsigned 50 = .ok (.bipush 63, 2) := by decide +kernel
theorem V.dJ5_remainderUnsigned_52 : decode cJ5_remainderUnsigned 52 = .ok (.lshr, 1) := by decide +kernel
theorem V.dJ5_remainderUnsigned_53 : decode cJ5_remainderUnsigned 53 = .ok (.lload_n 2, 1) := by decide +kernel
theorem V.dJ5_remainderUnsigned_54 : decode cJ5_remainderUnsigned 54 = .ok (.land, 1) := by decide +kernel
theorem V.dJ5_remainderUnsigned_55 : decode cJ5_remainderUnsigned 55 = .ok (.lsub, 1) := by decide +kernel
theorem V.dJ5_remainderUnsigned_56 : decode cJ5_remainderUnsigned 56 = .ok (.lreturn, 1) := by decide +kernel
/-! java/lang/Long.remainderUnsigned(JJ)J -/
def V.Lng_remainderUnsigned (σ : HS) (x0 : Int64) (x2 : Int64) : Option (Int64 × HS) :=
  if x2 < (0 : Int64) then (
    some (x0 - ((lshr (x0 &&& ((x0 - x2) ^^^ (-1 : Int64))) (63 : Int32)) &&& x2), σ))
  else (
    ck (¬ x2 = 0) <|
    bn (lshl ((lushr x0 (1 : Int32)) / x2) (1 : Int32)) fun y1 =>
    bn (x0 - (y1 * x2)) fun y2 =>
    some (y2 - ((lshr ((y2 - x2) ^^^ (-1 : Int64)) (63 : Int32)) &&& x2), σ))
theorem V.ctJ5_remainderUnsigned (x0 : Int64) (x2 : Int64) : Ct yJ5_remainderUnsigned  cJ5_remainderUnsigned 8 (some .long) 0 0 eJ [jv x0, jv x2] (fun σ => Lng_remainderUnsigned σ x0 x2) := by
  refine Ct.of (own := RJ5) (nm := "remainderUnsigned") (desc := "(JJ)J") rfl (by decide) (Nat.le_of_ble_eq_true rfl) (by decide) (fun X σ => ?_)
  show G X RJ5 "remainderUnsigned" cJ5_remainderUnsigned 8 (some .long) 0 0 enJ 0 [(0, jv x0), (2, jv x2)] [] σ (Lng_remainderUnsigned σ x0 x2)
  unfold Lng_remainderUnsigned
  refine g_lload_n 2 1 dJ5_remainderUnsigned_0 rfl rfl ?_
  refine g_lconst (v := 0) dJ5_remainderUnsigned_1 (by decide) ?_
  refine g_lcmp_lt 40 dJ5_remainderUnsigned_2 dJ5_remainderUnsigned_3 (by decide) ?_ ?_
  · refine g_lload_n 0 0 dJ5_remainderUnsigned_40 rfl rfl ?_
    refine g_lload_n 0 0 dJ5_remainderUnsigned_41 rfl rfl ?_
    refine g_lload_n 0 0 dJ5_remainderUnsigned_42 rfl rfl ?_
    refine g_lload_n 2 1 dJ5_remainderUnsigned_43 rfl rfl ?_
    refine g_lsub dJ5_remainderUnsigned_44 ?_
    refine g_ldc2 q4231 dJ5_remainderUnsigned_45 ?_
    refine g_lxor dJ5_remainderUnsigned_48 ?_
    refine g_land dJ5_remainderUnsigned_49 ?_
    refine g_bipush (v := 63) dJ5_remainderUnsigned_50 (by decide) ?_
    refine g_lshr dJ5_remainderUnsigned_52 ?_
    refine g_lload_n 2 1 dJ5_remainderUnsigned_53 rfl rfl ?_
    refine g_land dJ5_remainderUnsigned_54 ?_
    refine g_lsub dJ5_remainderUnsigned_55 ?_
    exact g_lreturn rfl dJ5_remainderUnsigned_56
  · refine g_lload_n 0 0 dJ5_remainderUnsigned_6 rfl rfl ?_
    refine g_iconst (v := 1) dJ5_remainderUnsigned_7 (by decide) ?_
    refine g_lushr dJ5_remainderUnsigned_8 ?_
    refine g_lload_n 2 1 dJ5_remainderUnsigned_9 rfl rfl ?_
    refine g_ldiv dJ5_remainderUnsigned_10 ?_
    refine g_iconst (v := 1) dJ5_remainderUnsigned_11 (by decide) ?_
    refine g_lshl dJ5_remainderUnsigned_12 ?_
    refine g_nmJ (fun y1 => ?_)
    refine g_lstore dJ5_remainderUnsigned_13 (by decide) rfl ?_
    refine g_lload_n 0 1 dJ5_remainderUnsigned_15 rfl rfl ?_
    refine g_lload 0 dJ5_remainderUnsigned_16 rfl ?_
    refine g_lload_n 2 2 dJ5_remainderUnsigned_18 rfl rfl ?_
    refine g_lmul dJ5_remainderUnsigned_19 ?_
    refine g_lsub dJ5_remainderUnsigned_20 ?_
    refine g_nmJ (fun y2 => ?_)
    refine g_lstore dJ5_remainderUnsigned_21 (by decide) rfl ?_
    refine g_lload 0 dJ5_remainderUnsigned_23 rfl ?_
    refine g_lload 0 dJ5_remainderUnsigned_25 rfl ?_
    refine g_lload_n 2 3 dJ5_remainderUnsigned_27 rfl rfl ?_
    refine g_lsub dJ5_remainderUnsigned_28 ?_
    refine g_ldc2 q4231 dJ5_remainderUnsigned_29 ?_
    refine g_lxor dJ5_remainderUnsigned_32 ?_
    refine g_bipush (v := 63) dJ5_remainderUnsigned_33 (by decide) ?_
    refine g_lshr dJ5_remainderUnsigned_35 ?_
    refine g_lload_n 2 3 dJ5_remainderUnsigned_36 rfl rfl ?_
    refine g_land dJ5_remainderUnsigned_37 ?_
    refine g_lsub dJ5_remainderUnsigned_38 ?_
    exact g_lreturn rfl dJ5_remainderUnsigned_39
theorem V.dX5_init_0 : decode cX5_init 0 = .ok (.aload_n 0, 1) := by decide +kernel
theorem V.dX5_init_1 : decode cX5_init 1 = .ok (.invokespecial 1, 3) := by decide +kernel
theorem V.dX5_init_4 : decode cX5_init 4 = .ok (.aload_n 0, 1) := by decide +kernel
theorem V.dX5_init_5 : decode cX5_init 5 = .ok (.iload_n 1, 1) := by decide +kernel
theorem V.dX5_init_6 : decode cX5_init 6 = .ok (.putfield 7, 3) := by decide +kernel
theorem V.dX5_init_9 : decode cX5_init 9 = .ok (.aload_n 0, 1) := by decide +kernel
theorem V.dX5_init_10 : decode cX5_init 10 = .ok (.iload_n 2, 1) := by decide +kernel
theorem V.dX5_init_11 : decode cX5_init 11 = .ok (.putfield 13, 3) := by decide +kernel
theorem V.dX5_init_14 : decode cX5_init 14 = .ok (.aload_n 0, 1) := by decide +kernel
theorem V.dX5_init_15 : decode cX5_init 15 = .ok (.iload_n 3, 1) := by decide +kernel
theorem V.dX5_init_16 : decode cX5_init 16 = .ok (.putfield 16, 3) := by decide +kernel
theorem V.dX5_init_19 : decode cX5_init 19 = .ok (.aload_n 0, 1) := by decide +kernel
theorem V.dX5_init_20 : decode cX5_init 20 = .ok (.lconst 1, 1) := by decide +kernel
theorem V.dX5_init_21 : decode cX5_init 21 = .ok (.iload_n 2, 1) := by decide +kernel
theorem V.dX5_init_22 : decode cX5_init 22 = .ok (.iconst 1, 1) := by decide +kernel
theorem V.dX5_init_23 : decode cX5_init 23 = .ok (.isub, 1) := by decide +kernel
theorem V.dX5_init_24 : decode cX5_init 24 = .ok (.lshl, 1) := by decide +kernel
theorem V.dX5_init_25 : decode cX5_init 25 = .ok (.putfield 19, 3) := by decide +kernel
theorem V.dX5_init_28 : decode cX5_init 28 = .ok (.aload_n 0, 1) := by decide +kernel
theorem V.dX5_init_29 : decode cX5_init 29 = .ok (.ldc2_w 23, 3) := by decide +kernel
theorem V.dX5_init_32 : decode cX5_init 32 = .ok (.iload_n 3, 1) := by decide +kernel
theorem V.dX5_init_33 : decode cX5_init 33 = .ok (.i2l, 1) := by decide +kernel
theorem V.dX5_init_34 : decode cX5_init 34 = .ok (.lmul, 1) := by decide +kernel
theorem V.dX5_init_35 : decode cX5_init 35 = .ok (.lconst 1, 1) := by decide +kernel
theorem V.dX5_init_36 : decode cX5_init 36 = .ok (.ladd, 1) := by decide +kernel
theorem V.dX5_init_37 : decode cX5_init 37 = .ok (.aload_n 0, 1) := by decide +kernel
theorem V.dX5_init_38 : decode cX5_init 38 = .ok (.getfield 19, 3) := by decide +kernel
theorem V.dX5_init_41 : decode cX5_init 41 = .ok (.lmul, 1) := by decide +kernel
theorem V.dX5_init_42 : decode cX5_init 42 = .ok (.putfield 25, 3) := by decide +kernel
theorem V.dX5_init_45 : decode cX5_init 45 = .ok (.aload_n 0, 1) := by decide +kernel
theorem V.dX5_init_46 : decode cX5_init 46 = .ok (.aload_n 0, 1) := by decide +kernel
theorem V.dX5_init_47 : decode cX5_init 47 = .ok (.getfield 25, 3) := by decide +kernel
theorem V.dX5_init_50 : decode cX5_init 50 = .ok (.aload_n 0, 1) := by decide +kernel
theorem V.dX5_init_51 : decode cX5_init 51 = .ok (.getfield 19, 3) := by decide +kernel
theorem V.dX5_init_54 : decode cX5_init 54 = .ok (.ldc2_w 23, 3) := by decide +kernel
theorem V.dX5_init_57 : decode cX5_init 57 = .ok (.ldiv, 1) := by decide +kernel
theorem V.dX5_init_58 : decode cX5_init 58 = .ok (.ladd, 1) := by decide +kernel
theorem V.dX5_init_59 : decode cX5_init 59 = .ok (.putfield 28, 3) := by decide +kernel
theorem V.dX5_init_62 : decode cX5_init 62 = .ok (.return_, 1) := by decide +kernel
theorem V.fpX5_7 : FP RX5 "<init>" 7 5 0 (.int) := ⟨(RX5, TX5, 6), tyX5, rfl, rfl, in_X5, by decide, tyX5_ok, nmX5, rfl, Or.inr ⟨rfl, rfl, rfl, q584⟩⟩
theorem V.fpX5_13 : FP RX5 "<init>" 13 5 1 (.int) := ⟨(RX5, TX5, 6), tyX5, rfl, rfl, in_X5, by decide, tyX5_ok, nmX5, rfl, Or.inr ⟨rfl, rfl, rfl, q585⟩⟩
theorem V.fpX5_16 : FP RX5 "<init>" 16 5 2 (.int) := ⟨(RX5, TX5, 6), tyX5, rfl, rfl, in_X5, by decide, tyX5_ok, nmX5, rfl, Or.inr ⟨rfl, rfl, rfl, q586⟩⟩
theorem V.fpX5_19 : FP RX5 "<init>" 19 5 3 (.long) := ⟨(RX5, TX5, 6), tyX5, rfl, rfl, in_X5, by decide, tyX5_ok, nmX5, rfl, Or.inr ⟨rfl, rfl, rfl, q588⟩⟩
theorem V.fdX5_19 : FD RX5 19 5 3 1 := ⟨(RX5, TX5, 6), tyX5, rfl, rfl, in_X5, by decide, Or.inl q588, rfl⟩
theorem V.fpX5_25 : FP RX5 "<init>" 25 5 5 (.long) := ⟨(RX5, TX5, 6), tyX5, rfl, rfl, in_X5, by decide, tyX5_ok, nmX5, rfl, Or.inr ⟨rfl, rfl, rfl, q591⟩⟩
theorem V.fdX5_25 : FD RX5 25 5 5 1 := ⟨(RX5, TX5, 6), tyX5, rfl, rfl, in_X5, by decide, Or.inl q591, rfl⟩
theorem V.fpX5_28 : FP RX5 "<init>" 28 5 4 (.long) := ⟨(RX5, TX5, 6), tyX5, rfl, rfl, in_X5, by decide, tyX5_ok, nmX5, rfl, Or.inr ⟨rfl, rfl, rfl, q589⟩⟩
/-! ModuleEngine$Numbers$Format.<init>(III)V -/
def V.Fmt_init (σ : HS) (x0 : Nat) (x1 : Int32) (x2 : Int32) (x3 : Int32) : Option (Unit × HS) :=
  ck (¬ x0 = 0) <|
  ck (tg σ x0 = 6) <| bn (sI σ x0 0 x1) fun σ1 =>
  ck (tg σ1 x0 = 6) <| bn (sI σ1 x0 1 x2) fun σ2 =>
  ck (tg σ2 x0 = 6) <| bn (sI σ2 x0 2 x3) fun σ3 =>
  ck (tg σ3 x0 = 6) <| bn (sJ σ3 x0 3 (lshl (1 : Int64) (x2 - (1 : Int32)))) fun σ4 =>
  ck (tg σ4 x0 = 6) <|
  ck (tg σ4 x0 = 6) <| bn (sJ σ4 x0 5 ((((2 : Int64) * x3.toInt64) + (1 : Int64)) * (gJ σ4 x0 3))) fun σ5 =>
  ck (tg σ5 x0 = 6) <|
  ck (tg σ5 x0 = 6) <|
  ck (¬ (2 : Int64) = 0) <|
  ck (tg σ5 x0 = 6) <| bn (sJ σ5 x0 4 ((gJ σ5 x0 5) + ((gJ σ5 x0 3) / (2 : Int64)))) fun σ6 =>
  some ((), σ6)
theorem V.ctX5_init (x0 : Nat) (x1 : Int32) (x2 : Int32) (x3 : Int32) : Ct yX5_init  cX5_init 4 none 1 24 eV [av x0, iv x1, iv x2, iv x3] (fun σ => Fmt_init σ x0 x1 x2 x3) := by
  refine Ct.of (own := RX5) (nm := "<init>") (desc := "(III)V") rfl (by decide) (Nat.le_of_ble_eq_true rfl) (by decide) (fun X σ => ?_)
  show G X RX5 "<init>" cX5_init 4 none 1 24 enV 0 [(0, av x0), (1, iv x1), (2, iv x2), (3, iv x3)] [] σ (Fmt_init σ x0 x1 x2 x3)
  unfold Fmt_init
  refine g_aload_n 0 0 dX5_init_0 rfl rfl ?_
  refine g_objInit q582 (Nat.le_of_ble_eq_true rfl) (Nat.le_of_ble_eq_true rfl) dX5_init_1 ?_
  refine g_aload_n 0 0 dX5_init_4 rfl rfl ?_
  refine g_iload_n 1 1 dX5_init_5 rfl rfl ?_
  refine g_putI fpX5_7 dX5_init_6 (fun σ1 => ?_)
  refine g_aload_n 0 0 dX5_init_9 rfl rfl ?_
  refine g_iload_n 2 2 dX5_init_10 rfl rfl ?_
  refine g_putI fpX5_13 dX5_init_11 (fun σ2 => ?_)
  refine g_aload_n 0 0 dX5_init_14 rfl rfl ?_
  refine g_iload_n 3 3 dX5_init_15 rfl rfl ?_
  refine g_putI fpX5_16 dX5_init_16 (fun σ3 => ?_)
  refine g_aload_n 0 0 dX5_init_19 rfl rfl ?_
  refine g_lconst (v := 1) dX5_init_20 (by decide) ?_
  refine g_iload_n 2 2 dX5_init_21 rfl rfl ?_
  refine g_iconst (v := 1) dX5_init_22 (by decide) ?_
  refine g_isub dX5_init_23 ?_
  refine g_lshl dX5_init_24 ?_
  refine g_putJ fpX5_19 dX5_init_25 (fun σ4 => ?_)
  refine g_aload_n 0 0 dX5_init_28 rfl rfl ?_
  refine g_ldc2 q583 dX5_init_29 ?_
  refine g_iload_n 3 3 dX5_init_32 rfl rfl ?_
  refine g_i2l dX5_init_33 ?_
  refine g_lmul dX5_init_34 ?_
  refine g_lconst (v := 1) dX5_init_35 (by decide) ?_
  refine g_ladd dX5_init_36 ?_
  refine g_aload_n 0 0 dX5_init_37 rfl rfl ?_
  refine g_getJ fdX5_19 dX5_init_38 ?_
  refine g_lmul dX5_init_41 ?_
  refine g_putJ fpX5_25 dX5_init_42 (fun σ5 => ?_)
  refine g_aload_n 0 0 dX5_init_45 rfl rfl ?_
  refine g_aload_n 0 0 dX5_init_46 rfl rfl ?_
  refine g_getJ fdX5_25 dX5_init_47 ?_
  refine g_aload_n 0 0 dX5_init_50 rfl rfl ?_
  refine g_getJ fdX5_19 dX5_init_51 ?_
  refine g_ldc2 q583 dX5_init_54 ?_
  refine g_ldiv dX5_init_57 ?_
  refine g_ladd dX5_init_58 ?_
  refine g_putJ fpX5_28 dX5_init_59 (fun σ6 => ?_)
  exact g_return rfl dX5_init_62
theorem V.dX5_signBit_0 : decode cX5_signBit 0 = .ok (.lconst 1, 1) := by decide +kernel
theorem V.dX5_signBit_1 : decode cX5_signBit 1 = .ok (.aload_n 0, 1) := by decide +kernel
theorem V.dX5_signBit_2 : decode cX5_signBit 2 = .ok (.getfield 7, 3) := by decide +kernel
theorem V.dX5_signBit_5 : decode cX5_signBit 5 = .ok (.iconst 1, 1) := by decide +kernel
theorem V.dX5_signBit_6 : decode cX5_signBit 6 = .ok (.isub, 1) := by decide +kernel
theorem V.dX5_signBit_7 : decode cX5_signBit 7 = .ok (.lshl, 1) := by decide +kernel
theorem V.dX5_signBit_8 : decode cX5_signBit 8 = .ok (.lreturn, 1) := by decide +kernel
theorem V.fdX5_7 : FD RX5 7 5 0 0 := ⟨(RX5, TX5, 6), tyX5, rfl, rfl, in_X5, by decide, Or.inl q584, rfl⟩
/-! ModuleEngine$Numbers$Format.signBit()J -/
def V.Fmt_signBit (σ : HS) (x0 : Nat) : Option (Int64 × HS) :=
  ck (tg σ x0 = 6) <|
  some (lshl (1 : Int64) ((gI σ x0 0) - (1 : Int32)), σ)
theorem V.ctX5_signBit (x0 : Nat) : Ct yX5_signBit  cX5_signBit 1 (some .long) 0 0 eJ [av x0] (fun σ => Fmt_signBit σ x0) := by
  refine Ct.of (own := RX5) (nm := "signBit") (desc := "()J") rfl (by decide) (Nat.le_of_ble_eq_true rfl) (by decide) (fun X σ => ?_)
  show G X RX5 "signBit" cX5_signBit 1 (some .long) 0 0 enJ 0 [(0, av x0)] [] σ (Fmt_signBit σ x0)
  unfold Fmt_signBit
  refine g_lconst (v := 1) dX5_signBit_0 (by decide) ?_
  refine g_aload_n 0 0 dX5_signBit_1 rfl rfl ?_
  refine g_getI fdX5_7 dX5_signBit_2 ?_
  refine g_iconst (v := 1) dX5_signBit_5 (by decide) ?_
  refine g_isub dX5_signBit_6 ?_
  refine g_lshl dX5_signBit_7 ?_
  exact g_lreturn rfl dX5_signBit_8
theorem V.dX5_rest_0 : decode cX5_rest 0 = .ok (.lload_n 1, 1) := by decide +kernel
theorem V.dX5_rest_1 : decode cX5_rest 1 = .ok (.aload_n 0, 1) := by decide +kernel
theorem V.dX5_rest_2 : decode cX5_rest 2 = .ok (.invokevirtual 31, 3) := by decide +kernel
theorem V.dX5_rest_5 : decode cX5_rest 5 = .ok (.lconst 1, 1) := by decide +kernel
theorem V.dX5_rest_6 : decode cX5_rest 6 = .ok (.lsub, 1) := by decide +kernel
theorem V.dX5_rest_7 : decode cX5_rest 7 = .ok (.land, 1) := by decide +kernel
theorem V.dX5_rest_8 : decode cX5_rest 8 = .ok (.lreturn, 1) := by decide +kernel
theorem V.mdX5_31 : MD RX5 31 yX5_signBit cX5_signBit 1 (some .long) 0 := ⟨Or.inl q2543, q365, q2546, by decide, by decide, by decide +kernel⟩
/-! ModuleEngine$Numbers$Format.rest(J)J -/
def V.Fmt_rest (σ : HS) (x0 : Nat) (x1 : Int64) : Option (Int64 × HS) :=
  ck (tg σ x0 = 6) <| cl (Fmt_signBit σ x0 ) fun r2 σ1 =>
  some (x1 &&& (r2 - (1 : Int64)), σ1)
theorem V.ctX5_rest (x0 : Nat) (x1 : Int64) : Ct yX5_rest  cX5_rest 3 (some .long) 1 20 eJ [av x0, jv x1] (fun σ => Fmt_rest σ x0 x1) := by
  refine Ct.of (own := RX5) (nm := "rest") (desc := "(J)J") rfl (by decide) (Nat.le_of_ble_eq_true rfl) (by decide) (fun X σ => ?_)
  show G X RX5 "rest" cX5_rest 3 (some .long) 1 20 enJ 0 [(0, av x0), (1, jv x1)] [] σ (Fmt_rest σ x0 x1)
  unfold Fmt_rest
  refine g_lload_n 1 1 dX5_rest_0 rfl rfl ?_
  refine g_aload_n 0 0 dX5_rest_1 rfl rfl ?_
  refine g_callV (fc := fun sς => Fmt_signBit sς x0 ) (ci := 5) (as := []) rfl rfl rfl q2544 q2545 mdX5_31 (ctX5_signBit x0 ) rfl (Nat.le_of_ble_eq_true rfl) (Nat.le_of_ble_eq_true rfl) (Nat.le_of_ble_eq_true rfl) pu_J dX5_rest_2 (fun r2 σ1 => ?_)
  refine g_lconst (v := 1) dX5_rest_5 (by decide) ?_
  refine g_lsub dX5_rest_6 ?_
  refine g_land dX5_rest_7 ?_
  exact g_lreturn rfl dX5_rest_8
theorem V.dX5_isNone_0 : decode cX5_isNone 0 = .ok (.aload_n 0, 1) := by decide +kernel
theorem V.dX5_isNone_1 : decode cX5_isNone 1 = .ok (.lload_n 1, 1) := by decide +kernel
theorem V.dX5_isNone_2 : decode cX5_isNone 2 = .ok (.invokevirtual 35, 3) := by decide +kernel
theorem V.dX5_isNone_5 : decode cX5_isNone 5 = .ok (.aload_n 0, 1) := by decide +kernel
theorem V.dX5_isNone_6 : decode cX5_isNone 6 = .ok (.getfield 25, 3) := by decide +kernel
theorem V.dX5_isNone_9 : decode cX5_isNone 9 = .ok (.lcmp, 1) := by decide +kernel
theorem V.dX5_isNone_10 : decode cX5_isNone 10 = .ok (.ifCond .le 7, 3) := by decide +kernel
theorem V.dX5_isNone_13 : decode cX5_isNone 13 = .ok (.iconst 1, 1) := by decide +kernel
theorem V.dX5_isNone_14 : decode cX5_isNone 14 = .ok (.goto 4, 3) := by decide +kernel
theorem V.dX5_isNone_17 : decode cX5_isNone 17 = .ok (.iconst 0, 1) := by decide +kernel
theorem V.dX5_isNone_18 : decode cX5_isNone 18 = .ok (.ireturn, 1) := by decide +kernel
theorem V.mdX5_35 : MD RX5 35 yX5_rest cX5_rest 3 (some .long) 1 := ⟨Or.inl q2539, q365, q2542, by decide, by decide, by decide +kernel⟩
/-! ModuleEngine$Numbers$Format.isNone(J)Z -/
def V.Fmt_isNone (σ : HS) (x0 : Nat) (x1 : Int64) : Option (Int32 × HS) :=
  ck (tg σ x0 = 6) <| cl (Fmt_rest σ x0 x1) fun r2 σ1 =>
  ck (tg σ1 x0 = 6) <|
  if r2 ≤ (gJ σ1 x0 5) then (
    some ((0 : Int32), σ1))
  else (
    some ((1 : Int32), σ1))
theorem V.ctX5_isNone (x0 : Nat) (x1 : Int64) : Ct yX5_isNone  cX5_isNone 3 (some .boolean) 2 42 eI [av x0, jv x1] (fun σ => Fmt_isNone σ x0 x1) := by
  refine Ct.of (own := RX5) (nm := "isNone") (desc := "(J)Z") rfl (by decide) (Nat.le_of_ble_eq_true rfl) (by decide) (fun X σ => ?_)
  show G X RX5 "isNone" cX5_isNone 3 (some .boolean) 2 42 enI 0 [(0, av x0), (1, jv x1)] [] σ (Fmt_isNone σ x0 x1)
  unfold Fmt_isNone
  refine g_aload_n 0 0 dX5_isNone_0 rfl rfl ?_
  refine g_lload_n 1 1 dX5_isNone_1 rfl rfl ?_
  refine g_callV (fc := fun sς => Fmt_rest sς x0 x1) (ci := 5) (as := [jv x1]) rfl rfl rfl q2540 q2541 mdX5_35 (ctX5_rest x0 x1) rfl (Nat.le_of_ble_eq_true rfl) (Nat.le_of_ble_eq_true rfl) (Nat.le_of_ble_eq_true rfl) pu_J dX5_isNone_2 (fun r2 σ1 => ?_)
  refine g_aload_n 0 0 dX5_isNone_5 rfl rfl ?_
  refine g_getJ fdX5_25 dX5_isNone_6 ?_
  refine g_lcmp_le 17 dX5_isNone_9 dX5_isNone_10 (by decide) ?_ ?_
  · refine g_iconst (v := 0) dX5_isNone_17 (by decide) ?_
    exact g_zreturn rfl (by decide +kernel) dX5_isNone_18
  · refine g_iconst (v := 1) dX5_isNone_13 (by decide) ?_
    refine g_goto 18 dX5_isNone_14 (by decide) ?_
    exact g_zreturn rfl (by decide +kernel) dX5_isNone_18
theorem V.dX5_sign_0 : decode cX5_sign 0 = .ok (.lload_n 1, 1) := by decide +kernel
theorem V.dX5_sign_1 : decode cX5_sign 1 = .ok (.aload_n 0, 1) := by decide +kernel
theorem V.dX5_sign_2 : decode cX5_sign 2 = .ok (.invokevirtual 31, 3) := by decide +kernel
theorem V.dX5_sign_5 : decode cX5_sign 5 = .ok (.land, 1) := by decide +kernel
theorem V.dX5_sign_6 : decode cX5_sign 6 = .ok (.lconst 0, 1) := by decide +kernel
theorem V.dX5_sign_7 : decode cX5_sign 7 = .ok (.lcmp, 1) := by decide +kernel
theorem V.dX5_sign_8 : decode cX5_sign 8 = .ok (.ifCond .eq 7, 3) := by decide +kernel
theorem V.dX5_sign_11 : decode cX5_sign 11 = .ok (.iconst 1, 1) := by decide +kernel
theorem V.dX5_sign_12 : decode cX5_sign 12 = .ok (.goto 4, 3) := by decide +kernel
theorem V.dX5_sign_15 : decode cX5_sign 15 = .ok (.iconst 0, 1) := by decide +kernel
theorem V.dX5_sign_16 : decode cX5_sign 16 = .ok (.ireturn, 1) := by decide +kernel
/-! ModuleEngine$Numbers$Format.sign(J)Z -/
def V.Fmt_sign (σ : HS) (x0 : Nat) (x1 : Int64) : Option (Int32 × HS) :=
  ck (tg σ x0 = 6) <| cl (Fmt_signBit σ x0 ) fun r2 σ1 =>
  if (x1 &&& r2) = (0 : Int64) then (
    some ((0 : Int32), σ1))
  else (
    some ((1 : Int32), σ1))
theorem V.ctX5_sign (x0 : Nat) (x1 : Int64) : Ct yX5_sign  cX5_sign 3 (some .boolean) 1 20 eI [av x0, jv x1] (fun σ => Fmt_sign σ x0 x1) := by
  refine Ct.of (own := RX5) (nm := "sign") (desc := "(J)Z") rfl (by decide) (Nat.le_of_ble_eq_true rfl) (by decide) (fun X σ => ?_)
  show G X RX5 "sign" cX5_sign 3 (some .boolean) 1 20 enI 0 [(0, av x0), (1, jv x1)] [] σ (Fmt_sign σ x0 x1)
  unfold Fmt_sign
  refine g_lload_n 1 1 dX5_sign_0 rfl rfl ?_
  refine g_aload_n 0 0 dX5_sign_1 rfl rfl ?_
  refine g_callV (fc := fun sς => Fmt_signBit sς x0 ) (ci := 5) (as := []) rfl rfl rfl q2544 q2545 mdX5_31 (ctX5_signBit x0 ) rfl (Nat.le_of_ble_eq_true rfl) (Nat.le_of_ble_eq_true rfl) (Nat.le_of_ble_eq_true rfl) pu_J dX5_sign_2 (fun r2 σ1 => ?_)
  refine g_land dX5_sign_5 ?_
  refine g_lconst (v := 0) dX5_sign_6 (by decide) ?_
  refine g_lcmp_eq 15 dX5_sign_7 dX5_sign_8 (by decide) ?_ ?_
  · refine g_iconst (v := 0) dX5_sign_15 (by decide) ?_
    exact g_zreturn rfl (by decide +kernel) dX5_sign_16
  · refine g_iconst (v := 1) dX5_sign_11 (by decide) ?_
    refine g_goto 16 dX5_sign_12 (by decide) ?_
    exact g_zreturn rfl (by decide +kernel) dX5_sign_16
theorem V.dX5_signed_0 : decode cX5_signed 0 = .ok (.iload_n 1, 1) := by decide +kernel
theorem V.dX5_signed_1 : decode cX5_signed 1 = .ok (.ifCond .eq 12, 3) := by decide +kernel
theorem V.dX5_signed_4 : decode cX5_signed 4 = .ok (.lload_n 2, 1) := by decide +kernel
theorem V.dX5_signed_5 : decode cX5_signed 5 = .ok (.aload_n 0, 1) := by decide +kernel
theorem V.dX5_signed_6 : decode cX5_signed 6 = .ok (.invokevirtual 31, 3) := by decide +kernel
theorem V.dX5_signed_9 : decode cX5_signed 9 = .ok (.lor, 1) := by decide +kernel
theorem V.dX5_signed_10 : decode cX5_signed 10 = .ok (.goto 4, 3) := by decide +kernel
theorem V.dX5_signed_13 : decode cX5_signed 13 = .ok (.lload_n 2, 1) := by decide +kernel
theorem V.dX5_signed_14 : decode cX5_signed 14 = .ok (.lreturn, 1) := by decide +kernel
/-! ModuleEngine$Numbers$Format.signed(ZJ)J -/
def V.Fmt_signed (σ : HS) (x0 : Nat) (x1 : Int32) (x2 : Int64) : Option (Int64 × HS) :=
  if x1 = 0 then (
    some (x2, σ))
  else (
    ck (tg σ x0 = 6) <| cl (Fmt_signBit σ x0 ) fun r2 σ1 =>
    some (x2 ||| r2, σ1))
theorem V.ctX5_signed (x0 : Nat) (x1 : Int32) (x2 : Int64) : Ct yX5_signed  cX5_signed 4 (some .long) 1 20 eJ [av x0, iv x1, jv x2] (fun σ => Fmt_signed σ x0 x1 x2) := by
  refine Ct.of (own := RX5) (nm := "signed") (desc := "(ZJ)J") rfl (by decide) (Nat.le_of_ble_eq_true rfl) (by decide) (fun X σ => ?_)
  show G X RX5 "signed" cX5_signed 4 (some .long) 1 20 enJ 0 [(0, av x0), (1, iv x1), (2, jv x2)] [] σ (Fmt_signed σ x0 x1 x2)
  unfold Fmt_signed
  refine g_iload_n 1 1 dX5_signed_0 rfl rfl ?_
  refine g_if_eq 13 dX5_signed_1 (by decide) ?_ ?_
  · refine g_lload_n 2 2 dX5_signed_13 rfl rfl ?_
    exact g_lreturn rfl dX5_signed_14
  · refine g_lload_n 2 2 dX5_signed_4 rfl rfl ?_
    refine g_aload_n 0 0 dX5_signed_5 rfl rfl ?_
    refine g_callV (fc := fun sς => Fmt_signBit sς x0 ) (ci := 5) (as := []) rfl rfl rfl q2544 q2545 mdX5_31 (ctX5_signBit x0 ) rfl (Nat.le_of_ble_eq_true rfl) (Nat.le_of_ble_eq_true rfl) (Nat.le_of_ble_eq_true rfl) pu_J dX5_signed_6 (fun r2 σ1 => ?_)
    refine g_lor dX5_signed_9 ?_
    refine g_goto 14 dX5_signed_10 (by decide) ?_
    exact g_lreturn rfl dX5_signed_14
theorem V.dX5_exponent_0 : decode cX5_exponent 0 = .ok (.aload_n 0, 1) := by decide +kernel
theorem V.dX5_exponent_1 : decode cX5_exponent 1 = .ok (.lload_n 1, 1) := by decide +kernel
theorem V.dX5_exponent_2 : decode cX5_exponent 2 = .ok (.invokevirtual 35, 3) := by decide +kernel
theorem V.dX5_exponent_5 : decode cX5_exponent 5 = .ok (.aload_n 0, 1) := by decide +kernel
theorem V.dX5_exponent_6 : decode cX5_exponent 6 = .ok (.getfield 19, 3) := by decide +kernel
theorem V.dX5_exponent_9 : decode cX5_exponent 9 = .ok (.ldiv, 1) := by decide +kernel
theorem V.dX5_exponent_10 : decode cX5_exponent 10 = .ok (.l2i, 1) := by decide +kernel
theorem V.dX5_exponent_11 : decode cX5_exponent 11 = .ok (.ireturn, 1) := by decide +kernel
/-! ModuleEngine$Numbers$Format.exponent(J)I -/
def V.Fmt_exponent (σ : HS) (x0 : Nat) (x1 : Int64) : Option (Int32 × HS) :=
  ck (tg σ x0 = 6) <| cl (Fmt_rest σ x0 x1) fun r2 σ1 =>
  ck (tg σ1 x0 = 6) <|
  ck (¬ (gJ σ1 x0 3) = 0) <|
  some ((r2 / (gJ σ1 x0 3)).toInt32, σ1)
theorem V.ctX5_exponent (x0 : Nat) (x1 : Int64) : Ct yX5_exponent  cX5_exponent 3 (some .int) 2 42 eI [av x0, jv x1] (fun σ => Fmt_exponent σ x0 x1) := by
  refine Ct.of (own := RX5) (nm := "exponent") (desc := "(J)I") rfl (by decide) (Nat.le_of_ble_eq_true rfl) (by decide) (fun X σ => ?_)
  show G X RX5 "exponent" cX5_exponent 3 (some .int) 2 42 enI 0 [(0, av x0), (1, jv x1)] [] σ (Fmt_exponent σ x0 x1)
  unfold Fmt_exponent
  refine g_aload_n 0 0 dX5_exponent_0 rfl rfl ?_
  refine g_lload_n 1 1 dX5_exponent_1 rfl rfl ?_
  refine g_callV (fc := fun sς => Fmt_rest sς x0 x1) (ci := 5) (as := [jv x1]) rfl rfl rfl q2540 q2541 mdX5_35 (ctX5_rest x0 x1) rfl (Nat.le_of_ble_eq_true rfl) (Nat.le_of_ble_eq_true rfl) (Nat.le_of_ble_eq_true rfl) pu_J dX5_exponent_2 (fun r2 σ1 => ?_)
  refine g_aload_n 0 0 dX5_exponent_5 rfl rfl ?_
  refine g_getJ fdX5_19 dX5_exponent_6 ?_
  refine g_ldiv dX5_exponent_9 ?_
  refine g_l2i dX5_exponent_10 ?_
  exact g_ireturn rfl dX5_exponent_11
theorem V.dX5_scale_0 : decode cX5_scale 0 = .ok (.aload_n 0, 1) := by decide +kernel
theorem V.dX5_scale_1 : decode cX5_scale 1 = .ok (.lload_n 1, 1) := by decide +kernel
theorem V.dX5_scale_2 : decode cX5_scale 2 = .ok (.invokevirtual 39, 3) := by decide +kernel
theorem V.dX5_scale_5 : decode cX5_scale 5 = .ok (.ifCond .ne 7, 3) := by decide +kernel
theorem V.dX5_scale_8 : decode cX5_scale 8 = .ok (.iconst 1, 1) := by decide +kernel
theorem V.dX5_scale_9 : decode cX5_scale 9 = .ok (.goto 8, 3) := by decide +kernel
theorem V.dX5_scale_12 : decode cX5_scale 12 = .ok (.aload_n 0, 1) := by decide +kernel
theorem V.dX5_scale_13 : decode cX5_scale 13 = .ok (.lload_n 1, 1) := by decide +kernel
theorem V.dX5_scale_14 : decode cX5_scale 14 = .ok (.invokevirtual 39, 3) := by decide +kernel
theorem V.dX5_scale_17 : decode cX5_scale 17 = .ok (.iconst 1, 1) := by decide +kernel
theorem V.dX5_scale_18 : decode cX5_scale 18 = .ok (.iadd, 1) := by decide +kernel
theorem V.dX5_scale_19 : decode cX5_scale 19 = .ok (.aload_n 0, 1) := by decide +kernel
theorem V.dX5_scale_20 : decode cX5_scale 20 = .ok (.getfield 16, 3) := by decide +kernel
theorem V.dX5_scale_23 : decode cX5_scale 23 = .ok (.isub, 1) := by decide +kernel
theorem V.dX5_scale_24 : decode cX5_scale 24 = .ok (.aload_n 0, 1) := by decide +kernel
theorem V.dX5_scale_25 : decode cX5_scale 25 = .ok (.getfield 13, 3) := by decide +kernel
theorem V.dX5_scale_28 : decode cX5_scale 28 = .ok (.isub, 1) := by decide +kernel
theorem V.dX5_scale_29 : decode cX5_scale 29 = .ok (.ireturn, 1) := by decide +kernel
theorem V.mdX5_39 : MD RX5 39 yX5_exponent cX5_exponent 3 (some .int) 1 := ⟨Or.inl q2596, q365, q2599, by decide, by decide, by decide +kernel⟩
theorem V.fdX5_16 : FD RX5 16 5 2 0 := ⟨(RX5, TX5, 6), tyX5, rfl, rfl, in_X5, by decide, Or.inl q586, rfl⟩
theorem V.fdX5_13 : FD RX5 13 5 1 0 := ⟨(RX5, TX5, 6), tyX5, rfl, rfl, in_X5, by decide, Or.inl q585, rfl⟩
/-! ModuleEngine$Numbers$Format.scale(J)I -/
def V.Fmt_scale_p17  (σ : HS) (x0 : Nat) (s0 : Int32) : Option (Int32 × HS) :=
  ck (tg σ x0 = 6) <|
  ck (tg σ x0 = 6) <|
  some (((s0 + (1 : Int32)) - (gI σ x0 2)) - (gI σ x0 1), σ)
theorem V.gX5_scale_p17 {X : CX}  (σ : HS) (x0 : Nat) (s0 : Int32) : G X RX5 "scale" cX5_scale 3 (some .int) 3 64 enI 17 [(0, av x0)] [iv s0] σ (Fmt_scale_p17 σ x0 s0) := by
  unfold Fmt_scale_p17
  refine g_iconst (v := 1) dX5_scale_17 (by decide) ?_
  refine g_iadd dX5_scale_18 ?_
  refine g_aload_n 0 0 dX5_scale_19 rfl rfl ?_
  refine g_getI fdX5_16 dX5_scale_20 ?_
  refine g_isub dX5_scale_23 ?_
  refine g_aload_n 0 0 dX5_scale_24 rfl rfl ?_
  refine g_getI fdX5_13 dX5_scale_25 ?_
  refine g_isub dX5_scale_28 ?_
  exact g_ireturn rfl dX5_scale_29
def V.Fmt_scale (σ : HS) (x0 : Nat) (x1 : Int64) : Option (Int32 × HS) :=
  ck (tg σ x0 = 6) <| cl (Fmt_exponent σ x0 x1) fun r2 σ1 =>
  if r2 = 0 then (
    Fmt_scale_p17 σ1 x0 (1 : Int32))
  else (
    ck (tg σ1 x0 = 6) <| cl (Fmt_exponent σ1 x0 x1) fun r4 σ3 =>
    Fmt_scale_p17 σ3 x0 r4)
theorem V.ctX5_scale (x0 : Nat) (x1 : Int64) : Ct yX5_scale  cX5_scale 3 (some .int) 3 64 eI [av x0, jv x1] (fun σ => Fmt_scale σ x0 x1) := by
  refine Ct.of (own := RX5) (nm := "scale") (desc := "(J)I") rfl (by decide) (Nat.le_of_ble_eq_true rfl) (by decide) (fun X σ => ?_)
  show G X RX5 "scale" cX5_scale 3 (some .int) 3 64 enI 0 [(0, av x0), (1, jv x1)] [] σ (Fmt_scale σ x0 x1)
  unfold Fmt_scale
  refine g_aload_n 0 0 dX5_scale_0 rfl rfl ?_
  refine g_lload_n 1 1 dX5_scale_1 rfl rfl ?_
  refine g_callV (fc := fun sς => Fmt_exponent sς x0 x1) (ci := 5) (as := [jv x1]) rfl rfl rfl q2597 q2598 mdX5_39 (ctX5_exponent x0 x1) rfl (Nat.le_of_ble_eq_true rfl) (Nat.le_of_ble_eq_true rfl) (Nat.le_of_ble_eq_true rfl) pu_I dX5_scale_2 (fun r2 σ1 => ?_)
  refine g_if_ne 12 dX5_scale_5 (by decide) ?_ ?_
  · refine g_aload_n 0 0 dX5_scale_12 rfl rfl ?_
    refine g_lload_n 1 1 dX5_scale_13 rfl rfl ?_
    refine g_callV (fc := fun sς => Fmt_exponent sς x0 x1) (ci := 5) (as := [jv x1]) rfl rfl rfl q2597 q2598 mdX5_39 (ctX5_exponent x0 x1) rfl (Nat.le_of_ble_eq_true rfl) (Nat.le_of_ble_eq_true rfl) (Nat.le_of_ble_eq_true rfl) pu_I dX5_scale_14 (fun r4 σ3 => ?_)
    refine G.sub [0] rfl ?_
    exact gX5_scale_p17 _ _ _
  · refine g_iconst (v := 1) dX5_scale_8 (by decide) ?_
    refine g_goto 17 dX5_scale_9 (by decide) ?_
    refine G.sub [0] rfl ?_
    exact gX5_scale_p17 _ _ _
theorem V.dX5_isInfinite_0 : decode cX5_isInfinite 0 = .ok (.aload_n 0, 1) := by decide +kernel
theorem V.dX5_isInfinite_1 : decode cX5_isInfinite 1 = .ok (.lload_n 1, 1) := by decide +kernel
theorem V.dX5_isInfinite_2 : decode cX5_isInfinite 2 = .ok (.invokevirtual 35, 3) := by decide +kernel
theorem V.dX5_isInfinite_5 : decode cX5_isInfinite 5 = .ok (.aload_n 0, 1) := by decide +kernel
theorem V.dX5_isInfinite_6 : decode cX5_isInfinite 6 = .ok (.getfield 25, 3) := by decide +kernel
theorem V.dX5_isInfinite_9 : decode cX5_isInfinite 9 = .ok (.lcmp, 1) := by decide +kernel
theorem V.dX5_isInfinite_10 : decode cX5_isInfinite 10 = .ok (.ifCond .ne 7, 3) := by decide +kernel
theorem V.dX5_isInfinite_13 : decode cX5_isInfinite 13 = .ok (.iconst 1, 1) := by decide +kernel
theorem V.dX5_isInfinite_14 : decode cX5_isInfinite 14 = .ok (.goto 4, 3) := by decide +kernel
theorem V.dX5_isInfinite_17 : decode cX5_isInfinite 17 = .ok (.iconst 0, 1) := by decide +kernel
theorem V.dX5_isInfinite_18 : decode cX5_isInfinite 18 = .ok (.ireturn, 1) := by decide +kernel
/-! ModuleEngine$Numbers$Format.isInfinite(J)Z -/
def V.Fmt_isInfinite (σ : HS) (x0 : Nat) (x1 : Int64) : Option (Int32 × HS) :=
  ck (tg σ x0 = 6) <| cl (Fmt_rest σ x0 x1) fun r2 σ1 =>
  ck (tg σ1 x0 = 6) <|
  if r2 = (gJ σ1 x0 5) then (
    some ((1 : Int32), σ1))
  else (
    some ((0 : Int32), σ1))
theorem V.ctX5_isInfinite (x0 : Nat) (x1 : Int64) : Ct yX5_isInfinite  cX5_isInfinite 3 (some .boolean) 2 42 eI [av x0, jv x1] (fun σ => Fmt_isInfinite σ x0 x1) := by
  refine Ct.of (own := RX5) (nm := "isInfinite") (desc := "(J)Z") rfl (by decide) (Nat.le_of_ble_eq_true rfl) (by decide) (fun X σ => ?_)
  show G X RX5 "isInfinite" cX5_isInfinite 3 (some .boolean) 2 42 enI 0 [(0, av x0), (1, jv x1)] [] σ (Fmt_isInfinite σ x0 x1)
  unfold Fmt_isInfinite
  refine g_aload_n 0 0 dX5_isInfinite_0 rfl rfl ?_
  refine g_lload_n 1 1 dX5_isInfinite_1 rfl rfl ?_
  refine g_callV (fc := fun sς => Fmt_rest sς x0 x1) (ci := 5) (as := [jv x1]) rfl rfl rfl q2540 q2541 mdX5_35 (ctX5_rest x0 x1) rfl (Nat.le_of_ble_eq_true rfl) (Nat.le_of_ble_eq_true rfl) (Nat.le_of_ble_eq_true rfl) pu_J dX5_isInfinite_2 (fun r2 σ1 => ?_)
  refine g_aload_n 0 0 dX5_isInfinite_5 rfl rfl ?_
  refine g_getJ fdX5_25 dX5_isInfinite_6 ?_
  refine g_lcmp_ne 17 dX5_isInfinite_9 dX5_isInfinite_10 (by decide) ?_ ?_
  · refine g_iconst (v := 0) dX5_isInfinite_17 (by decide) ?_
    exact g_zreturn rfl (by decide +kernel) dX5_isInfinite_18
  · refine g_iconst (v := 1) dX5_isInfinite_13 (by decide) ?_
    refine g_goto 18 dX5_isInfinite_14 (by decide) ?_
    exact g_zreturn rfl (by decide +kernel) dX5_isInfinite_18
theorem V.dX5_isZero_0 : decode cX5_isZero 0 = .ok (.aload_n 0, 1) := by decide +kernel
theorem V.dX5_isZero_1 : decode cX5_isZero 1 = .ok (.lload_n 1, 1) := by decide +kernel
theorem V.dX5_isZero_2 : decode cX5_isZero 2 = .ok (.invokevirtual 35, 3) := by decide +kernel
theorem V.dX5_isZero_5 : decode cX5_isZero 5 = .ok (.lconst 0, 1) := by decide +kernel
theorem V.dX5_isZero_6 : decode cX5_isZero 6 = .ok (.lcmp, 1) := by decide +kernel
theorem V.dX5_isZero_7 : decode cX5_isZero 7 = .ok (.ifCond .ne 7, 3) := by decide +kernel
theorem V.dX5_isZero_10 : decode cX5_isZero 10 = .ok (.iconst 1, 1) := by decide +kernel
theorem V.dX5_isZero_11 : decode cX5_isZero 11 = .ok (.goto 4, 3) := by decide +kernel
theorem V.dX5_isZero_14 : decode cX5_isZero 14 = .ok (.iconst 0, 1) := by decide +kernel
theorem V.dX5_isZero_15 : decode cX5_isZero 15 = .ok (.ireturn, 1) := by decide +kernel
/-! ModuleEngine$Numbers$Format.isZero(J)Z -/
def V.Fmt_isZero (σ : HS) (x0 : Nat) (x1 : Int64) : Option (Int32 × HS) :=
  ck (tg σ x0 = 6) <| cl (Fmt_rest σ x0 x1) fun r2 σ1 =>
  if r2 = (0 : Int64) then (
    some ((1 : Int32), σ1))
  else (
    some ((0 : Int32), σ1))
theorem V.ctX5_isZero (x0 : Nat) (x1 : Int64) : Ct yX5_isZero  cX5_isZero 3 (some .boolean) 2 42 eI [av x0, jv x1] (fun σ => Fmt_isZero σ x0 x1) := by
  refine Ct.of (own := RX5) (nm := "isZero") (desc := "(J)Z") rfl (by decide) (Nat.le_of_ble_eq_true rfl) (by decide) (fun X σ => ?_)
  show G X RX5 "isZero" cX5_isZero 3 (some .boolean) 2 42 enI 0 [(0, av x0), (1, jv x1)] [] σ (Fmt_isZero σ x0 x1)
  unfold Fmt_isZero
  refine g_aload_n 0 0 dX5_isZero_0 rfl rfl ?_
  refine g_lload_n 1 1 dX5_isZero_1 rfl rfl ?_
  refine g_callV (fc := fun sς => Fmt_rest sς x0 x1) (ci := 5) (as := [jv x1]) rfl rfl rfl q2540 q2541 mdX5_35 (ctX5_rest x0 x1) rfl (Nat.le_of_ble_eq_true rfl) (Nat.le_of_ble_eq_true rfl) (Nat.le_of_ble_eq_true rfl) pu_J dX5_isZero_2 (fun r2 σ1 => ?_)
  refine g_lconst (v := 0) dX5_isZero_5 (by decide) ?_
  refine g_lcmp_ne 14 dX5_isZero_6 dX5_isZero_7 (by decide) ?_ ?_
  · refine g_iconst (v := 0) dX5_isZero_14 (by decide) ?_
    exact g_zreturn rfl (by decide +kernel) dX5_isZero_15
  · refine g_iconst (v := 1) dX5_isZero_10 (by decide) ?_
    refine g_goto 15 dX5_isZero_11 (by decide) ?_
    exact g_zreturn rfl (by decide +kernel) dX5_isZero_15
theorem V.dX5_fraction_0 : decode cX5_fraction 0 = .ok (.lload_n 1, 1) := by decide +kernel
theorem V.dX5_fraction_1 : decode cX5_fraction 1 = .ok (.aload_n 0, 1) := by decide +kernel
theorem V.dX5_fraction_2 : decode cX5_fraction 2 = .ok (.getfield 19, 3) := by decide +kernel
theorem V.dX5_fraction_5 : decode cX5_fraction 5 = .ok (.lconst 1, 1) := by decide +kernel
theorem V.dX5_fraction_6 : decode cX5_fraction 6 = .ok (.lsub, 1) := by decide +kernel
theorem V.dX5_fraction_7 : decode cX5_fraction 7 = .ok (.land, 1) := by decide +kernel
theorem V.dX5_fraction_8 : decode cX5_fraction 8 = .ok (.lreturn, 1) := by decide +kernel
/-! ModuleEngine$Numbers$Format.fraction(J)J -/
def V.Fmt_fraction (σ : HS) (x0 : Nat) (x1 : Int64) : Option (Int64 × HS) :=
  ck (tg σ x0 = 6) <|
  some (x1 &&& ((gJ σ x0 3) - (1 : Int64)), σ)
theorem V.ctX5_fraction (x0 : Nat) (x1 : Int64) : Ct yX5_fraction  cX5_fraction 3 (some .long) 0 0 eJ [av x0, jv x1] (fun σ => Fmt_fraction σ x0 x1) := by
  refine Ct.of (own := RX5) (nm := "fraction") (desc := "(J)J") rfl (by decide) (Nat.le_of_ble_eq_true rfl) (by decide) (fun X σ => ?_)
  show G X RX5 "fraction" cX5_fraction 3 (some .long) 0 0 enJ 0 [(0, av x0), (1, jv x1)] [] σ (Fmt_fraction σ x0 x1)
  unfold Fmt_fraction
  refine g_lload_n 1 1 dX5_fraction_0 rfl rfl ?_
  refine g_aload_n 0 0 dX5_fraction_1 rfl rfl ?_
  refine g_getJ fdX5_19 dX5_fraction_2 ?_
  refine g_lconst (v := 1) dX5_fraction_5 (by decide) ?_
  refine g_lsub dX5_fraction_6 ?_
  refine g_land dX5_fraction_7 ?_
  exact g_lreturn rfl dX5_fraction_8
theorem V.dX5_significand_0 : decode cX5_significand 0 = .ok (.aload_n 0, 1) := by decide +kernel
theorem V.dX5_significand_1 : decode cX5_significand 1 = .ok (.lload_n 1, 1) := by decide +kernel
theorem V.dX5_significand_2 : decode cX5_significand 2 = .ok (.invokevirtual 39, 3) := by decide +kernel
theorem V.dX5_significand_5 : decode cX5_significand 5 = .ok (.ifCond .ne 11, 3) := by decide +kernel
theorem V.dX5_significand_8 : decode cX5_significand 8 = .ok (.aload_n 0, 1) := by decide +kernel
theorem V.dX5_significand_9 : decode cX5_significand 9 = .ok (.lload_n 1, 1) := by decide +kernel
theorem V.dX5_significand_10 : decode cX5_significand 10 = .ok (.invokevirtual 43, 3) := by decide +kernel
theorem V.dX5_significand_13 : decode cX5_significand 13 = .ok (.goto 13, 3) := by decide +kernel
theorem V.dX5_significand_16 : decode cX5_significand 16 = .ok (.aload_n 0, 1) := by decide +kernel
theorem V.dX5_significand_17 : decode cX5_significand 17 = .ok (.getfield 19, 3) := by decide +kernel
theorem V.dX5_significand_20 : decode cX5_significand 20 = .ok (.aload_n 0, 1) := by decide +kernel
theorem V.dX5_significand_21 : decode cX5_significand 21 = .ok (.lload_n 1, 1) := by decide +kernel
theorem V.dX5_significand_22 : decode cX5_significand 22 = .ok (.invokevirtual 43, 3) := by decide +kernel
theorem V.dX5_significand_25 : decode cX5_significand 25 = .ok (.ladd, 1) := by decide +kernel
theorem V.dX5_significand_26 : decode cX5_significand 26 = .ok (.lreturn, 1) := by decide +kernel
theorem V.mdX5_43 : MD RX5 43 yX5_fraction cX5_fraction 3 (some .long) 1 := ⟨Or.inl q2612, q365, q2615, by decide, by decide, by decide +kernel⟩
/-! ModuleEngine$Numbers$Format.significand(J)J -/
def V.Fmt_significand (σ : HS) (x0 : Nat) (x1 : Int64) : Option (Int64 × HS) :=
  ck (tg σ x0 = 6) <| cl (Fmt_exponent σ x0 x1) fun r2 σ1 =>
  if r2 = 0 then (
    ck (tg σ1 x0 = 6) <| cl (Fmt_fraction σ1 x0 x1) fun r6 σ5 =>
    some (r6, σ5))
  else (
    ck (tg σ1 x0 = 6) <|
    ck (tg σ1 x0 = 6) <| cl (Fmt_fraction σ1 x0 x1) fun r4 σ3 =>
    some ((gJ σ1 x0 3) + r4, σ3))
theorem V.ctX5_significand (x0 : Nat) (x1 : Int64) : Ct yX5_significand  cX5_significand 3 (some .long) 3 64 eJ [av x0, jv x1] (fun σ => Fmt_significand σ x0 x1) := by
  refine Ct.of (own := RX5) (nm := "significand") (desc := "(J)J") rfl (by decide) (Nat.le_of_ble_eq_true rfl) (by decide) (fun X σ => ?_)
  show G X RX5 "significand" cX5_significand 3 (some .long) 3 64 enJ 0 [(0, av x0), (1, jv x1)] [] σ (Fmt_significand σ x0 x1)
  unfold Fmt_significand
  refine g_aload_n 0 0 dX5_significand_0 rfl rfl ?_
  refine g_lload_n 1 1 dX5_significand_1 rfl rfl ?_
  refine g_callV (fc := fun sς => Fmt_exponent sς x0 x1) (ci := 5) (as := [jv x1]) rfl rfl rfl q2597 q2598 mdX5_39 (ctX5_exponent x0 x1) rfl (Nat.le_of_ble_eq_true rfl) (Nat.le_of_ble_eq_true rfl) (Nat.le_of_ble_eq_true rfl) pu_I dX5_significand_2 (fun r2 σ1 => ?_)
  refine g_if_ne 16 dX5_significand_5 (by decide) ?_ ?_
  · refine g_aload_n 0 0 dX5_significand_16 rfl rfl ?_
    refine g_getJ fdX5_19 dX5_significand_17 ?_
    refine g_aload_n 0 0 dX5_significand_20 rfl rfl ?_
    refine g_lload_n 1 1 dX5_significand_21 rfl rfl ?_
    refine g_callV (fc := fun sς => Fmt_fraction sς x0 x1) (ci := 5) (as := [jv x1]) rfl rfl rfl q2613 q2614 mdX5_43 (ctX5_fraction x0 x1) rfl (Nat.le_of_ble_eq_true rfl) (Nat.le_of_ble_eq_true rfl) (Nat.le_of_ble_eq_true rfl) pu_J dX5_significand_22 (fun r4 σ3 => ?_)
    refine g_ladd dX5_significand_25 ?_
    exact g_lreturn rfl dX5_significand_26
  · refine g_aload_n 0 0 dX5_significand_8 rfl rfl ?_
    refine g_lload_n 1 1 dX5_significand_9 rfl rfl ?_
    refine g_callV (fc := fun sς => Fmt_fraction sς x0 x1) (ci := 5) (as := [jv x1]) rfl rfl rfl q2613 q2614 mdX5_43 (ctX5_fraction x0 x1) rfl (Nat.le_of_ble_eq_true rfl) (Nat.le_of_ble_eq_true rfl) (Nat.le_of_ble_eq_true rfl) pu_J dX5_significand_10 (fun r6 σ5 => ?_)
    refine g_goto 26 dX5_significand_13 (by decide) ?_
    exact g_lreturn rfl dX5_significand_26
theorem V.dX5_round_0 : decode cX5_round 0 = .ok (.lload_n 2, 1) := by decide +kernel
theorem V.dX5_round_1 : decode cX5_round 1 = .ok (.lstore 6, 2) := by decide +kernel
theorem V.dX5_round_3 : decode cX5_round 3 = .ok (.iload 4, 2) := by decide +kernel
theorem V.dX5_round_5 : decode cX5_round 5 = .ok (.istore 8, 2) := by decide +kernel
theorem V.dX5_round_7 : decode cX5_round 7 = .ok (.lload 6, 2) := by decide +kernel
theorem V.dX5_round_9 : decode cX5_round 9 = .ok (.ldc2_w 46, 3) := by decide +kernel
theorem V.dX5_round_12 : decode cX5_round 12 = .ok (.lcmp, 1) := by decide +kernel
theorem V.dX5_round_13 : decode cX5_round 13 = .ok (.ifCond .ge 17, 3) := by decide +kernel
theorem V.dX5_round_16 : decode cX5_round 16 = .ok (.ldc2_w 23, 3) := by decide +kernel
theorem V.dX5_round_19 : decode cX5_round 19 = .ok (.lload 6, 2) := by decide +kernel
theorem V.dX5_round_21 : decode cX5_round 21 = .ok (.lmul, 1) := by decide +kernel
theorem V.dX5_round_22 : decode cX5_round 22 = .ok (.lstore 6, 2) := by decide +kernel
theorem V.dX5_round_24 : decode cX5_round 24 = .ok (.iinc 8 (-1), 3) := by decide +kernel
theorem V.dX5_round_27 : decode cX5_round 27 = .ok (.goto (-20), 3) := by decide +kernel
theorem V.dX5_round_30 : decode cX5_round 30 = .ok (.iconst 2, 1) := by decide +kernel
theorem V.dX5_round_31 : decode cX5_round 31 = .ok (.aload_n 0, 1) := by decide +kernel
theorem V.dX5_round_32 : decode cX5_round 32 = .ok (.getfield 16, 3) := by decide +kernel
theorem V.dX5_round_35 : decode cX5_round 35 = .ok (.isub, 1) := by decide +kernel
theorem V.dX5_round_36 : decode cX5_round 36 = .ok (.aload_n 0, 1) := by decide +kernel
theorem V.dX5_round_37 : decode cX5_round 37 = .ok (.getfield 13, 3) := by decide +kernel
theorem V.dX5_round_40 : decode cX5_round 40 = .ok (.isub, 1) := by decide +kernel
theorem V.dX5_round_41 : decode cX5_round 41 = .ok (.istore 9, 2) := by decide +kernel
theorem V.dX5_round_43 : decode cX5_round 43 = .ok (.iload 8, 2) := by decide +kernel
theorem V.dX5_round_45 : decode cX5_round 45 = .ok (.bipush 63, 2) := by decide +kernel
theorem V.dX5_round_47 : decode cX5_round 47 = .ok (.iadd, 1) := by decide +kernel
theorem V.dX5_round_48 : decode cX5_round 48 = .ok (.aload_n 0, 1) := by decide +kernel
theorem V.dX5_round_49 : decode cX5_round 49 = .ok (.getfield 13, 3) := by decide +kernel
theorem V.dX5_round_52 : decode cX5_round 52 = .ok (.isub, 1) := by decide +kernel
theorem V.dX5_round_53 : decode cX5_round 53 = .ok (.iload 9, 2) := by decide +kernel
theorem V.dX5_round_55 : decode cX5_round 55 = .ok (.if_icmp .le 16, 3) := by decide +kernel
theorem V.dX5_round_58 : decode cX5_round 58 = .ok (.iload 8, 2) := by decide +kernel
theorem V.dX5_round_60 : decode cX5_round 60 = .ok (.bipush 63, 2) := by decide +kernel
theorem V.dX5_round_62 : decode cX5_round 62 = .ok (.iadd, 1) := by decide +kernel
theorem V.dX5_round_63 : decode cX5_round 63 = .ok (.aload_n 0, 1) := by decide +kernel
theorem V.dX5_round_64 : decode cX5_round 64 = .ok (.getfield 13, 3) := by decide +kernel
theorem V.dX5_round_67 : decode cX5_round 67 = .ok (.isub, 1) := by decide +kernel
theorem V.dX5_round_68 : decode cX5_round 68 = .ok (.goto 5, 3) := by decide +kernel
theorem V.dX5_round_71 : decode cX5_round 71 = .ok (.iload 9, 2) := by decide +kernel
theorem V.dX5_round_73 : decode cX5_round 73 = .ok (.istore 10, 2) := by decide +kernel
theorem V.dX5_round_75 : decode cX5_round 75 = .ok (.iload 10, 2) := by decide +kernel
theorem V.dX5_round_77 : decode cX5_round 77 = .ok (.iload 8, 2) := by decide +kernel
theorem V.dX5_round_79 : decode cX5_round 79 = .ok (.isub, 1) := by decide +kernel
theorem V.dX5_round_80 : decode cX5_round 80 = .ok (.istore 11, 2) := by decide +kernel
theorem V.dX5_round_82 : decode cX5_round 82 = .ok (.iload 11, 2) := by decide +kernel
theorem V.dX5_round_84 : decode cX5_round 84 = .ok (.bipush 63, 2) := by decide +kernel
theorem V.dX5_round_86 : decode cX5_round 86 = .ok (.if_icmp .le 10, 3) := by decide +kernel
theorem V.dX5_round_89 : decode cX5_round 89 = .ok (.aload_n 0, 1) := by decide +kernel
theorem V.dX5_round_90 : decode cX5_round 90 = .ok (.iload_n 1, 1) := by decide +kernel
theorem V.dX5_round_91 : decode cX5_round 91 = .ok (.lconst 0, 1) := by decide +kernel
theorem V.dX5_round_92 : decode cX5_round 92 = .ok (.invokevirtual 48, 3) := by decide +kernel
theorem V.dX5_round_95 : decode cX5_round 95 = .ok (.lreturn, 1) := by decide +kernel
theorem V.dX5_round_96 : decode cX5_round 96 = .ok (.iload 11, 2) := by decide +kernel
theorem V.dX5_round_98 : decode cX5_round 98 = .ok (.bipush 63, 2) := by decide +kernel
theorem V.dX5_round_100 : decode cX5_round 100 = .ok (.if_icmp .ne 7, 3) := by decide +kernel
theorem V.dX5_round_103 : decode cX5_round 103 = .ok (.lconst 0, 1) := by decide +kernel
theorem V.dX5_round_104 : decode cX5_round 104 = .ok (.goto 8, 3) := by decide +kernel
theorem V.dX5_round_107 : decode cX5_round 107 = .ok (.lload 6, 2) := by decide +kernel
theorem V.dX5_round_109 : decode cX5_round 109 = .ok (.iload 11, 2) := by decide +kernel
theorem V.dX5_round_111 : decode cX5_round 111 = .ok (.lshr, 1) := by decide +kernel
theorem V.dX5_round_112 : decode cX5_round 112 = .ok (.lstore 12, 2) := by decide +kernel
theorem V.dX5_round_114 : decode cX5_round 114 = .ok (.iload 11, 2) := by decide +kernel
theorem V.dX5_round_116 : decode cX5_round 116 = .ok (.bipush 63, 2) := by decide +kernel
theorem V.dX5_round_118 : decode cX5_round 118 = .ok (.if_icmp .ne 8, 3) := by decide +kernel
theorem V.dX5_round_121 : decode cX5_round 121 = .ok (.lload 6, 2) := by decide +kernel
theorem V.dX5_round_123 : decode cX5_round 123 = .ok (.goto 12, 3) := by decide +kernel
theorem V.dX5_round_126 : decode cX5_round 126 = .ok (.lload 6, 2) := by decide +kernel
theorem V.dX5_round_128 : decode cX5_round 128 = .ok (.lconst 1, 1) := by decide +kernel
theorem V.dX5_round_129 : decode cX5_round 129 = .ok (.iload 11, 2) := by decide +kernel
theorem V.dX5_round_131 : decode cX5_round 131 = .ok (.lshl, 1) := by decide +kernel
theorem V.dX5_round_132 : decode cX5_round 132 = .ok (.lconst 1, 1) := by decide +kernel
theorem V.dX5_round_133 : decode cX5_round 133 = .ok (.lsub, 1) := by decide +kernel
theorem V.dX5_round_134 : decode cX5_round 134 = .ok (.land, 1) := by decide +kernel
theorem V.dX5_round_135 : decode cX5_round 135 = .ok (.lstore 14, 2) := by decide +kernel
theorem V.dX5_round_137 : decode cX5_round 137 = .ok (.lconst 1, 1) := by decide +kernel
theorem V.dX5_round_138 : decode cX5_round 138 = .ok (.iload 11, 2) := by decide +kernel
theorem V.dX5_round_140 : decode cX5_round 140 = .ok (.iconst 1, 1) := by decide +kernel
theorem V.dX5_round_141 : decode cX5_round 141 = .ok (.isub, 1) := by decide +kernel
theorem V.dX5_round_142 : decode cX5_round 142 = .ok (.lshl, 1) := by decide +kernel
theorem V.dX5_round_143 : decode cX5_round 143 = .ok (.lstore 16, 2) := by decide +kernel
theorem V.dX5_round_145 : decode cX5_round 145 = .ok (.lload 14, 2) := by decide +kernel
theorem V.dX5_round_147 : decode cX5_round 147 = .ok (.lload 16, 2) := by decide +kernel
theorem V.dX5_round_149 : decode cX5_round 149 = .ok (.lcmp, 1) := by decide +kernel
theorem V.dX5_round_150 : decode cX5_round 150 = .ok (.ifCond .gt 27, 3) := by decide +kernel
theorem V.dX5_round_153 : decode cX5_round 153 = .ok (.lload 14, 2) := by decide +kernel
theorem V.dX5_round_155 : decode cX5_round 155 = .ok (.lload 16, 2) := by decide +kernel
theorem V.dX5_round_157 : decode cX5_round 157 = .ok (.lcmp, 1) := by decide +kernel
theorem V.dX5_round_158 : decode cX5_round 158 = .ok (.ifCond .ne 23, 3) := by decide +kernel
theorem V.dX5_round_161 : decode cX5_round 161 = .ok (.iload 5, 2) := by decide +kernel
theorem V.dX5_round_163 : decode cX5_round 163 = .ok (.ifCond .ne 14, 3) := by decide +kernel
theorem V.dX5_round_166 : decode cX5_round 166 = .ok (.lload 12, 2) := by decide +kernel
theorem V.dX5_round_168 : decode cX5_round 168 = .ok (.ldc2_w 23, 3) := by decide +kernel
theorem V.dX5_round_171 : decode cX5_round 171 = .ok (.lrem, 1) := by decide +kernel
theorem V.dX5_round_172 : decode cX5_round 172 = .ok (.lconst 1, 1) := by decide +kernel
theorem V.dX5_round_173 : decode cX5_round 173 = .ok (.lcmp, 1) := by decide +kernel
theorem V.dX5_round_174 : decode cX5_round 174 = .ok (.ifCond .ne 7, 3) := by decide +kernel
theorem V.dX5_round_177 : decode cX5_round 177 = .ok (.iconst 1, 1) := by decide +kernel
theorem V.dX5_round_178 : decode cX5_round 178 = .ok (.goto 4, 3) := by decide +kernel
theorem V.dX5_round_181 : decode cX5_round 181 = .ok (.iconst 0, 1) := by decide +kernel
theorem V.dX5_round_182 : decode cX5_round 182 = .ok (.istore 18, 2) := by decide +kernel
theorem V.dX5_round_184 : decode cX5_round 184 = .ok (.iload 18, 2) := by decide +kernel
theorem V.dX5_round_186 : decode cX5_round 186 = .ok (.ifCond .eq 10, 3) := by decide +kernel
theorem V.dX5_round_189 : decode cX5_round 189 = .ok (.lload 12, 2) := by decide +kernel
theorem V.dX5_round_191 : decode cX5_round 191 = .ok (.lconst 1, 1) := by decide +kernel
theorem V.dX5_round_192 : decode cX5_round 192 = .ok (.ladd, 1) := by decide +kernel
theorem V.dX5_round_193 : decode cX5_round 193 = .ok (.goto 5, 3) := by decide +kernel
theorem V.dX5_round_196 : decode cX5_round 196 = .ok (.lload 12, 2) := by decide +kernel
theorem V.dX5_round_198 : decode cX5_round 198 = .ok (.lstore 12, 2) := by decide +kernel
theorem V.dX5_round_200 : decode cX5_round 200 = .ok (.lload 12, 2) := by decide +kernel
theorem V.dX5_round_202 : decode cX5_round 202 = .ok (.ldc2_w 23, 3) := by decide +kernel
theorem V.dX5_round_205 : decode cX5_round 205 = .ok (.aload_n 0, 1) := by decide +kernel
theorem V.dX5_round_206 : decode cX5_round 206 = .ok (.getfield 19, 3) := by decide +kernel
theorem V.dX5_round_209 : decode cX5_round 209 = .ok (.lmul, 1) := by decide +kernel
theorem V.dX5_round_210 : decode cX5_round 210 = .ok (.lcmp, 1) := by decide +kernel
theorem V.dX5_round_211 : decode cX5_round 211 = .ok (.ifCond .ne 12, 3) := by decide +kernel
theorem V.dX5_round_214 : decode cX5_round 214 = .ok (.aload_n 0, 1) := by decide +kernel
theorem V.dX5_round_215 : decode cX5_round 215 = .ok (.getfield 19, 3) := by decide +kernel
theorem V.dX5_round_218 : decode cX5_round 218 = .ok (.lstore 12, 2) := by decide +kernel
theorem V.dX5_round_220 : decode cX5_round 220 = .ok (.iinc 10 1, 3) := by decide +kernel
theorem V.dX5_round_223 : decode cX5_round 223 = .ok (.lload 12, 2) := by decide +kernel
theorem V.dX5_round_225 : decode cX5_round 225 = .ok (.aload_n 0, 1) := by decide +kernel
theorem V.dX5_round_226 : decode cX5_round 226 = .ok (.getfield 19, 3) := by decide +kernel
theorem V.dX5_round_229 : decode cX5_round 229 = .ok (.lcmp, 1) := by decide +kernel
theorem V.dX5_round_230 : decode cX5_round 230 = .ok (.ifCond .ge 11, 3) := by decide +kernel
theorem V.dX5_round_233 : decode cX5_round 233 = .ok (.aload_n 0, 1) := by decide +kernel
theorem V.dX5_round_234 : decode cX5_round 234 = .ok (.iload_n 1, 1) := by decide +kernel
theorem V.dX5_round_235 : decode cX5_round 235 = .ok (.lload 12, 2) := by decide +kernel
theorem V.dX5_round_237 : decode cX5_round 237 = .ok (.invokevirtual 48, 3) := by decide +kernel
theorem V.dX5_round_240 : decode cX5_round 240 = .ok (.lreturn, 1) := by decide +kernel
theorem V.dX5_round_241 : decode cX5_round 241 = .ok (.iload 10, 2) := by decide +kernel
theorem V.dX5_round_243 : decode cX5_round 243 = .ok (.aload_n 0, 1) := by decide +kernel
theorem V.dX5_round_244 : decode cX5_round 244 = .ok (.getfield 16, 3) := by decide +kernel
theorem V.dX5_round_247 : decode cX5_round 247 = .ok (.iadd, 1) := by decide +kernel
theorem V.dX5_round_248 : decode cX5_round 248 = .ok (.aload_n 0, 1) := by decide +kernel
theorem V.dX5_round_249 : decode cX5_round 249 = .ok (.getfield 13, 3) := by decide +kernel
theorem V.dX5_round_252 : decode cX5_round 252 = .ok (.iadd, 1) := by decide +kernel
theorem V.dX5_round_253 : decode cX5_round 253 = .ok (.iconst 1, 1) := by decide +kernel
theorem V.dX5_round_254 : decode cX5_round 254 = .ok (.isub, 1) := by decide +kernel
theorem V.dX5_round_255 : decode cX5_round 255 = .ok (.istore 19, 2) := by decide +kernel
theorem V.dX5_round_257 : decode cX5_round 257 = .ok (.aload_n 0, 1) := by decide +kernel
theorem V.dX5_round_258 : decode cX5_round 258 = .ok (.iload_n 1, 1) := by decide +kernel
theorem V.dX5_round_259 : decode cX5_round 259 = .ok (.iload 19, 2) := by decide +kernel
theorem V.dX5_round_261 : decode cX5_round 261 = .ok (.iconst 2, 1) := by decide +kernel
theorem V.dX5_round_262 : decode cX5_round 262 = .ok (.aload_n 0, 1) := by decide +kernel
theorem V.dX5_round_263 : decode cX5_round 263 = .ok (.getfield 16, 3) := by decide +kernel
theorem V.dX5_round_266 : decode cX5_round 266 = .ok (.imul, 1) := by decide +kernel
theorem V.dX5_round_267 : decode cX5_round 267 = .ok (.if_icmp .le 10, 3) := by decide +kernel
theorem V.dX5_round_270 : decode cX5_round 270 = .ok (.aload_n 0, 1) := by decide +kernel
theorem V.dX5_round_271 : decode cX5_round 271 = .ok (.getfield 25, 3) := by decide +kernel
theorem V.dX5_round_274 : decode cX5_round 274 = .ok (.goto 19, 3) := by decide +kernel
theorem V.dX5_round_277 : decode cX5_round 277 = .ok (.iload 19, 2) := by decide +kernel
theorem V.dX5_round_279 : decode cX5_round 279 = .ok (.i2l, 1) := by decide +kernel
theorem V.dX5_round_280 : decode cX5_round 280 = .ok (.aload_n 0, 1) := by decide +kernel
theorem V.dX5_round_281 : decode cX5_round 281 = .ok (.getfield 19, 3) := by decide +kernel
theorem V.dX5_round_284 : decode cX5_round 284 = .ok (.lmul, 1) := by decide +kernel
theorem V.dX5_round_285 : decode cX5_round 285 = .ok (.lload 12, 2) := by decide +kernel
theorem V.dX5_round_287 : decode cX5_round 287 = .ok (.aload_n 0, 1) := by decide +kernel
theorem V.dX5_round_288 : decode cX5_round 288 = .ok (.getfield 19, 3) := by decide +kernel
theorem V.dX5_round_291 : decode cX5_round 291 = .ok (.lsub, 1) := by decide +kernel
theorem V.dX5_round_292 : decode cX5_round 292 = .ok (.ladd, 1) := by decide +kernel
theorem V.dX5_round_293 : decode cX5_round 293 = .ok (.invokevirtual 48, 3) := by decide +kernel
theorem V.dX5_round_296 : decode cX5_round 296 = .ok (.lreturn, 1) := by decide +kernel
theorem V.mdX5_48 : MD RX5 48 yX5_signed cX5_signed 4 (some .long) 2 := ⟨Or.inl q2621, q365, q2588, by decide, by decide, by decide +kernel⟩
/-! ModuleEngine$Numbers$Format.round(ZJIZ)J -/
def V.Fmt_round_p293  (σ : HS) (s0 : Int64) (s1 : Int32) (s2 : Nat) : Option (Int64 × HS) :=
  ck (tg σ s2 = 6) <| cl (Fmt_signed σ s2 s1 s0) fun r2 σ1 =>
  some (r2, σ1)
theorem V.gX5_round_p293 {X : CX}  (σ : HS) (s0 : Int64) (s1 : Int32) (s2 : Nat) : G X RX5 "round" cX5_round 20 (some .long) 2 43 enJ 293 [] [jv s0, iv s1, av s2] σ (Fmt_round_p293 σ s0 s1 s2) := by
  unfold Fmt_round_p293
  refine g_callV (fc := fun sς => Fmt_signed sς s2 s1 s0) (ci := 5) (as := [iv s1, jv s0]) rfl rfl rfl q2586 q2587 mdX5_48 (ctX5_signed s2 s1 s0) rfl (Nat.le_of_ble_eq_true rfl) (Nat.le_of_ble_eq_true rfl) (Nat.le_of_ble_eq_true rfl) pu_J dX5_round_293 (fun r2 σ1 => ?_)
  exact g_lreturn rfl dX5_round_296
def V.Fmt_round_p223  (σ : HS) (x0 : Nat) (x1 : Int32) (x10 : Int32) (x12 : Int64) : Option (Int64 × HS) :=
  ck (tg σ x0 = 6) <|
  if (gJ σ x0 3) ≤ x12 then (
    ck (tg σ x0 = 6) <|
    ck (tg σ x0 = 6) <|
    bn (((x10 + (gI σ x0 2)) + (gI σ x0 1)) - (1 : Int32)) fun y1 =>
    ck (tg σ x0 = 6) <|
    if y1 ≤ ((2 : Int32) * (gI σ x0 2)) then (
      ck (tg σ x0 = 6) <|
      ck (tg σ x0 = 6) <|
      Fmt_round_p293 σ ((y1.toInt64 * (gJ σ x0 3)) + (x12 - (gJ σ x0 3))) x1 x0)
    else (
      ck (tg σ x0 = 6) <|
      Fmt_round_p293 σ (gJ σ x0 5) x1 x0))
  else (
    ck (tg σ x0 = 6) <| cl (Fmt_signed σ x0 x1 x12) fun r3 σ2 =>
    some (r3, σ2))
theorem V.gX5_round_p223 {X : CX}  (σ : HS) (x0 : Nat) (x1 : Int32) (x10 : Int32) (x12 : Int64) : G X RX5 "round" cX5_round 20 (some .long) 2 43 enJ 223 [(0, av x0), (1, iv x1), (10, iv x10), (12, jv x12)] [] σ (Fmt_round_p223 σ x0 x1 x10 x12) := by
  unfold Fmt_round_p223
  refine g_lload 3 dX5_round_223 rfl ?_
  refine g_aload_n 0 0 dX5_round_225 rfl rfl ?_
  refine g_getJ fdX5_19 dX5_round_226 ?_
  refine g_lcmp_ge 241 dX5_round_229 dX5_round_230 (by decide) ?_ ?_
  · refine g_iload 2 dX5_round_241 rfl ?_
    refine g_aload_n 0 0 dX5_round_243 rfl rfl ?_
    refine g_getI fdX5_16 dX5_round_244 ?_
    refine g_iadd dX5_round_247 ?_
    refine g_aload_n 0 0 dX5_round_248 rfl rfl ?_
    refine g_getI fdX5_13 dX5_round_249 ?_
    refine g_iadd dX5_round_252 ?_
    refine g_iconst (v := 1) dX5_round_253 (by decide) ?_
    refine g_isub dX5_round_254 ?_
    refine g_nmI (fun y1 => ?_)
    refine g_istore dX5_round_255 (by decide) rfl ?_
    refine g_aload_n 0 1 dX5_round_257 rfl rfl ?_
    refine g_iload_n 1 2 dX5_round_258 rfl rfl ?_
    refine g_iload 0 dX5_round_259 rfl ?_
    refine g_iconst (v := 2) dX5_round_261 (by decide) ?_
    refine g_aload_n 0 1 dX5_round_262 rfl rfl ?_
    refine g_getI fdX5_16 dX5_round_263 ?_
    refine g_imul dX5_round_266 ?_
    refine g_icmp_le 277 dX5_round_267 (by decide) ?_ ?_
    · refine g_iload 0 dX5_round_277 rfl ?_
      refine g_i2l dX5_round_279 ?_
      refine g_aload_n 0 1 dX5_round_280 rfl rfl ?_
      refine g_getJ fdX5_19 dX5_round_281 ?_
      refine g_lmul dX5_round_284 ?_
      refine g_lload 4 dX5_round_285 rfl ?_
      refine g_aload_n 0 1 dX5_round_287 rfl rfl ?_
      refine g_getJ fdX5_19 dX5_round_288 ?_
      refine g_lsub dX5_round_291 ?_
      refine g_ladd dX5_round_292 ?_
      refine G.sub [] rfl ?_
      exact gX5_round_p293 _ _ _ _
    · refine g_aload_n 0 1 dX5_round_270 rfl rfl ?_
      refine g_getJ fdX5_25 dX5_round_271 ?_
      refine g_goto 293 dX5_round_274 (by decide) ?_
      refine G.sub [] rfl ?_
      exact gX5_round_p293 _ _ _ _
  · refine g_aload_n 0 0 dX5_round_233 rfl rfl ?_
    refine g_iload_n 1 1 dX5_round_234 rfl rfl ?_
    refine g_lload 3 dX5_round_235 rfl ?_
    refine g_callV (fc := fun sς => Fmt_signed sς x0 x1 x12) (ci := 5) (as := [iv x1, jv x12]) rfl rfl rfl q2586 q2587 mdX5_48 (ctX5_signed x0 x1 x12) rfl (Nat.le_of_ble_eq_true rfl) (Nat.le_of_ble_eq_true rfl) (Nat.le_of_ble_eq_true rfl) pu_J dX5_round_237 (fun r3 σ2 => ?_)
    exact g_lreturn rfl dX5_round_240
def V.Fmt_round_p198  (σ : HS) (x0 : Nat) (x1 : Int32) (x10 : Int32) (s0 : Int64) : Option (Int64 × HS) :=
  ck (tg σ x0 = 6) <|
  if s0 = ((2 : Int64) * (gJ σ x0 3)) then (
    ck (tg σ x0 = 6) <|
    bn (gJ σ x0 3) fun y1 =>
    bn (x10 + (1 : Int32)) fun y2 =>
    Fmt_round_p223 σ x0 x1 y2 y1)
  else (
    Fmt_round_p223 σ x0 x1 x10 s0)
theorem V.gX5_round_p198 {X : CX}  (σ : HS) (x0 : Nat) (x1 : Int32) (x10 : Int32) (s0 : Int64) : G X RX5 "round" cX5_round 20 (some .long) 2 43 enJ 198 [(0, av x0), (1, iv x1), (10, iv x10)] [jv s0] σ (Fmt_round_p198 σ x0 x1 x10 s0) := by
  unfold Fmt_round_p198
  refine g_lstore dX5_round_198 (by decide) rfl ?_
  refine g_lload 0 dX5_round_200 rfl ?_
  refine g_ldc2 q583 dX5_round_202 ?_
  refine g_aload_n 0 1 dX5_round_205 rfl rfl ?_
  refine g_getJ fdX5_19 dX5_round_206 ?_
  refine g_lmul dX5_round_209 ?_
  refine g_lcmp_ne 223 dX5_round_210 dX5_round_211 (by decide) ?_ ?_
  · refine G.sub [1, 2, 3, 0] rfl ?_
    exact gX5_round_p223 _ _ _ _ _
  · refine g_aload_n 0 1 dX5_round_214 rfl rfl ?_
    refine g_getJ fdX5_19 dX5_round_215 ?_
    refine g_nmJ (fun y1 => ?_)
    refine g_lstore dX5_round_218 (by decide) rfl ?_
    refine g_iincB (w := 1) 3 dX5_round_220 rfl (by decide) (by decide) (fun _ => rfl) (fun y2 => ?_)
    refine G.sub [2, 3, 0, 1] rfl ?_
    exact gX5_round_p223 _ _ _ _ _
def V.Fmt_round_p182  (σ : HS) (x0 : Nat) (x1 : Int32) (x10 : Int32) (x12 : Int64) (s0 : Int32) : Option (Int64 × HS) :=
  if s0 = 0 then (
    Fmt_round_p198 σ x0 x1 x10 x12)
  else (
    Fmt_round_p198 σ x0 x1 x10 (x12 + (1 : Int64)))
theorem V.gX5_round_p182 {X : CX}  (σ : HS) (x0 : Nat) (x1 : Int32) (x10 : Int32) (x12 : Int64) (s0 : Int32) : G X RX5 "round" cX5_round 20 (some .long) 2 43 enJ 182 [(0, av x0), (1, iv x1), (10, iv x10), (12, jv x12)] [iv s0] σ (Fmt_round_p182 σ x0 x1 x10 x12 s0) := by
  unfold Fmt_round_p182
  refine g_istore dX5_round_182 (by decide) rfl ?_
  refine g_iload 0 dX5_round_184 rfl ?_
  refine g_if_eq 196 dX5_round_186 (by decide) ?_ ?_
  · refine g_lload 4 dX5_round_196 rfl ?_
    refine G.sub [1, 2, 3] rfl ?_
    exact gX5_round_p198 _ _ _ _ _
  · refine g_lload 4 dX5_round_189 rfl ?_
    refine g_lconst (v := 1) dX5_round_191 (by decide) ?_
    refine g_ladd dX5_round_192 ?_
    refine g_goto 198 dX5_round_193 (by decide) ?_
    refine G.sub [1, 2, 3] rfl ?_
    exact gX5_round_p198 _ _ _ _ _
def V.Fmt_round_p177  (σ : HS) (x0 : Nat) (x1 : Int32) (x10 : Int32) (x12 : Int64) : Option (Int64 × HS) :=
  Fmt_round_p182 σ x0 x1 x10 x12 (1 : Int32)
theorem V.gX5_round_p177 {X : CX}  (σ : HS) (x0 : Nat) (x1 : Int32) (x10 : Int32) (x12 : Int64) : G X RX5 "round" cX5_round 20 (some .long) 2 43 enJ 177 [(0, av x0), (1, iv x1), (10, iv x10), (12, jv x12)] [] σ (Fmt_round_p177 σ x0 x1 x10 x12) := by
  unfold Fmt_round_p177
  refine g_iconst (v := 1) dX5_round_177 (by decide) ?_
  refine g_goto 182 dX5_round_178 (by decide) ?_
  exact gX5_round_p182 _ _ _ _ _ _
def V.Fmt_round_p181  (σ : HS) (x0 : Nat) (x1 : Int32) (x10 : Int32) (x12 : Int64) : Option (Int64 × HS) :=
  Fmt_round_p182 σ x0 x1 x10 x12 (0 : Int32)
theorem V.gX5_round_p181 {X : CX}  (σ : HS) (x0 : Nat) (x1 : Int32) (x10 : Int32) (x12 : Int64) : G X RX5 "round" cX5_round 20 (some .long) 2 43 enJ 181 [(0, av x0), (1, iv x1), (10, iv x10), (12, jv x12)] [] σ (Fmt_round_p181 σ x0 x1 x10 x12) := by
  unfold Fmt_round_p181
  refine g_iconst (v := 0) dX5_round_181 (by decide) ?_
  exact gX5_round_p182 _ _ _ _ _ _
def V.Fmt_round_p135  (σ : HS) (x0 : Nat) (x1 : Int32) (x5 : Int32) (x10 : Int32) (x11 : Int32) (x12 : Int64) (s0 : Int64) : Option (Int64 × HS) :=
  bn (lshl (1 : Int64) (x11 - (1 : Int32))) fun y1 =>
  if y1 < s0 then (
    Fmt_round_p177 σ x0 x1 x10 x12)
  else (
    if s0 = y1 then (
      if x5 = 0 then (
        ck (¬ (2 : Int64) = 0) <|
        if (x12 - x12 / (2 : Int64) * (2 : Int64)) = (1 : Int64) then (
          Fmt_round_p177 σ x0 x1 x10 x12)
        else (
          Fmt_round_p181 σ x0 x1 x10 x12))
      else (
        Fmt_round_p177 σ x0 x1 x10 x12))
    else (
      Fmt_round_p181 σ x0 x1 x10 x12))
theorem V.gX5_round_p135 {X : CX}  (σ : HS) (x0 : Nat) (x1 : Int32) (x5 : Int32) (x10 : Int32) (x11 : Int32) (x12 : Int64) (s0 : Int64) : G X RX5 "round" cX5_round 20 (some .long) 2 43 enJ 135 [(0, av x0), (1, iv x1), (5, iv x5), (10, iv x10), (11, iv x11), (12, jv x12)] [jv s0] σ (Fmt_round_p135 σ x0 x1 x5 x10 x11 x12 s0) := by
  unfold Fmt_round_p135
  refine g_lstore dX5_round_135 (by decide) rfl ?_
  refine g_lconst (v := 1) dX5_round_137 (by decide) ?_
  refine g_iload 5 dX5_round_138 rfl ?_
  refine g_iconst (v := 1) dX5_round_140 (by decide) ?_
  refine g_isub dX5_round_141 ?_
  refine g_lshl dX5_round_142 ?_
  refine g_nmJ (fun y1 => ?_)
  refine g_lstore dX5_round_143 (by decide) rfl ?_
  refine g_lload 1 dX5_round_145 rfl ?_
  refine g_lload 0 dX5_round_147 rfl ?_
  refine g_lcmp_gt 177 dX5_round_149 dX5_round_150 (by decide) ?_ ?_
  · refine G.sub [2, 3, 5, 7] rfl ?_
    exact gX5_round_p177 _ _ _ _ _
  · refine g_lload 1 dX5_round_153 rfl ?_
    refine g_lload 0 dX5_round_155 rfl ?_
    refine g_lcmp_ne 181 dX5_round_157 dX5_round_158 (by decide) ?_ ?_
    · refine G.sub [2, 3, 5, 7] rfl ?_
      exact gX5_round_p181 _ _ _ _ _
    · refine g_iload 4 dX5_round_161 rfl ?_
      refine g_if_ne 177 dX5_round_163 (by decide) ?_ ?_
      · refine G.sub [2, 3, 5, 7] rfl ?_
        exact gX5_round_p177 _ _ _ _ _
      · refine g_lload 7 dX5_round_166 rfl ?_
        refine g_ldc2 q583 dX5_round_168 ?_
        refine g_lrem dX5_round_171 ?_
        refine g_lconst (v := 1) dX5_round_172 (by decide) ?_
        refine g_lcmp_ne 181 dX5_round_173 dX5_round_174 (by decide) ?_ ?_
        · refine G.sub [2, 3, 5, 7] rfl ?_
          exact gX5_round_p181 _ _ _ _ _
        · refine G.sub [2, 3, 5, 7] rfl ?_
          exact gX5_round_p177 _ _ _ _ _
def V.Fmt_round_p112  (σ : HS) (x0 : Nat) (x1 : Int32) (x5 : Int32) (x6 : Int64) (x10 : Int32) (x11 : Int32) (s0 : Int64) : Option (Int64 × HS) :=
  if x11 = (63 : Int32) then (
    Fmt_round_p135 σ x0 x1 x5 x10 x11 s0 x6)
  else (
    Fmt_round_p135 σ x0 x1 x5 x10 x11 s0 (x6 &&& ((lshl (1 : Int64) x11) - (1 : Int64))))
theorem V.gX5_round_p112 {X : CX}  (σ : HS) (x0 : Nat) (x1 : Int32) (x5 : Int32) (x6 : Int64) (x10 : Int32) (x11 : Int32) (s0 : Int64) : G X RX5 "round" cX5_round 20 (some .long) 2 43 enJ 112 [(0, av x0), (1, iv x1), (5, iv x5), (6, jv x6), (10, iv x10), (11, iv x11)] [jv s0] σ (Fmt_round_p112 σ x0 x1 x5 x6 x10 x11 s0) := by
  unfold Fmt_round_p112
  refine g_lstore dX5_round_112 (by decide) rfl ?_
  refine g_iload 6 dX5_round_114 rfl ?_
  refine g_bipush (v := 63) dX5_round_116 (by decide) ?_
  refine g_icmp_ne 126 dX5_round_118 (by decide) ?_ ?_
  · refine g_lload 4 dX5_round_126 rfl ?_
    refine g_lconst (v := 1) dX5_round_128 (by decide) ?_
    refine g_iload 6 dX5_round_129 rfl ?_
    refine g_lshl dX5_round_131 ?_
    refine g_lconst (v := 1) dX5_round_132 (by decide) ?_
    refine g_lsub dX5_round_133 ?_
    refine g_land dX5_round_134 ?_
    refine G.sub [1, 2, 3, 5, 6, 0] rfl ?_
    exact gX5_round_p135 _ _ _ _ _ _ _ _
  · refine g_lload 4 dX5_round_121 rfl ?_
    refine g_goto 135 dX5_round_123 (by decide) ?_
    refine G.sub [1, 2, 3, 5, 6, 0] rfl ?_
    exact gX5_round_p135 _ _ _ _ _ _ _ _
def V.Fmt_round_p73  (σ : HS) (x0 : Nat) (x1 : Int32) (x5 : Int32) (x6 : Int64) (x8 : Int32) (s0 : Int32) : Option (Int64 × HS) :=
  bn (s0 - x8) fun y1 =>
  if y1 ≤ (63 : Int32) then (
    if y1 = (63 : Int32) then (
      Fmt_round_p112 σ x0 x1 x5 x6 s0 y1 (0 : Int64))
    else (
      Fmt_round_p112 σ x0 x1 x5 x6 s0 y1 (lshr x6 y1)))
  else (
    ck (tg σ x0 = 6) <| cl (Fmt_signed σ x0 x1 (0 : Int64)) fun r3 σ2 =>
    some (r3, σ2))
theorem V.gX5_round_p73 {X : CX}  (σ : HS) (x0 : Nat) (x1 : Int32) (x5 : Int32) (x6 : Int64) (x8 : Int32) (s0 : Int32) : G X RX5 "round" cX5_round 20 (some .long) 2 43 enJ 73 [(0, av x0), (1, iv x1), (5, iv x5), (6, jv x6), (8, iv x8)] [iv s0] σ (Fmt_round_p73 σ x0 x1 x5 x6 x8 s0) := by
  unfold Fmt_round_p73
  refine g_istore dX5_round_73 (by decide) rfl ?_
  refine g_iload 0 dX5_round_75 rfl ?_
  refine g_iload 5 dX5_round_77 rfl ?_
  refine g_isub dX5_round_79 ?_
  refine g_nmI (fun y1 => ?_)
  refine g_istore dX5_round_80 (by decide) rfl ?_
  refine g_iload 0 dX5_round_82 rfl ?_
  refine g_bipush (v := 63) dX5_round_84 (by decide) ?_
  refine g_icmp_le 96 dX5_round_86 (by decide) ?_ ?_
  · refine g_iload 0 dX5_round_96 rfl ?_
    refine g_bipush (v := 63) dX5_round_98 (by decide) ?_
    refine g_icmp_ne 107 dX5_round_100 (by decide) ?_ ?_
    · refine g_lload 5 dX5_round_107 rfl ?_
      refine g_iload 0 dX5_round_109 rfl ?_
      refine g_lshr dX5_round_111 ?_
      refine G.sub [2, 3, 4, 5, 1, 0] rfl ?_
      exact gX5_round_p112 _ _ _ _ _ _ _ _
    · refine g_lconst (v := 0) dX5_round_103 (by decide) ?_
      refine g_goto 112 dX5_round_104 (by decide) ?_
      refine G.sub [2, 3, 4, 5, 1, 0] rfl ?_
      exact gX5_round_p112 _ _ _ _ _ _ _ _
  · refine g_aload_n 0 2 dX5_round_89 rfl rfl ?_
    refine g_iload_n 1 3 dX5_round_90 rfl rfl ?_
    refine g_lconst (v := 0) dX5_round_91 (by decide) ?_
    refine g_callV (fc := fun sς => Fmt_signed sς x0 x1 (0 : Int64)) (ci := 5) (as := [iv x1, jv (0 : Int64)]) rfl rfl rfl q2586 q2587 mdX5_48 (ctX5_signed x0 x1 (0 : Int64)) rfl (Nat.le_of_ble_eq_true rfl) (Nat.le_of_ble_eq_true rfl) (Nat.le_of_ble_eq_true rfl) pu_J dX5_round_92 (fun r3 σ2 => ?_)
    exact g_lreturn rfl dX5_round_95
def V.Fmt_round_p7  : Nat → HS → Nat → Int32 → Int32 → Int64 → Int32 → Option (Int64 × HS)
  | 0, _, _, _, _, _, _ => none
  | n + 1, σ, x0, x1, x5, x6, x8 =>
    if (4611686018427387904 : Int64) ≤ x6 then (
      ck (tg σ x0 = 6) <|
      ck (tg σ x0 = 6) <|
      bn (((2 : Int32) - (gI σ x0 2)) - (gI σ x0 1)) fun y1 =>
      ck (tg σ x0 = 6) <|
      if ((x8 + (63 : Int32)) - (gI σ x0 1)) ≤ y1 then (
        Fmt_round_p73 σ x0 x1 x5 x6 x8 y1)
      else (
        ck (tg σ x0 = 6) <|
        Fmt_round_p73 σ x0 x1 x5 x6 x8 ((x8 + (63 : Int32)) - (gI σ x0 1))))
    else (
      bn ((2 : Int64) * x6) fun y2 =>
      bn (x8 + (-1 : Int32)) fun y3 =>
      Fmt_round_p7 n σ x0 x1 x5 y2 y3)
theorem V.gX5_round_p7 {X : CX}  : ∀ (n : Nat) (σ : HS) (x0 : Nat) (x1 : Int32) (x5 : Int32) (x6 : Int64) (x8 : Int32), G X RX5 "round" cX5_round 20 (some .long) 2 43 enJ 7 [(0, av x0), (1, iv x1), (5, iv x5), (6, jv x6), (8, iv x8)] [] σ (Fmt_round_p7 n σ x0 x1 x5 x6 x8)
  | 0, σ, x0, x1, x5, x6, x8 => by rw [Fmt_round_p7]; exact G.nul
  | n + 1, σ, x0, x1, x5, x6, x8 => by
    rw [Fmt_round_p7]
    refine g_lload 3 dX5_round_7 rfl ?_
    refine g_ldc2 q2620 dX5_round_9 ?_
    refine g_lcmp_ge 30 dX5_round_12 dX5_round_13 (by decide) ?_ ?_
    · refine g_iconst (v := 2) dX5_round_30 (by decide) ?_
      refine g_aload_n 0 0 dX5_round_31 rfl rfl ?_
      refine g_getI fdX5_16 dX5_round_32 ?_
      refine g_isub dX5_round_35 ?_
      refine g_aload_n 0 0 dX5_round_36 rfl rfl ?_
      refine g_getI fdX5_13 dX5_round_37 ?_
      refine g_isub dX5_round_40 ?_
      refine g_nmI (fun y1 => ?_)
      refine g_istore dX5_round_41 (by decide) rfl ?_
      refine g_iload 5 dX5_round_43 rfl ?_
      refine g_bipush (v := 63) dX5_round_45 (by decide) ?_
      refine g_iadd dX5_round_47 ?_
      refine g_aload_n 0 1 dX5_round_48 rfl rfl ?_
      refine g_getI fdX5_13 dX5_round_49 ?_
      refine g_isub dX5_round_52 ?_
      refine g_iload 0 dX5_round_53 rfl ?_
      refine g_icmp_le 71 dX5_round_55 (by decide) ?_ ?_
      · refine g_iload 0 dX5_round_71 rfl ?_
        refine G.sub [1, 2, 3, 4, 5] rfl ?_
        exact gX5_round_p73 _ _ _ _ _ _ _
      · refine g_iload 5 dX5_round_58 rfl ?_
        refine g_bipush (v := 63) dX5_round_60 (by decide) ?_
        refine g_iadd dX5_round_62 ?_
        refine g_aload_n 0 1 dX5_round_63 rfl rfl ?_
        refine g_getI fdX5_13 dX5_round_64 ?_
        refine g_isub dX5_round_67 ?_
        refine g_goto 73 dX5_round_68 (by decide) ?_
        refine G.sub [1, 2, 3, 4, 5] rfl ?_
        exact gX5_round_p73 _ _ _ _ _ _ _
    · refine g_ldc2 q583 dX5_round_16 ?_
      refine g_lload 3 dX5_round_19 rfl ?_
      refine g_lmul dX5_round_21 ?_
      refine g_nmJ (fun y2 => ?_)
      refine g_lstore dX5_round_22 (by decide) rfl ?_
      refine g_iincB (w := (-1)) 4 dX5_round_24 rfl (by decide) (by decide) (fun _ => rfl) (fun y3 => ?_)
      refine g_goto 7 dX5_round_27 (by decide) ?_
      refine G.sub [2, 3, 4, 1, 0] rfl ?_
      exact gX5_round_p7 n _ _ _ _ _ _
def V.Fmt_round (σ : HS) (x0 : Nat) (x1 : Int32) (x2 : Int64) (x4 : Int32) (x5 : Int32) : Option (Int64 × HS) :=
  Fmt_round_p7 FU σ x0 x1 x5 x2 x4
theorem V.ctX5_round (x0 : Nat) (x1 : Int32) (x2 : Int64) (x4 : Int32) (x5 : Int32) : Ct yX5_round  cX5_round 20 (some .long) 2 43 eJ [av x0, iv x1, jv x2, iv x4, iv x5] (fun σ => Fmt_round σ x0 x1 x2 x4 x5) := by
  refine Ct.of (own := RX5) (nm := "round") (desc := "(ZJIZ)J") rfl (by decide) (Nat.le_of_ble_eq_true rfl) (by decide) (fun X σ => ?_)
  show G X RX5 "round" cX5_round 20 (some .long) 2 43 enJ 0 [(0, av x0), (1, iv x1), (2, jv x2), (4, iv x4), (5, iv x5)] [] σ (Fmt_round σ x0 x1 x2 x4 x5)
  unfold Fmt_round
  refine g_lload_n 2 2 dX5_round_0 rfl rfl ?_
  refine g_lstore dX5_round_1 (by decide) rfl ?_
  refine g_iload 4 dX5_round_3 rfl ?_
  refine g_istore dX5_round_5 (by decide) rfl ?_
  refine G.sub [2, 3, 6, 1, 0] rfl ?_
  exact gX5_round_p7 FU _ _ _ _ _ _
theorem V.dX15_init_0 : decode cX15_init 0 = .ok (.aload_n 0, 1) := by decide +kernel
theorem V.dX15_init_1 : decode cX15_init 1 = .ok (.invokespecial 1, 3) := by decide +kernel
theorem V.dX15_init_4 : decode cX15_init 4 = .ok (.aload_n 0, 1) := by decide +kernel
theorem V.dX15_init_5 : decode cX15_init 5 = .ok (.iload_n 1, 1) := by decide +kernel
theorem V.dX15_init_6 : decode cX15_init 6 = .ok (.putfield 7, 3) := by decide +kernel
theorem V.dX15_init_9 : decode cX15_init 9 = .ok (.aload_n 0, 1) := by decide +kernel
theorem V.dX15_init_10 : decode cX15_init 10 = .ok (.aload_n 2, 1) := by decide +kernel
theorem V.dX15_init_11 : decode cX15_init 11 = .ok (.putfield 13, 3) := by decide +kernel
theorem V.dX15_init_14 : decode cX15_init 14 = .ok (.aload_n 0, 1) := by decide +kernel
theorem V.dX15_init_15 : decode cX15_init 15 = .ok (.aload_n 3, 1) := by decide +kernel
theorem V.dX15_init_16 : decode cX15_init 16 = .ok (.putfield 17, 3) := by decide +kernel
theorem V.dX15_init_19 : decode cX15_init 19 = .ok (.aload_n 0, 1) := by decide +kernel
theorem V.dX15_init_20 : decode cX15_init 20 = .ok (.aload_n 3, 1) := by decide +kernel
theorem V.dX15_init_21 : decode cX15_init 21 = .ok (.arraylength, 1) := by decide +kernel
theorem V.dX15_init_22 : decode cX15_init 22 = .ok (.aload 4, 2) := by decide +kernel
theorem V.dX15_init_24 : decode cX15_init 24 = .ok (.arraylength, 1) := by decide +kernel
theorem V.dX15_init_25 : decode cX15_init 25 = .ok (.idiv, 1) := by decide +kernel
theorem V.dX15_init_26 : decode cX15_init 26 = .ok (.putfield 21, 3) := by decide +kernel
theorem V.dX15_init_29 : decode cX15_init 29 = .ok (.aload_n 0, 1) := by decide +kernel
theorem V.dX15_init_30 : decode cX15_init 30 = .ok (.aload 4, 2) := by decide +kernel
theorem V.dX15_init_32 : decode cX15_init 32 = .ok (.putfield 24, 3) := by decide +kernel
theorem V.dX15_init_35 : decode cX15_init 35 = .ok (.aload_n 0, 1) := by decide +kernel
theorem V.dX15_init_36 : decode cX15_init 36 = .ok (.aload 5, 2) := by decide +kernel
theorem V.dX15_init_38 : decode cX15_init 38 = .ok (.putfield 27, 3) := by decide +kernel
theorem V.dX15_init_41 : decode cX15_init 41 = .ok (.return_, 1) := by decide +kernel
theorem V.fpX15_7 : FP RX15 "<init>" 7 15 0 (.int) := ⟨(RX15, TX15, 8), tyX15, rfl, rfl, in_X15, by decide, tyX15_ok, nmX15, rfl, Or.inr ⟨rfl, rfl, rfl, q987⟩⟩
theorem V.fpX15_13 : FP RX15 "<init>" 13 15 1 (.array .byte) := ⟨(RX15, TX15, 8), tyX15, rfl, rfl, in_X15, by decide, tyX15_ok, nmX15, rfl, Or.inr ⟨rfl, rfl, rfl, q988⟩⟩
theorem V.fpX15_17 : FP RX15 "<init>" 17 15 2 (.array .int) := ⟨(RX15, TX15, 8), tyX15, rfl, rfl, in_X15, by decide, tyX15_ok, nmX15, rfl, Or.inr ⟨rfl, rfl, rfl, q989⟩⟩
theorem V.fpX15_21 : FP RX15 "<init>" 21 15 3 (.int) := ⟨(RX15, TX15, 8), tyX15, rfl, rfl, in_X15, by decide, tyX15_ok, nmX15, rfl, Or.inr ⟨rfl, rfl, rfl, q990⟩⟩
theorem V.fpX15_24 : FP RX15 "<init>" 24 15 5 (.array .int) := ⟨(RX15, TX15, 8), tyX15, rfl, rfl, in_X15, by decide, tyX15_ok, nmX15, rfl, Or.inr ⟨rfl, rfl, rfl, q992⟩⟩
theorem V.fpX15_27 : FP RX15 "<init>" 27 15 6 (.array .int) := ⟨(RX15, TX15, 8), tyX15, rfl, rfl, in_X15, by decide, tyX15_ok, nmX15, rfl, Or.inr ⟨rfl, rfl, rfl, q993⟩⟩
/-! ModuleEngine$Pages.<init>(I[B[I[I[I)V -/
def V.Pag_init (σ : HS) (x0 : Nat) (x1 : Int32) (x2 : Nat) (x3 : Nat) (x4 : Nat) (x5 : Nat) : Option (Unit × HS) :=
  ck (¬ x0 = 0) <|
  ck (tg σ x0 = 16) <| bn (sI σ x0 0 x1) fun σ1 =>
  ck (tg σ1 x0 = 16) <| bn (sR σ1 x0 1 x2) fun σ2 =>
  ck (tg σ2 x0 = 16) <| bn (sR σ2 x0 2 x3) fun σ3 =>
  ck (tg σ3 x3 = 100) <|
  ck (tg σ3 x4 = 100) <|
  ck (¬ (nI (ln σ3 x4)) = 0) <|
  ck (tg σ3 x0 = 16) <| bn (sI σ3 x0 3 ((nI (ln σ3 x3)) / (nI (ln σ3 x4)))) fun σ4 =>
  ck (tg σ4 x0 = 16) <| bn (sR σ4 x0 5 x4) fun σ5 =>
  ck (tg σ5 x0 = 16) <| bn (sR σ5 x0 6 x5) fun σ6 =>
  some ((), σ6)
theorem V.ctX15_init (x0 : Nat) (x1 : Int32) (x2 : Nat) (x3 : Nat) (x4 : Nat) (x5 : Nat) : Ct yX15_init  cX15_init 6 none 1 24 eV [av x0, iv x1, av x2, av x3, av x4, av x5] (fun σ => Pag_init σ x0 x1 x2 x3 x4 x5) := by
  refine Ct.of (own := RX15) (nm := "<init>") (desc := "(I[B[I[I[I)V") rfl (by decide) (Nat.le_of_ble_eq_true rfl) (by decide) (fun X σ => ?_)
  show G X RX15 "<init>" cX15_init 6 none 1 24 enV 0 [(0, av x0), (1, iv x1), (2, av x2), (3, av x3), (4, av x4), (5, av x5)] [] σ (Pag_init σ x0 x1 x2 x3 x4 x5)
  unfold Pag_init
  refine g_aload_n 0 0 dX15_init_0 rfl rfl ?_
  refine g_objInit q986 (Nat.le_of_ble_eq_true rfl) (Nat.le_of_ble_eq_true rfl) dX15_init_1 ?_
  refine g_aload_n 0 0 dX15_init_4 rfl rfl ?_
  refine g_iload_n 1 1 dX15_init_5 rfl rfl ?_
  refine g_putI fpX15_7 dX15_init_6 (fun σ1 => ?_)
  refine g_aload_n 0 0 dX15_init_9 rfl rfl ?_
  refine g_aload_n 2 2 dX15_init_10 rfl rfl ?_
  refine g_putR fpX15_13 rfl dX15_init_11 (fun σ2 => ?_)
  refine g_aload_n 0 0 dX15_init_14 rfl rfl ?_
  refine g_aload_n 3 3 dX15_init_15 rfl rfl ?_
  refine g_putR fpX15_17 rfl dX15_init_16 (fun σ3 => ?_)
  refine g_aload_n 0 0 dX15_init_19 rfl rfl ?_
  refine g_aload_n 3 3 dX15_init_20 rfl rfl ?_
  refine g_alen 0 rfl dX15_init_21 ?_
  refine g_aload 4 dX15_init_22 rfl ?_
  refine g_alen 0 rfl dX15_init_24 ?_
  refine g_idiv dX15_init_25 ?_
  refine g_putI fpX15_21 dX15_init_26 (fun σ4 => ?_)
  refine g_aload_n 0 0 dX15_init_29 rfl rfl ?_
  refine g_aload 4 dX15_init_30 rfl ?_
  refine g_putR fpX15_24 rfl dX15_init_32 (fun σ5 => ?_)
  refine g_aload_n 0 0 dX15_init_35 rfl rfl ?_
  refine g_aload 5 dX15_init_36 rfl ?_
  refine g_putR fpX15_27 rfl dX15_init_38 (fun σ6 => ?_)
  exact g_return rfl dX15_init_41
theorem V.dX15_size_0 : decode cX15_size 0 = .ok (.aload_n 0, 1) := by decide +kernel
theorem V.dX15_size_1 : decode cX15_size 1 = .ok (.getfield 24, 3) := by decide +kernel
theorem V.dX15_size_4 : decode cX15_size 4 = .ok (.iload_n 1, 1) := by decide +kernel
theorem V.dX15_size_5 : decode cX15_size 5 = .ok (.iaload, 1) := by decide +kernel
theorem V.dX15_size_6 : decode cX15_size 6 = .ok (.ireturn, 1) := by decide +kernel
theorem V.fdX15_24 : FD RX15 24 15 5 2 := ⟨(RX15, TX15, 8), tyX15, rfl, rfl, in_X15, by decide, Or.inl q992, rfl⟩
/-! ModuleEngine$Pages.size(I)I -/
def V.Pag_size (σ : HS) (x0 : Nat) (x1 : Int32) : Option (Int32 × HS) :=
  ck (tg σ x0 = 16) <|
  ck (tg σ (gR σ x0 5) = 100 ∧ inb x1 (ln σ (gR σ x0 5))) <|
  some (gI σ (gR σ x0 5) (ix x1), σ)
theorem V.ctX15_size (x0 : Nat) (x1 : Int32) : Ct yX15_size  cX15_size 2 (some .int) 0 0 eI [av x0, iv x1] (fun σ => Pag_size σ x0 x1) := by
  refine Ct.of (own := RX15) (nm := "size") (desc := "(I)I") rfl (by decide) (Nat.le_of_ble_eq_true rfl) (by decide) (fun X σ => ?_)
  show G X RX15 "size" cX15_size 2 (some .int) 0 0 enI 0 [(0, av x0), (1, iv x1)] [] σ (Pag_size σ x0 x1)
  unfold Pag_size
  refine g_aload_n 0 0 dX15_size_0 rfl rfl ?_
  refine g_getR fdX15_24 dX15_size_1 ?_
  refine g_iload_n 1 1 dX15_size_4 rfl rfl ?_
  refine g_iaload dX15_size_5 ?_
  exact g_ireturn rfl dX15_size_6
theorem V.dX15_limit_0 : decode cX15_limit 0 = .ok (.aload_n 0, 1) := by decide +kernel
theorem V.dX15_limit_1 : decode cX15_limit 1 = .ok (.getfield 27, 3) := by decide +kernel
theorem V.dX15_limit_4 : decode cX15_limit 4 = .ok (.iload_n 1, 1) := by decide +kernel
theorem V.dX15_limit_5 : decode cX15_limit 5 = .ok (.iaload, 1) := by decide +kernel
theorem V.dX15_limit_6 : decode cX15_limit 6 = .ok (.ireturn, 1) := by decide +kernel
theorem V.fdX15_27 : FD RX15 27 15 6 2 := ⟨(RX15, TX15, 8), tyX15, rfl, rfl, in_X15, by decide, Or.inl q993, rfl⟩
/-! ModuleEngine$Pages.limit(I)I -/
def V.Pag_limit (σ : HS) (x0 : Nat) (x1 : Int32) : Option (Int32 × HS) :=
  ck (tg σ x0 = 16) <|
  ck (tg σ (gR σ x0 6) = 100 ∧ inb x1 (ln σ (gR σ x0 6))) <|
  some (gI σ (gR σ x0 6) (ix x1), σ)
theorem V.ctX15_limit (x0 : Nat) (x1 : Int32) : Ct yX15_limit  cX15_limit 2 (some .int) 0 0 eI [av x0, iv x1] (fun σ => Pag_limit σ x0 x1) := by
  refine Ct.of (own := RX15) (nm := "limit") (desc := "(I)I") rfl (by decide) (Nat.le_of_ble_eq_true rfl) (by decide) (fun X σ => ?_)
  show G X RX15 "limit" cX15_limit 2 (some .int) 0 0 enI 0 [(0, av x0), (1, iv x1)] [] σ (Pag_limit σ x0 x1)
  unfold Pag_limit
  refine g_aload_n 0 0 dX15_limit_0 rfl rfl ?_
  refine g_getR fdX15_27 dX15_limit_1 ?_
  refine g_iload_n 1 1 dX15_limit_4 rfl rfl ?_
  refine g_iaload dX15_limit_5 ?_
  exact g_ireturn rfl dX15_limit_6
theorem V.dX15_many_0 : decode cX15_many 0 = .ok (.aload_n 0, 1) := by decide +kernel
theorem V.dX15_many_1 : decode cX15_many 1 = .ok (.getfield 30, 3) := by decide +kernel
theorem V.dX15_many_4 : decode cX15_many 4 = .ok (.ireturn, 1) := by decide +kernel
theorem V.fdX15_30 : FD RX15 30 15 7 0 := ⟨(RX15, TX15, 8), tyX15, rfl, rfl, in_X15, by decide, Or.inl q994, rfl⟩
/-! ModuleEngine$Pages.many()I -/
def V.Pag_many (σ : HS) (x0 : Nat) : Option (Int32 × HS) :=
  ck (tg σ x0 = 16) <|
  some (gI σ x0 7, σ)
theorem V.ctX15_many (x0 : Nat) : Ct yX15_many  cX15_many 1 (some .int) 0 0 eI [av x0] (fun σ => Pag_many σ x0) := by
  refine Ct.of (own := RX15) (nm := "many") (desc := "()I") rfl (by decide) (Nat.le_of_ble_eq_true rfl) (by decide) (fun X σ => ?_)
  show G X RX15 "many" cX15_many 1 (some .int) 0 0 enI 0 [(0, av x0)] [] σ (Pag_many σ x0)
  unfold Pag_many
  refine g_aload_n 0 0 dX15_many_0 rfl rfl ?_
  refine g_getI fdX15_30 dX15_many_1 ?_
  exact g_ireturn rfl dX15_many_4
theorem V.dX15_left_0 : decode cX15_left 0 = .ok (.aload_n 0, 1) := by decide +kernel
theorem V.dX15_left_1 : decode cX15_left 1 = .ok (.getfield 13, 3) := by decide +kernel
theorem V.dX15_left_4 : decode cX15_left 4 = .ok (.arraylength, 1) := by decide +kernel
theorem V.dX15_left_5 : decode cX15_left 5 = .ok (.aload_n 0, 1) := by decide +kernel
theorem V.dX15_left_6 : decode cX15_left 6 = .ok (.getfield 7, 3) := by decide +kernel
theorem V.dX15_left_9 : decode cX15_left 9 = .ok (.ishr, 1) := by decide +kernel
theorem V.dX15_left_10 : decode cX15_left 10 = .ok (.aload_n 0, 1) := by decide +kernel
theorem V.dX15_left_11 : decode cX15_left 11 = .ok (.getfield 33, 3) := by decide +kernel
theorem V.dX15_left_14 : decode cX15_left 14 = .ok (.isub, 1) := by decide +kernel
theorem V.dX15_left_15 : decode cX15_left 15 = .ok (.ireturn, 1) := by decide +kernel
theorem V.fdX15_13 : FD RX15 13 15 1 2 := ⟨(RX15, TX15, 8), tyX15, rfl, rfl, in_X15, by decide, Or.inl q988, rfl⟩
theorem V.fdX15_7 : FD RX15 7 15 0 0 := ⟨(RX15, TX15, 8), tyX15, rfl, rfl, in_X15, by decide, Or.inl q987, rfl⟩
theorem V.fdX15_33 : FD RX15 33 15 4 0 := ⟨(RX15, TX15, 8), tyX15, rfl, rfl, in_X15, by decide, Or.inl q991, rfl⟩
/-! ModuleEngine$Pages.left()I -/
def V.Pag_left (σ : HS) (x0 : Nat) : Option (Int32 × HS) :=
  ck (tg σ x0 = 16) <|
  ck (tg σ (gR σ x0 1) = 102) <|
  ck (tg σ x0 = 16) <|
  ck (tg σ x0 = 16) <|
  some (((nI (ln σ (gR σ x0 1))) >>> ((gI σ x0 0) &&& 31)) - (gI σ x0 4), σ)
theorem V.ctX15_left (x0 : Nat) : Ct yX15_left  cX15_left 1 (some .int) 0 0 eI [av x0] (fun σ => Pag_left σ x0) := by
  refine Ct.of (own := RX15) (nm := "left") (desc := "()I") rfl (by decide) (Nat.le_of_ble_eq_true rfl) (by decide) (fun X σ => ?_)
  show G X RX15 "left" cX15_left 1 (some .int) 0 0 enI 0 [(0, av x0)] [] σ (Pag_left σ x0)
  unfold Pag_left
  refine g_aload_n 0 0 dX15_left_0 rfl rfl ?_
  refine g_getR fdX15_13 dX15_left_1 ?_
  refine g_alen 2 rfl dX15_left_4 ?_
  refine g_aload_n 0 0 dX15_left_5 rfl rfl ?_
  refine g_getI fdX15_7 dX15_left_6 ?_
  refine g_ishr dX15_left_9 ?_
  refine g_aload_n 0 0 dX15_left_10 rfl rfl ?_
  refine g_getI fdX15_33 dX15_left_11 ?_
  refine g_isub dX15_left_14 ?_
  exact g_ireturn rfl dX15_left_15
theorem V.dX15_add_0 : decode cX15_add 0 = .ok (.iconst 0, 1) := by decide +kernel
theorem V.dX15_add_1 : decode cX15_add 1 = .ok (.istore_n 3, 1) := by decide +kernel
theorem V.dX15_add_2 : decode cX15_add 2 = .ok (.iload_n 3, 1) := by decide +kernel
theorem V.dX15_add_3 : decode cX15_add 3 = .ok (.iload_n 2, 1) := by decide +kernel
theorem V.dX15_add_4 : decode cX15_add 4 = .ok (.if_icmp .ge 51, 3) := by decide +kernel
theorem V.dX15_add_7 : decode cX15_add 7 = .ok (.aload_n 0, 1) := by decide +kernel
theorem V.dX15_add_8 : decode cX15_add 8 = .ok (.getfield 17, 3) := by decide +kernel
theorem V.dX15_add_11 : decode cX15_add 11 = .ok (.iload_n 1, 1) := by decide +kernel
theorem V.dX15_add_12 : decode cX15_add 12 = .ok (.aload_n 0, 1) := by decide +kernel
theorem V.dX15_add_13 : decode cX15_add 13 = .ok (.getfield 21, 3) := by decide +kernel
theorem V.dX15_add_16 : decode cX15_add 16 = .ok (.imul, 1) := by decide +kernel
theorem V.dX15_add_17 : decode cX15_add 17 = .ok (.aload_n 0, 1) := by decide +kernel
theorem V.dX15_add_18 : decode cX15_add 18 = .ok (.getfield 24, 3) := by decide +kernel
theorem V.dX15_add_21 : decode cX15_add 21 = .ok (.iload_n 1, 1) := by decide +kernel
theorem V.dX15_add_22 : decode cX15_add 22 = .ok (.iaload, 1) := by decide +kernel
theorem V.dX15_add_23 : decode cX15_add 23 = .ok (.iadd, 1) := by decide +kernel
theorem V.dX15_add_24 : decode cX15_add 24 = .ok (.aload_n 0, 1) := by decide +kernel
theorem V.dX15_add_25 : decode cX15_add 25 = .ok (.getfield 33, 3) := by decide +kernel
theorem V.dX15_add_28 : decode cX15_add 28 = .ok (.iastore, 1) := by decide +kernel
theorem V.dX15_add_29 : decode cX15_add 29 = .ok (.aload_n 0, 1) := by decide +kernel
theorem V.dX15_add_30 : decode cX15_add 30 = .ok (.dup, 1) := by decide +kernel
theorem V.dX15_add_31 : decode cX15_add 31 = .ok (.getfield 33, 3) := by decide +kernel
theorem V.dX15_add_34 : decode cX15_add 34 = .ok (.iconst 1, 1) := by decide +kernel
theorem V.dX15_add_35 : decode cX15_add 35 = .ok (.iadd, 1) := by decide +kernel
theorem V.dX15_add_36 : decode cX15_add 36 = .ok (.putfield 33, 3) := by decide +kernel
theorem V.dX15_add_39 : decode cX15_add 39 = .ok (.aload_n 0, 1) := by decide +kernel
theorem V.dX15_add_40 : decode cX15_add 40 = .ok (.getfield 24, 3) := by decide +kernel
theorem V.dX15_add_43 : decode cX15_add 43 = .ok (.iload_n 1, 1) := by decide +kernel
theorem V.dX15_add_44 : decode cX15_add 44 = .ok (.dup2, 1) := by decide +kernel
theorem V.dX15_add_45 : decode cX15_add 45 = .ok (.iaload, 1) := by decide +kernel
theorem V.dX15_add_46 : decode cX15_add 46 = .ok (.iconst 1, 1) := by decide +kernel
theorem V.dX15_add_47 : decode cX15_add 47 = .ok (.iadd, 1) := by decide +kernel
theorem V.dX15_add_48 : decode cX15_add 48 = .ok (.iastore, 1) := by decide +kernel
theorem V.dX15_add_49 : decode cX15_add 49 = .ok (.iinc 3 1, 3) := by decide +kernel
theorem V.dX15_add_52 : decode cX15_add 52 = .ok (.goto (-50), 3) := by decide +kernel
theorem V.dX15_add_55 : decode cX15_add 55 = .ok (.return_, 1) := by decide +kernel
theorem V.fdX15_17 : FD RX15 17 15 2 2 := ⟨(RX15, TX15, 8), tyX15, rfl, rfl, in_X15, by decide, Or.inl q989, rfl⟩
theorem V.fdX15_21 : FD RX15 21 15 3 0 := ⟨(RX15, TX15, 8), tyX15, rfl, rfl, in_X15, by decide, Or.inl q990, rfl⟩
theorem V.fpX15_33 {nm : String} : FP RX15 nm 33 15 4 (.int) := ⟨(RX15, TX15, 8), tyX15, rfl, rfl, in_X15, by decide, tyX15_ok, nmX15, rfl, Or.inl ⟨rfl, Or.inl q991⟩⟩
/-! ModuleEngine$Pages.add(II)V -/
def V.Pag_add_p2  : Nat → HS → Nat → Int32 → Int32 → Int32 → Option (Unit × HS)
  | 0, _, _, _, _, _ => none
  | n + 1, σ, x0, x1, x2, x3 =>
    if x2 ≤ x3 then (
      some ((), σ))
    else (
      ck (tg σ x0 = 16) <|
      ck (tg σ x0 = 16) <|
      ck (tg σ x0 = 16) <|
      ck (tg σ (gR σ x0 5) = 100 ∧ inb x1 (ln σ (gR σ x0 5))) <|
      ck (tg σ x0 = 16) <|
      ck (tg σ (gR σ x0 2) = 100 ∧ inb ((x1 * (gI σ x0 3)) + (gI σ (gR σ x0 5) (ix x1))) (ln σ (gR σ x0 2))) <| bn (sI σ (gR σ x0 2) (ix ((x1 * (gI σ x0 3)) + (gI σ (gR σ x0 5) (ix x1)))) (gI σ x0 4)) fun σ1 =>
      ck (tg σ1 x0 = 16) <|
      ck (tg σ1 x0 = 16) <| bn (sI σ1 x0 4 ((gI σ1 x0 4) + (1 : Int32))) fun σ2 =>
      ck (tg σ2 x0 = 16) <|
      ck (tg σ2 (gR σ2 x0 5) = 100 ∧ inb x1 (ln σ2 (gR σ2 x0 5))) <|
      ck (tg σ2 (gR σ2 x0 5) = 100 ∧ inb x1 (ln σ2 (gR σ2 x0 5))) <| bn (sI σ2 (gR σ2 x0 5) (ix x1) ((gI σ2 (gR σ2 x0 5) (ix x1)) + (1 : Int32))) fun σ3 =>
      bn (x3 + (1 : Int32)) fun y4 =>
      Pag_add_p2 n σ3 x0 x1 x2 y4)
theorem V.gX15_add_p2 {X : CX}  : ∀ (n : Nat) (σ : HS) (x0 : Nat) (x1 : Int32) (x2 : Int32) (x3 : Int32), G X RX15 "add" cX15_add 4 none 0 0 enV 2 [(0, av x0), (1, iv x1), (2, iv x2), (3, iv x3)] [] σ (Pag_add_p2 n σ x0 x1 x2 x3)
  | 0, σ, x0, x1, x2, x3 => by rw [Pag_add_p2]; exact G.nul
  | n + 1, σ, x0, x1, x2, x3 => by
    rw [Pag_add_p2]
    refine g_iload_n 3 3 dX15_add_2 rfl rfl ?_
    refine g_iload_n 2 2 dX15_add_3 rfl rfl ?_
    refine g_icmp_ge 55 dX15_add_4 (by decide) ?_ ?_
    · exact g_return rfl dX15_add_55
    · refine g_aload_n 0 0 dX15_add_7 rfl rfl ?_
      refine g_getR fdX15_17 dX15_add_8 ?_
      refine g_iload_n 1 1 dX15_add_11 rfl rfl ?_
      refine g_aload_n 0 0 dX15_add_12 rfl rfl ?_
      refine g_getI fdX15_21 dX15_add_13 ?_
      refine g_imul dX15_add_16 ?_
      refine g_aload_n 0 0 dX15_add_17 rfl rfl ?_
      refine g_getR fdX15_24 dX15_add_18 ?_
      refine g_iload_n 1 1 dX15_add_21 rfl rfl ?_
      refine g_iaload dX15_add_22 ?_
      refine g_iadd dX15_add_23 ?_
      refine g_aload_n 0 0 dX15_add_24 rfl rfl ?_
      refine g_getI fdX15_33 dX15_add_25 ?_
      refine g_iastore dX15_add_28 (fun σ1 => ?_)
      refine g_aload_n 0 0 dX15_add_29 rfl rfl ?_
      refine g_dup dX15_add_30 rfl ?_
      refine g_getI fdX15_33 dX15_add_31 ?_
      refine g_iconst (v := 1) dX15_add_34 (by decide) ?_
      refine g_iadd dX15_add_35 ?_
      refine g_putI fpX15_33 dX15_add_36 (fun σ2 => ?_)
      refine g_aload_n 0 0 dX15_add_39 rfl rfl ?_
      refine g_getR fdX15_24 dX15_add_40 ?_
      refine g_iload_n 1 1 dX15_add_43 rfl rfl ?_
      refine g_dup2_11 dX15_add_44 rfl rfl ?_
      refine g_iaload dX15_add_45 ?_
      refine g_iconst (v := 1) dX15_add_46 (by decide) ?_
      refine g_iadd dX15_add_47 ?_
      refine g_iastore dX15_add_48 (fun σ3 => ?_)
      refine g_iincB (w := 1) 3 dX15_add_49 rfl (by decide) (by decide) (fun _ => rfl) (fun y4 => ?_)
      refine g_goto 2 dX15_add_52 (by decide) ?_
      refine G.sub [1, 2, 3, 0] rfl ?_
      exact gX15_add_p2 n _ _ _ _ _
def V.Pag_add (σ : HS) (x0 : Nat) (x1 : Int32) (x2 : Int32) : Option (Unit × HS) :=
  Pag_add_p2 FU σ x0 x1 x2 (0 : Int32)
theorem V.ctX15_add (x0 : Nat) (x1 : Int32) (x2 : Int32) : Ct yX15_add  cX15_add 4 none 0 0 eV [av x0, iv x1, iv x2] (fun σ => Pag_add σ x0 x1 x2) := by
  refine Ct.of (own := RX15) (nm := "add") (desc := "(II)V") rfl (by decide) (Nat.le_of_ble_eq_true rfl) (by decide) (fun X σ => ?_)
  show G X RX15 "add" cX15_add 4 none 0 0 enV 0 [(0, av x0), (1, iv x1), (2, iv x2)] [] σ (Pag_add σ x0 x1 x2)
  unfold Pag_add
  refine g_iconst (v := 0) dX15_add_0 (by decide) ?_
  refine g_istore_n 3 dX15_add_1 rfl (by decide) rfl ?_
  refine G.sub [1, 2, 3, 0] rfl ?_
  exact gX15_add_p2 FU _ _ _ _ _
theorem V.dX15_make_0 : decode cX15_make 0 = .ok (.aload_n 0, 1) := by decide +kernel
theorem V.dX15_make_1 : decode cX15_make 1 = .ok (.getfield 30, 3) := by decide +kernel
theorem V.dX15_make_4 : decode cX15_make 4 = .ok (.aload_n 0, 1) := by decide +kernel
theorem V.dX15_make_5 : decode cX15_make 5 = .ok (.getfield 24, 3) := by decide +kernel
theorem V.dX15_make_8 : decode cX15_make 8 = .ok (.arraylength, 1) := by decide +kernel
theorem V.dX15_make_9 : decode cX15_make 9 = .ok (.if_icmp .eq 26, 3) := by decide +kernel
theorem V.dX15_make_12 : decode cX15_make 12 = .ok (.iload_n 1, 1) := by decide +kernel
theorem V.dX15_make_13 : decode cX15_make 13 = .ok (.ifCond .lt 22, 3) := by decide +kernel
theorem V.dX15_make_16 : decode cX15_make 16 = .ok (.iload_n 1, 1) := by decide +kernel
theorem V.dX15_make_17 : decode cX15_make 17 = .ok (.iload_n 2, 1) := by decide +kernel
theorem V.dX15_make_18 : decode cX15_make 18 = .ok (.if_icmp .gt 17, 3) := by decide +kernel
theorem V.dX15_make_21 : decode cX15_make 21 = .ok (.iload_n 2, 1) := by decide +kernel
theorem V.dX15_make_22 : decode cX15_make 22 = .ok (.ldc 36, 2) := by decide +kernel
theorem V.dX15_make_24 : decode cX15_make 24 = .ok (.if_icmp .gt 11, 3) := by decide +kernel
theorem V.dX15_make_27 : decode cX15_make 27 = .ok (.iload_n 1, 1) := by decide +kernel
theorem V.dX15_make_28 : decode cX15_make 28 = .ok (.aload_n 0, 1) := by decide +kernel
theorem V.dX15_make_29 : decode cX15_make 29 = .ok (.invokevirtual 37, 3) := by decide +kernel
theorem V.dX15_make_32 : decode cX15_make 32 = .ok (.if_icmp .le 5, 3) := by decide +kernel
theorem V.dX15_make_35 : decode cX15_make 35 = .ok (.iconst (-1), 1) := by decide +kernel
theorem V.dX15_make_36 : decode cX15_make 36 = .ok (.ireturn, 1) := by decide +kernel
theorem V.dX15_make_37 : decode cX15_make 37 = .ok (.aload_n 0, 1) := by decide +kernel
theorem V.dX15_make_38 : decode cX15_make 38 = .ok (.getfield 24, 3) := by decide +kernel
theorem V.dX15_make_41 : decode cX15_make 41 = .ok (.aload_n 0, 1) := by decide +kernel
theorem V.dX15_make_42 : decode cX15_make 42 = .ok (.getfield 30, 3) := by decide +kernel
theorem V.dX15_make_45 : decode cX15_make 45 = .ok (.iconst 0, 1) := by decide +kernel
theorem V.dX15_make_46 : decode cX15_make 46 = .ok (.iastore, 1) := by decide +kernel
theorem V.dX15_make_47 : decode cX15_make 47 = .ok (.aload_n 0, 1) := by decide +kernel
theorem V.dX15_make_48 : decode cX15_make 48 = .ok (.getfield 27, 3) := by decide +kernel
theorem V.dX15_make_51 : decode cX15_make 51 = .ok (.aload_n 0, 1) := by decide +kernel
theorem V.dX15_make_52 : decode cX15_make 52 = .ok (.getfield 30, 3) := by decide +kernel
theorem V.dX15_make_55 : decode cX15_make 55 = .ok (.iload_n 2, 1) := by decide +kernel
theorem V.dX15_make_56 : decode cX15_make 56 = .ok (.iastore, 1) := by decide +kernel
theorem V.dX15_make_57 : decode cX15_make 57 = .ok (.aload_n 0, 1) := by decide +kernel
theorem V.dX15_make_58 : decode cX15_make 58 = .ok (.dup, 1) := by decide +kernel
theorem V.dX15_make_59 : decode cX15_make 59 = .ok (.getfield 30, 3) := by decide +kernel
theorem V.dX15_make_62 : decode cX15_make 62 = .ok (.iconst 1, 1) := by decide +kernel
theorem V.dX15_make_63 : decode cX15_make 63 = .ok (.iadd, 1) := by decide +kernel
theorem V.dX15_make_64 : decode cX15_make 64 = .ok (.putfield 30, 3) := by decide +kernel
theorem V.dX15_make_67 : decode cX15_make 67 = .ok (.aload_n 0, 1) := by decide +kernel
theorem V.dX15_make_68 : decode cX15_make 68 = .ok (.aload_n 0, 1) := by decide +kernel
theorem V.dX15_make_69 : decode cX15_make 69 = .ok (.getfield 30, 3) := by decide +kernel
theorem V.dX15_make_72 : decode cX15_make 72 = .ok (.iconst 1, 1) := by decide +kernel
theorem V.dX15_make_73 : decode cX15_make 73 = .ok (.isub, 1) := by decide +kernel
theorem V.dX15_make_74 : decode cX15_make 74 = .ok (.iload_n 1, 1) := by decide +kernel
theorem V.dX15_make_75 : decode cX15_make 75 = .ok (.invokevirtual 41, 3) := by decide +kernel
theorem V.dX15_make_78 : decode cX15_make 78 = .ok (.aload_n 0, 1) := by decide +kernel
theorem V.dX15_make_79 : decode cX15_make 79 = .ok (.getfield 30, 3) := by decide +kernel
theorem V.dX15_make_82 : decode cX15_make 82 = .ok (.iconst 1, 1) := by decide +kernel
theorem V.dX15_make_83 : decode cX15_make 83 = .ok (.isub, 1) := by decide +kernel
theorem V.dX15_make_84 : decode cX15_make 84 = .ok (.ireturn, 1) := by decide +kernel
theorem V.mdX15_37 : MD RX15 37 yX15_left cX15_left 1 (some .int) 0 := ⟨Or.inl q2301, q375, q2268, by decide, by decide, by decide +kernel⟩
theorem V.fpX15_30 {nm : String} : FP RX15 nm 30 15 7 (.int) := ⟨(RX15, TX15, 8), tyX15, rfl, rfl, in_X15, by decide, tyX15_ok, nmX15, rfl, Or.inl ⟨rfl, Or.inl q994⟩⟩
theorem V.mdX15_41 : MD RX15 41 yX15_add cX15_add 4 none 2 := ⟨Or.inl q2302, q375, q2305, by decide, by decide, by decide +kernel⟩
/-! ModuleEngine$Pages.make(II)I -/
def V.Pag_make (σ : HS) (x0 : Nat) (x1 : Int32) (x2 : Int32) : Option (Int32 × HS) :=
  ck (tg σ x0 = 16) <|
  ck (tg σ x0 = 16) <|
  ck (tg σ (gR σ x0 5) = 100) <|
  if (gI σ x0 7) = (nI (ln σ (gR σ x0 5))) then (
    some ((-1 : Int32), σ))
  else (
    if x1 < 0 then (
      some ((-1 : Int32), σ))
    else (
      if x2 < x1 then (
        some ((-1 : Int32), σ))
      else (
        if (65536 : Int32) < x2 then (
          some ((-1 : Int32), σ))
        else (
          ck (tg σ x0 = 16) <| cl (Pag_left σ x0 ) fun r2 σ1 =>
          if x1 ≤ r2 then (
            ck (tg σ1 x0 = 16) <|
            ck (tg σ1 x0 = 16) <|
            ck (tg σ1 (gR σ1 x0 5) = 100 ∧ inb (gI σ1 x0 7) (ln σ1 (gR σ1 x0 5))) <| bn (sI σ1 (gR σ1 x0 5) (ix (gI σ1 x0 7)) (0 : Int32)) fun σ3 =>
            ck (tg σ3 x0 = 16) <|
            ck (tg σ3 x0 = 16) <|
            ck (tg σ3 (gR σ3 x0 6) = 100 ∧ inb (gI σ3 x0 7) (ln σ3 (gR σ3 x0 6))) <| bn (sI σ3 (gR σ3 x0 6) (ix (gI σ3 x0 7)) x2) fun σ4 =>
            ck (tg σ4 x0 = 16) <|
            ck (tg σ4 x0 = 16) <| bn (sI σ4 x0 7 ((gI σ4 x0 7) + (1 : Int32))) fun σ5 =>
            ck (tg σ5 x0 = 16) <|
            ck (tg σ5 x0 = 16) <| cl (Pag_add σ5 x0 ((gI σ5 x0 7) - (1 : Int32)) x1) fun _ σ6 =>
            ck (tg σ6 x0 = 16) <|
            some ((gI σ6 x0 7) - (1 : Int32), σ6))
          else (
            some ((-1 : Int32), σ1))))))
theorem V.ctX15_make (x0 : Nat) (x1 : Int32) (x2 : Int32) : Ct yX15_make  cX15_make 3 (some .int) 1 23 eI [av x0, iv x1, iv x2] (fun σ => Pag_make σ x0 x1 x2) := by
  refine Ct.of (own := RX15) (nm := "make") (desc := "(II)I") rfl (by decide) (Nat.le_of_ble_eq_true rfl) (by decide) (fun X σ => ?_)
  show G X RX15 "make" cX15_make 3 (some .int) 1 23 enI 0 [(0, av x0), (1, iv x1), (2, iv x2)] [] σ (Pag_make σ x0 x1 x2)
  unfold Pag_make
  refine g_aload_n 0 0 dX15_make_0 rfl rfl ?_
  refine g_getI fdX15_30 dX15_make_1 ?_
  refine g_aload_n 0 0 dX15_make_4 rfl rfl ?_
  refine g_getR fdX15_24 dX15_make_5 ?_
  refine g_alen 0 rfl dX15_make_8 ?_
  refine g_icmp_eq 35 dX15_make_9 (by decide) ?_ ?_
  · refine g_iconst (v := (-1)) dX15_make_35 (by decide) ?_
    exact g_ireturn rfl dX15_make_36
  · refine g_iload_n 1 1 dX15_make_12 rfl rfl ?_
    refine g_if_lt 35 dX15_make_13 (by decide) ?_ ?_
    · refine g_iconst (v := (-1)) dX15_make_35 (by decide) ?_
      exact g_ireturn rfl dX15_make_36
    · refine g_iload_n 1 1 dX15_make_16 rfl rfl ?_
      refine g_iload_n 2 2 dX15_make_17 rfl rfl ?_
      refine g_icmp_gt 35 dX15_make_18 (by decide) ?_ ?_
      · refine g_iconst (v := (-1)) dX15_make_35 (by decide) ?_
        exact g_ireturn rfl dX15_make_36
      · refine g_iload_n 2 2 dX15_make_21 rfl rfl ?_
        refine g_ldc q2300 dX15_make_22 ?_
        refine g_icmp_gt 35 dX15_make_24 (by decide) ?_ ?_
        · refine g_iconst (v := (-1)) dX15_make_35 (by decide) ?_
          exact g_ireturn rfl dX15_make_36
        · refine g_iload_n 1 1 dX15_make_27 rfl rfl ?_
          refine g_aload_n 0 0 dX15_make_28 rfl rfl ?_
          refine g_callV (fc := fun sς => Pag_left sς x0 ) (ci := 15) (as := []) rfl rfl rfl q2266 q2267 mdX15_37 (ctX15_left x0 ) rfl (Nat.le_of_ble_eq_true rfl) (Nat.le_of_ble_eq_true rfl) (Nat.le_of_ble_eq_true rfl) pu_I dX15_make_29 (fun r2 σ1 => ?_)
          refine g_icmp_le 37 dX15_make_32 (by decide) ?_ ?_
          · refine g_aload_n 0 0 dX15_make_37 rfl rfl ?_
            refine g_getR fdX15_24 dX15_make_38 ?_
            refine g_aload_n 0 0 dX15_make_41 rfl rfl ?_
            refine g_getI fdX15_30 dX15_make_42 ?_
            refine g_iconst (v := 0) dX15_make_45 (by decide) ?_
            refine g_iastore dX15_make_46 (fun σ3 => ?_)
            refine g_aload_n 0 0 dX15_make_47 rfl rfl ?_
            refine g_getR fdX15_27 dX15_make_48 ?_
            refine g_aload_n 0 0 dX15_make_51 rfl rfl ?_
            refine g_getI fdX15_30 dX15_make_52 ?_
            refine g_iload_n 2 2 dX15_make_55 rfl rfl ?_
            refine g_iastore dX15_make_56 (fun σ4 => ?_)
            refine g_aload_n 0 0 dX15_make_57 rfl rfl ?_
            refine g_dup dX15_make_58 rfl ?_
            refine g_getI fdX15_30 dX15_make_59 ?_
            refine g_iconst (v := 1) dX15_make_62 (by decide) ?_
            refine g_iadd dX15_make_63 ?_
            refine g_putI fpX15_30 dX15_make_64 (fun σ5 => ?_)
            refine g_aload_n 0 0 dX15_make_67 rfl rfl ?_
            refine g_aload_n 0 0 dX15_make_68 rfl rfl ?_
            refine g_getI fdX15_30 dX15_make_69 ?_
            refine g_iconst (v := 1) dX15_make_72 (by decide) ?_
            refine g_isub dX15_make_73 ?_
            refine g_iload_n 1 1 dX15_make_74 rfl rfl ?_
            refine g_callV (fc := fun sς => Pag_add sς x0 ((gI σ5 x0 7) - (1 : Int32)) x1) (ci := 15) (as := [iv ((gI σ5 x0 7) - (1 : Int32)), iv x1]) rfl rfl rfl q2304 qs137 mdX15_41 (ctX15_add x0 ((gI σ5 x0 7) - (1 : Int32)) x1) rfl (Nat.le_of_ble_eq_true rfl) (Nat.le_of_ble_eq_true rfl) (Nat.le_of_ble_eq_true rfl) pu_V dX15_make_75 (fun _ σ6 => ?_)
            refine g_aload_n 0 0 dX15_make_78 rfl rfl ?_
            refine g_getI fdX15_30 dX15_make_79 ?_
            refine g_iconst (v := 1) dX15_make_82 (by decide) ?_
            refine g_isub dX15_make_83 ?_
            exact g_ireturn rfl dX15_make_84
          · refine g_iconst (v := (-1)) dX15_make_35 (by decide) ?_
            exact g_ireturn rfl dX15_make_36
theorem V.dX15_end_0 : decode cX15_end 0 = .ok (.aload_n 0, 1) := by decide +kernel
theorem V.dX15_end_1 : decode cX15_end 1 = .ok (.getfield 24, 3) := by decide +kernel
theorem V.dX15_end_4 : decode cX15_end 4 = .ok (.iload_n 1, 1) := by decide +kernel
theorem V.dX15_end_5 : decode cX15_end 5 = .ok (.iaload, 1) := by decide +kernel
theorem V.dX15_end_6 : decode cX15_end 6 = .ok (.i2l, 1) := by decide +kernel
theorem V.dX15_end_7 : decode cX15_end 7 = .ok (.aload_n 0, 1) := by decide +kernel
theorem V.dX15_end_8 : decode cX15_end 8 = .ok (.getfield 7, 3) := by decide +kernel
theorem V.dX15_end_11 : decode cX15_end 11 = .ok (.lshl, 1) := by decide +kernel
theorem V.dX15_end_12 : decode cX15_end 12 = .ok (.lreturn, 1) := by decide +kernel
/-! ModuleEngine$Pages.end(I)J -/
def V.Pag_end (σ : HS) (x0 : Nat) (x1 : Int32) : Option (Int64 × HS) :=
  ck (tg σ x0 = 16) <|
  ck (tg σ (gR σ x0 5) = 100 ∧ inb x1 (ln σ (gR σ x0 5))) <|
  ck (tg σ x0 = 16) <|
  some (lshl ((gI σ (gR σ x0 5) (ix x1)).toInt64) (gI σ x0 0), σ)
theorem V.ctX15_end (x0 : Nat) (x1 : Int32) : Ct yX15_end  cX15_end 2 (some .long) 0 0 eJ [av x0, iv x1] (fun σ => Pag_end σ x0 x1) := by
  refine Ct.of (own := RX15) (nm := "end") (desc := "(I)J") rfl (by decide) (Nat.le_of_ble_eq_true rfl) (by decide) (fun X σ => ?_)
  show G X RX15 "end" cX15_end 2 (some .long) 0 0 enJ 0 [(0, av x0), (1, iv x1)] [] σ (Pag_end σ x0 x1)
  unfold Pag_end
  refine g_aload_n 0 0 dX15_end_0 rfl rfl ?_
  refine g_getR fdX15_24 dX15_end_1 ?_
  refine g_iload_n 1 1 dX15_end_4 rfl rfl ?_
  refine g_iaload dX15_end_5 ?_
  refine g_i2l dX15_end_6 ?_
  refine g_aload_n 0 0 dX15_end_7 rfl rfl ?_
  refine g_getI fdX15_7 dX15_end_8 ?_
  refine g_lshl dX15_end_11 ?_
  exact g_lreturn rfl dX15_end_12
theorem V.dX15_at_0 : decode cX15_at 0 = .ok (.aload_n 0, 1) := by decide +kernel
theorem V.dX15_at_1 : decode cX15_at 1 = .ok (.getfield 17, 3) := by decide +kernel
theorem V.dX15_at_4 : decode cX15_at 4 = .ok (.iload_n 1, 1) := by decide +kernel
theorem V.dX15_at_5 : decode cX15_at 5 = .ok (.aload_n 0, 1) := by decide +kernel
theorem V.dX15_at_6 : decode cX15_at 6 = .ok (.getfield 21, 3) := by decide +kernel
theorem V.dX15_at_9 : decode cX15_at 9 = .ok (.imul, 1) := by decide +kernel
theorem V.dX15_at_10 : decode cX15_at 10 = .ok (.lload_n 2, 1) := by decide +kernel
theorem V.dX15_at_11 : decode cX15_at 11 = .ok (.aload_n 0, 1) := by decide +kernel
theorem V.dX15_at_12 : decode cX15_at 12 = .ok (.getfield 7, 3) := by decide +kernel
theorem V.dX15_at_15 : decode cX15_at 15 = .ok (.lshr, 1) := by decide +kernel
theorem V.dX15_at_16 : decode cX15_at 16 = .ok (.l2i, 1) := by decide +kernel
theorem V.dX15_at_17 : decode cX15_at 17 = .ok (.iadd, 1) := by decide +kernel
theorem V.dX15_at_18 : decode cX15_at 18 = .ok (.iaload, 1) := by decide +kernel
theorem V.dX15_at_19 : decode cX15_at 19 = .ok (.aload_n 0, 1) := by decide +kernel
theorem V.dX15_at_20 : decode cX15_at 20 = .ok (.getfield 7, 3) := by decide +kernel
theorem V.dX15_at_23 : decode cX15_at 23 = .ok (.ishl, 1) := by decide +kernel
theorem V.dX15_at_24 : decode cX15_at 24 = .ok (.lload_n 2, 1) := by decide +kernel
theorem V.dX15_at_25 : decode cX15_at 25 = .ok (.lconst 1, 1) := by decide +kernel
theorem V.dX15_at_26 : decode cX15_at 26 = .ok (.aload_n 0, 1) := by decide +kernel
theorem V.dX15_at_27 : decode cX15_at 27 = .ok (.getfield 7, 3) := by decide +kernel
theorem V.dX15_at_30 : decode cX15_at 30 = .ok (.lshl, 1) := by decide +kernel
theorem V.dX15_at_31 : decode cX15_at 31 = .ok (.lconst 1, 1) := by decide +kernel
theorem V.dX15_at_32 : decode cX15_at 32 = .ok (.lsub, 1) := by decide +kernel
theorem V.dX15_at_33 : decode cX15_at 33 = .ok (.land, 1) := by decide +kernel
theorem V.dX15_at_34 : decode cX15_at 34 = .ok (.l2i, 1) := by decide +kernel
theorem V.dX15_at_35 : decode cX15_at 35 = .ok (.iadd, 1) := by decide +kernel
theorem V.dX15_at_36 : decode cX15_at 36 = .ok (.ireturn, 1) := by decide +kernel
/-! ModuleEngine$Pages.at(IJ)I -/
def V.Pag_at (σ : HS) (x0 : Nat) (x1 : Int32) (x2 : Int64) : Option (Int32 × HS) :=
  ck (tg σ x0 = 16) <|
  ck (tg σ x0 = 16) <|
  ck (tg σ x0 = 16) <|
  ck (tg σ (gR σ x0 2) = 100 ∧ inb ((x1 * (gI σ x0 3)) + ((lshr x2 (gI σ x0 0)).toInt32)) (ln σ (gR σ x0 2))) <|
  ck (tg σ x0 = 16) <|
  ck (tg σ x0 = 16) <|
  some (((gI σ (gR σ x0 2) (ix ((x1 * (gI σ x0 3)) + ((lshr x2 (gI σ x0 0)).toInt32)))) <<< ((gI σ x0 0) &&& 31)) + ((x2 &&& ((lshl (1 : Int64) (gI σ x0 0)) - (1 : Int64))).toInt32), σ)
theorem V.ctX15_at (x0 : Nat) (x1 : Int32) (x2 : Int64) : Ct yX15_at  cX15_at 4 (some .int) 0 0 eI [av x0, iv x1, jv x2] (fun σ => Pag_at σ x0 x1 x2) := by
  refine Ct.of (own := RX15) (nm := "at") (desc := "(IJ)I") rfl (by decide) (Nat.le_of_ble_eq_true rfl) (by decide) (fun X σ => ?_)
  show G X RX15 "at" cX15_at 4 (some .int) 0 0 enI 0 [(0, av x0), (1, iv x1), (2, jv x2)] [] σ (Pag_at σ x0 x1 x2)
  unfold Pag_at
  refine g_aload_n 0 0 dX15_at_0 rfl rfl ?_
  refine g_getR fdX15_17 dX15_at_1 ?_
  refine g_iload_n 1 1 dX15_at_4 rfl rfl ?_
  refine g_aload_n 0 0 dX15_at_5 rfl rfl ?_
  refine g_getI fdX15_21 dX15_at_6 ?_
  refine g_imul dX15_at_9 ?_
  refine g_lload_n 2 2 dX15_at_10 rfl rfl ?_
  refine g_aload_n 0 0 dX15_at_11 rfl rfl ?_
  refine g_getI fdX15_7 dX15_at_12 ?_
  refine g_lshr dX15_at_15 ?_
  refine g_l2i dX15_at_16 ?_
  refine g_iadd dX15_at_17 ?_
  refine g_iaload dX15_at_18 ?_
  refine g_aload_n 0 0 dX15_at_19 rfl rfl ?_
  refine g_getI fdX15_7 dX15_at_20 ?_
  refine g_ishl dX15_at_23 ?_
  refine g_lload_n 2 2 dX15_at_24 rfl rfl ?_
  refine g_lconst (v := 1) dX15_at_25 (by decide) ?_
  refine g_aload_n 0 0 dX15_at_26 rfl rfl ?_
  refine g_getI fdX15_7 dX15_at_27 ?_
  refine g_lshl dX15_at_30 ?_
  refine g_lconst (v := 1) dX15_at_31 (by decide) ?_
  refine g_lsub dX15_at_32 ?_
  refine g_land dX15_at_33 ?_
  refine g_l2i dX15_at_34 ?_
  refine g_iadd dX15_at_35 ?_
  exact g_ireturn rfl dX15_at_36
theorem V.dX15_put_0 : decode cX15_put 0 = .ok (.aload_n 0, 1) := by decide +kernel
theorem V.dX15_put_1 : decode cX15_put 1 = .ok (.getfield 13, 3) := by decide +kernel
theorem V.dX15_put_4 : decode cX15_put 4 = .ok (.aload_n 0, 1) := by decide +kernel
theorem V.dX15_put_5 : decode cX15_put 5 = .ok (.iload_n 1, 1) := by decide +kernel
theorem V.dX15_put_6 : decode cX15_put 6 = .ok (.lload_n 2, 1) := by decide +kernel
theorem V.dX15_put_7 : decode cX15_put 7 = .ok (.invokevirtual 45, 3) := by decide +kernel
theorem V.dX15_put_10 : decode cX15_put 10 = .ok (.iload 4, 2) := by decide +kernel
theorem V.dX15_put_12 : decode cX15_put 12 = .ok (.i2b, 1) := by decide +kernel
theorem V.dX15_put_13 : decode cX15_put 13 = .ok (.bastore, 1) := by decide +kernel
theorem V.dX15_put_14 : decode cX15_put 14 = .ok (.return_, 1) := by decide +kernel
theorem V.mdX15_45 : MD RX15 45 yX15_at cX15_at 4 (some .int) 2 := ⟨Or.inl q2347, q375, q2350, by decide, by decide, by decide +kernel⟩
/-! ModuleEngine$Pages.put(IJI)V -/
def V.Pag_put (σ : HS) (x0 : Nat) (x1 : Int32) (x2 : Int64) (x4 : Int32) : Option (Unit × HS) :=
  ck (tg σ x0 = 16) <|
  ck (tg σ x0 = 16) <| cl (Pag_at σ x0 x1 x2) fun r2 σ1 =>
  ck (tg σ1 (gR σ x0 1) = 102 ∧ inb r2 (ln σ1 (gR σ x0 1))) <| bn (sI σ1 (gR σ x0 1) (ix r2) (i2b (i2b x4))) fun σ3 =>
  some ((), σ3)
theorem V.ctX15_put (x0 : Nat) (x1 : Int32) (x2 : Int64) (x4 : Int32) : Ct yX15_put  cX15_put 5 none 1 23 eV [av x0, iv x1, jv x2, iv x4] (fun σ => Pag_put σ x0 x1 x2 x4) := by
  refine Ct.of (own := RX15) (nm := "put") (desc := "(IJI)V") rfl (by decide) (Nat.le_of_ble_eq_true rfl) (by decide) (fun X σ => ?_)
  show G X RX15 "put" cX15_put 5 none 1 23 enV 0 [(0, av x0), (1, iv x1), (2, jv x2), (4, iv x4)] [] σ (Pag_put σ x0 x1 x2 x4)
  unfold Pag_put
  refine g_aload_n 0 0 dX15_put_0 rfl rfl ?_
  refine g_getR fdX15_13 dX15_put_1 ?_
  refine g_aload_n 0 0 dX15_put_4 rfl rfl ?_
  refine g_iload_n 1 1 dX15_put_5 rfl rfl ?_
  refine g_lload_n 2 2 dX15_put_6 rfl rfl ?_
  refine g_callV (fc := fun sς => Pag_at sς x0 x1 x2) (ci := 15) (as := [iv x1, jv x2]) rfl rfl rfl q2349 qs140 mdX15_45 (ctX15_at x0 x1 x2) rfl (Nat.le_of_ble_eq_true rfl) (Nat.le_of_ble_eq_true rfl) (Nat.le_of_ble_eq_true rfl) pu_I dX15_put_7 (fun r2 σ1 => ?_)
  refine g_iload 3 dX15_put_10 rfl ?_
  refine g_i2b dX15_put_12 ?_
  refine g_bastore dX15_put_13 (fun σ3 => ?_)
  exact g_return rfl dX15_put_14
theorem V.dX15_grow_0 : decode cX15_grow 0 = .ok (.aload_n 0, 1) := by decide +kernel
theorem V.dX15_grow_1 : decode cX15_grow 1 = .ok (.getfield 24, 3) := by decide +kernel
theorem V.dX15_grow_4 : decode cX15_grow 4 = .ok (.iload_n 1, 1) := by decide +kernel
theorem V.dX15_grow_5 : decode cX15_grow 5 = .ok (.iaload, 1) := by decide +kernel
theorem V.dX15_grow_6 : decode cX15_grow 6 = .ok (.istore 4, 2) := by decide +kernel
theorem V.dX15_grow_8 : decode cX15_grow 8 = .ok (.iload 4, 2) := by decide +kernel
theorem V.dX15_grow_10 : decode cX15_grow 10 = .ok (.i2l, 1) := by decide +kernel
theorem V.dX15_grow_11 : decode cX15_grow 11 = .ok (.lload_n 2, 1) := by decide +kernel
theorem V.dX15_grow_12 : decode cX15_grow 12 = .ok (.ladd, 1) := by decide +kernel
theorem V.dX15_grow_13 : decode cX15_grow 13 = .ok (.aload_n 0, 1) := by decide +kernel
theorem V.dX15_grow_14 : decode cX15_grow 14 = .ok (.getfield 27, 3) := by decide +kernel
theorem V.dX15_grow_17 : decode cX15_grow 17 = .ok (.iload_n 1, 1) := by decide +kernel
theorem V.dX15_grow_18 : decode cX15_grow 18 = .ok (.iaload, 1) := by decide +kernel
theorem V.dX15_grow_19 : decode cX15_grow 19 = .ok (.i2l, 1) := by decide +kernel
theorem V.dX15_grow_20 : decode cX15_grow 20 = .ok (.lcmp, 1) := by decide +kernel
theorem V.dX15_grow_21 : decode cX15_grow 21 = .ok (.ifCond .gt 13, 3) := by decide +kernel
theorem V.dX15_grow_24 : decode cX15_grow 24 = .ok (.lload_n 2, 1) := by decide +kernel
theorem V.dX15_grow_25 : decode cX15_grow 25 = .ok (.aload_n 0, 1) := by decide +kernel
theorem V.dX15_grow_26 : decode cX15_grow 26 = .ok (.invokevirtual 37, 3) := by decide +kernel
theorem V.dX15_grow_29 : decode cX15_grow 29 = .ok (.i2l, 1) := by decide +kernel
theorem V.dX15_grow_30 : decode cX15_grow 30 = .ok (.lcmp, 1) := by decide +kernel
theorem V.dX15_grow_31 : decode cX15_grow 31 = .ok (.ifCond .le 5, 3) := by decide +kernel
theorem V.dX15_grow_34 : decode cX15_grow 34 = .ok (.iconst (-1), 1) := by decide +kernel
theorem V.dX15_grow_35 : decode cX15_grow 35 = .ok (.ireturn, 1) := by decide +kernel
theorem V.dX15_grow_36 : decode cX15_grow 36 = .ok (.aload_n 0, 1) := by decide +kernel
theorem V.dX15_grow_37 : decode cX15_grow 37 = .ok (.iload_n 1, 1) := by decide +kernel
theorem V.dX15_grow_38 : decode cX15_grow 38 = .ok (.lload_n 2, 1) := by decide +kernel
theorem V.dX15_grow_39 : decode cX15_grow 39 = .ok (.l2i, 1) := by decide +kernel
theorem V.dX15_grow_40 : decode cX15_grow 40 = .ok (.invokevirtual 41, 3) := by decide +kernel
theorem V.dX15_grow_43 : decode cX15_grow 43 = .ok (.iload 4, 2) := by decide +kernel
theorem V.dX15_grow_45 : decode cX15_grow 45 = .ok (.ireturn, 1) := by decide +kernel
/-! ModuleEngine$Pages.grow(IJ)I -/
def V.Pag_grow (σ : HS) (x0 : Nat) (x1 : Int32) (x2 : Int64) : Option (Int32 × HS) :=
  ck (tg σ x0 = 16) <|
  ck (tg σ (gR σ x0 5) = 100 ∧ inb x1 (ln σ (gR σ x0 5))) <|
  bn (gI σ (gR σ x0 5) (ix x1)) fun y1 =>
  ck (tg σ x0 = 16) <|
  ck (tg σ (gR σ x0 6) = 100 ∧ inb x1 (ln σ (gR σ x0 6))) <|
  if ((gI σ (gR σ x0 6) (ix x1)).toInt64) < (y1.toInt64 + x2) then (
    some ((-1 : Int32), σ))
  else (
    ck (tg σ x0 = 16) <| cl (Pag_left σ x0 ) fun r3 σ2 =>
    if x2 ≤ r3.toInt64 then (
      ck (tg σ2 x0 = 16) <| cl (Pag_add σ2 x0 x1 x2.toInt32) fun _ σ4 =>
      some (y1, σ4))
    else (
      some ((-1 : Int32), σ2)))
theorem V.ctX15_grow (x0 : Nat) (x1 : Int32) (x2 : Int64) : Ct yX15_grow  cX15_grow 5 (some .int) 1 23 eI [av x0, iv x1, jv x2] (fun σ => Pag_grow σ x0 x1 x2) := by
  refine Ct.of (own := RX15) (nm := "grow") (desc := "(IJ)I") rfl (by decide) (Nat.le_of_ble_eq_true rfl) (by decide) (fun X σ => ?_)
  show G X RX15 "grow" cX15_grow 5 (some .int) 1 23 enI 0 [(0, av x0), (1, iv x1), (2, jv x2)] [] σ (Pag_grow σ x0 x1 x2)
  unfold Pag_grow
  refine g_aload_n 0 0 dX15_grow_0 rfl rfl ?_
  refine g_getR fdX15_24 dX15_grow_1 ?_
  refine g_iload_n 1 1 dX15_grow_4 rfl rfl ?_
  refine g_iaload dX15_grow_5 ?_
  refine g_nmI (fun y1 => ?_)
  refine g_istore dX15_grow_6 (by decide) rfl ?_
  refine g_iload 0 dX15_grow_8 rfl ?_
  refine g_i2l dX15_grow_10 ?_
  refine g_lload_n 2 3 dX15_grow_11 rfl rfl ?_
  refine g_ladd dX15_grow_12 ?_
  refine g_aload_n 0 1 dX15_grow_13 rfl rfl ?_
  refine g_getR fdX15_27 dX15_grow_14 ?_
  refine g_iload_n 1 2 dX15_grow_17 rfl rfl ?_
  refine g_iaload dX15_grow_18 ?_
  refine g_i2l dX15_grow_19 ?_
  refine g_lcmp_gt 34 dX15_grow_20 dX15_grow_21 (by decide) ?_ ?_
  · refine g_iconst (v := (-1)) dX15_grow_34 (by decide) ?_
    exact g_ireturn rfl dX15_grow_35
  · refine g_lload_n 2 3 dX15_grow_24 rfl rfl ?_
    refine g_aload_n 0 1 dX15_grow_25 rfl rfl ?_
    refine g_callV (fc := fun sς => Pag_left sς x0 ) (ci := 15) (as := []) rfl rfl rfl q2266 q2267 mdX15_37 (ctX15_left x0 ) rfl (Nat.le_of_ble_eq_true rfl) (Nat.le_of_ble_eq_true rfl) (Nat.le_of_ble_eq_true rfl) pu_I dX15_grow_26 (fun r3 σ2 => ?_)
    refine g_i2l dX15_grow_29 ?_
    refine g_lcmp_le 36 dX15_grow_30 dX15_grow_31 (by decide) ?_ ?_
    · refine g_aload_n 0 1 dX15_grow_36 rfl rfl ?_
      refine g_iload_n 1 2 dX15_grow_37 rfl rfl ?_
      refine g_lload_n 2 3 dX15_grow_38 rfl rfl ?_
      refine g_l2i dX15_grow_39 ?_
      refine g_callV (fc := fun sς => Pag_add sς x0 x1 x2.toInt32) (ci := 15) (as := [iv x1, iv x2.toInt32]) rfl rfl rfl q2304 qs137 mdX15_41 (ctX15_add x0 x1 x2.toInt32) rfl (Nat.le_of_ble_eq_true rfl) (Nat.le_of_ble_eq_true rfl) (Nat.le_of_ble_eq_true rfl) pu_V dX15_grow_40 (fun _ σ4 => ?_)
      refine g_iload 0 dX15_grow_43 rfl ?_
      exact g_ireturn rfl dX15_grow_45
    · refine g_iconst (v := (-1)) dX15_grow_34 (by decide) ?_
      exact g_ireturn rfl dX15_grow_35
theorem V.dX15_get_0 : decode cX15_get 0 = .ok (.aload_n 0, 1) := by decide +kernel
theorem V.dX15_get_1 : decode cX15_get 1 = .ok (.getfield 13, 3) := by decide +kernel
theorem V.dX15_get_4 : decode cX15_get 4 = .ok (.aload_n 0, 1) := by decide +kernel
theorem V.dX15_get_5 : decode cX15_get 5 = .ok (.iload_n 1, 1) := by decide +kernel
theorem V.dX15_get_6 : decode cX15_get 6 = .ok (.lload_n 2, 1) := by decide +kernel
theorem V.dX15_get_7 : decode cX15_get 7 = .ok (.invokevirtual 45, 3) := by decide +kernel
theorem V.dX15_get_10 : decode cX15_get 10 = .ok (.baload, 1) := by decide +kernel
theorem V.dX15_get_11 : decode cX15_get 11 = .ok (.sipush 255, 3) := by decide +kernel
theorem V.dX15_get_14 : decode cX15_get 14 = .ok (.iand, 1) := by decide +kernel
theorem V.dX15_get_15 : decode cX15_get 15 = .ok (.ireturn, 1) := by decide +kernel
/-! ModuleEngine$Pages.get(IJ)I -/
def V.Pag_get (σ : HS) (x0 : Nat) (x1 : Int32) (x2 : Int64) : Option (Int32 × HS) :=
  ck (tg σ x0 = 16) <|
  ck (tg σ x0 = 16) <| cl (Pag_at σ x0 x1 x2) fun r2 σ1 =>
  ck (tg σ1 (gR σ x0 1) = 102 ∧ inb r2 (ln σ1 (gR σ x0 1))) <|
  some ((gI σ1 (gR σ x0 1) (ix r2)) &&& (255 : Int32), σ1)
theorem V.ctX15_get (x0 : Nat) (x1 : Int32) (x2 : Int64) : Ct yX15_get  cX15_get 4 (some .int) 1 23 eI [av x0, iv x1, jv x2] (fun σ => Pag_get σ x0 x1 x2) := by
  refine Ct.of (own := RX15) (nm := "get") (desc := "(IJ)I") rfl (by decide) (Nat.le_of_ble_eq_true rfl) (by decide) (fun X σ => ?_)
  show G X RX15 "get" cX15_get 4 (some .int) 1 23 enI 0 [(0, av x0), (1, iv x1), (2, jv x2)] [] σ (Pag_get σ x0 x1 x2)
  unfold Pag_get
  refine g_aload_n 0 0 dX15_get_0 rfl rfl ?_
  refine g_getR fdX15_13 dX15_get_1 ?_
  refine g_aload_n 0 0 dX15_get_4 rfl rfl ?_
  refine g_iload_n 1 1 dX15_get_5 rfl rfl ?_
  refine g_lload_n 2 2 dX15_get_6 rfl rfl ?_
  refine g_callV (fc := fun sς => Pag_at sς x0 x1 x2) (ci := 15) (as := [iv x1, jv x2]) rfl rfl rfl q2349 qs140 mdX15_45 (ctX15_at x0 x1 x2) rfl (Nat.le_of_ble_eq_true rfl) (Nat.le_of_ble_eq_true rfl) (Nat.le_of_ble_eq_true rfl) pu_I dX15_get_7 (fun r2 σ1 => ?_)
  refine g_baload dX15_get_10 ?_
  refine g_sipush (v := 255) dX15_get_11 (by decide) ?_
  refine g_iand dX15_get_14 ?_
  exact g_ireturn rfl dX15_get_15
theorem V.dX15_move_0 : decode cX15_move 0 = .ok (.lload_n 2, 1) := by decide +kernel
theorem V.dX15_move_1 : decode cX15_move 1 = .ok (.lload 4, 2) := by decide +kernel
theorem V.dX15_move_3 : decode cX15_move 3 = .ok (.lcmp, 1) := by decide +kernel
theorem V.dX15_move_4 : decode cX15_move 4 = .ok (.ifCond .gt 45, 3) := by decide +kernel
theorem V.dX15_move_7 : decode cX15_move 7 = .ok (.lconst 0, 1) := by decide +kernel
theorem V.dX15_move_8 : decode cX15_move 8 = .ok (.lstore 8, 2) := by decide +kernel
theorem V.dX15_move_10 : decode cX15_move 10 = .ok (.lload 8, 2) := by decide +kernel
theorem V.dX15_move_12 : decode cX15_move 12 = .ok (.lload 6, 2) := by decide +kernel
theorem V.dX15_move_14 : decode cX15_move 14 = .ok (.lcmp, 1) := by decide +kernel
theorem V.dX15_move_15 : decode cX15_move 15 = .ok (.ifCond .ge 31, 3) := by decide +kernel
theorem V.dX15_move_18 : decode cX15_move 18 = .ok (.aload_n 0, 1) := by decide +kernel
theorem V.dX15_move_19 : decode cX15_move 19 = .ok (.iload_n 1, 1) := by decide +kernel
theorem V.dX15_move_20 : decode cX15_move 20 = .ok (.lload_n 2, 1) := by decide +kernel
theorem V.dX15_move_21 : decode cX15_move 21 = .ok (.lload 8, 2) := by decide +kernel
theorem V.dX15_move_23 : decode cX15_move 23 = .ok (.ladd, 1) := by decide +kernel
theorem V.dX15_move_24 : decode cX15_move 24 = .ok (.aload_n 0, 1) := by decide +kernel
theorem V.dX15_move_25 : decode cX15_move 25 = .ok (.iload_n 1, 1) := by decide +kernel
theorem V.dX15_move_26 : decode cX15_move 26 = .ok (.lload 4, 2) := by decide +kernel
theorem V.dX15_move_28 : decode cX15_move 28 = .ok (.lload 8, 2) := by decide +kernel
theorem V.dX15_move_30 : decode cX15_move 30 = .ok (.ladd, 1) := by decide +kernel
theorem V.dX15_move_31 : decode cX15_move 31 = .ok (.invokevirtual 49, 3) := by decide +kernel
theorem V.dX15_move_34 : decode cX15_move 34 = .ok (.invokevirtual 54, 3) := by decide +kernel
theorem V.dX15_move_37 : decode cX15_move 37 = .ok (.lload 8, 2) := by decide +kernel
theorem V.dX15_move_39 : decode cX15_move 39 = .ok (.lconst 1, 1) := by decide +kernel
theorem V.dX15_move_40 : decode cX15_move 40 = .ok (.ladd, 1) := by decide +kernel
theorem V.dX15_move_41 : decode cX15_move 41 = .ok (.lstore 8, 2) := by decide +kernel
theorem V.dX15_move_43 : decode cX15_move 43 = .ok (.goto (-33), 3) := by decide +kernel
theorem V.dX15_move_46 : decode cX15_move 46 = .ok (.goto 44, 3) := by decide +kernel
theorem V.dX15_move_49 : decode cX15_move 49 = .ok (.lload 6, 2) := by decide +kernel
theorem V.dX15_move_51 : decode cX15_move 51 = .ok (.lconst 1, 1) := by decide +kernel
theorem V.dX15_move_52 : decode cX15_move 52 = .ok (.lsub, 1) := by decide +kernel
theorem V.dX15_move_53 : decode cX15_move 53 = .ok (.lstore 8, 2) := by decide +kernel
theorem V.dX15_move_55 : decode cX15_move 55 = .ok (.lload 8, 2) := by decide +kernel
theorem V.dX15_move_57 : decode cX15_move 57 = .ok (.lconst 0, 1) := by decide +kernel
theorem V.dX15_move_58 : decode cX15_move 58 = .ok (.lcmp, 1) := by decide +kernel
theorem V.dX15_move_59 : decode cX15_move 59 = .ok (.ifCond .lt 31, 3) := by decide +kernel
theorem V.dX15_move_62 : decode cX15_move 62 = .ok (.aload_n 0, 1) := by decide +kernel
theorem V.dX15_move_63 : decode cX15_move 63 = .ok (.iload_n 1, 1) := by decide +kernel
theorem V.dX15_move_64 : decode cX15_move 64 = .ok (.lload_n 2, 1) := by decide +kernel
theorem V.dX15_move_65 : decode cX15_move 65 = .ok (.lload 8, 2) := by decide +kernel
theorem V.dX15_move_67 : decode cX15_move 67 = .ok (.ladd, 1) := by decide +kernel
theorem V.dX15_move_68 : decode cX15_move 68 = .ok (.aload_n 0, 1) := by decide +kernel
theorem V.dX15_move_69 : decode cX15_move 69 = .ok (.iload_n 1, 1) := by decide +kernel
theorem V.dX15_move_70 : decode cX15_move 70 = .ok (.lload 4, 2) := by decide +kernel
theorem V.dX15_move_72 : decode cX15_move 72 = .ok (.lload 8, 2) := by decide +kernel
theorem V.dX15_move_74 : decode cX15_move 74 = .ok (.ladd, 1) := by decide +kernel
theorem V.dX15_move_75 : decode cX15_move 75 = .ok (.invokevirtual 49, 3) := by decide +kernel
theorem V.dX15_move_78 : decode cX15_move 78 = .ok (.invokevirtual 54, 3) := by decide +kernel
theorem V.dX15_move_81 : decode cX15_move 81 = .ok (.lload 8, 2) := by decide +kernel
theorem V.dX15_move_83 : decode cX15_move 83 = .ok (.lconst 1, 1) := by decide +kernel
theorem V.dX15_move_84 : decode cX15_move 84 = .ok (.lsub, 1) := by decide +kernel
theorem V.dX15_move_85 : decode cX15_move 85 = .ok (.lstore 8, 2) := by decide +kernel
theorem V.dX15_move_87 : decode cX15_move 87 = .ok (.goto (-32), 3) := by decide +kernel
theorem V.dX15_move_90 : decode cX15_move 90 = .ok (.return_, 1) := by decide +kernel
theorem V.mdX15_49 : MD RX15 49 yX15_get cX15_get 4 (some .int) 2 := ⟨Or.inl q2787, q375, q2790, by decide, by decide, by decide +kernel⟩
theorem V.mdX15_54 : MD RX15 54 yX15_put cX15_put 5 none 3 := ⟨Or.inl q2791, q375, q2346, by decide, by decide, by decide +kernel⟩
/-! ModuleEngine$Pages.move(IJJJ)V -/
def V.Pag_move_p55  : Nat → HS → Nat → Int32 → Int64 → Int64 → Int64 → Option (Unit × HS)
  | 0, _, _, _, _, _, _ => none
  | n + 1, σ, x0, x1, x2, x4, x8 =>
    if x8 < (0 : Int64) then (
      some ((), σ))
    else (
      ck (tg σ x0 = 16) <| cl (Pag_get σ x0 x1 (x4 + x8)) fun r2 σ1 =>
      ck (tg σ1 x0 = 16) <| cl (Pag_put σ1 x0 x1 (x2 + x8) r2) fun _ σ3 =>
      bn (x8 - (1 : Int64)) fun y4 =>
      Pag_move_p55 n σ3 x0 x1 x2 x4 y4)
theorem V.gX15_move_p55 {X : CX}  : ∀ (n : Nat) (σ : HS) (x0 : Nat) (x1 : Int32) (x2 : Int64) (x4 : Int64) (x8 : Int64), G X RX15 "move" cX15_move 10 none 2 47 enV 55 [(0, av x0), (1, iv x1), (2, jv x2), (4, jv x4), (8, jv x8)] [] σ (Pag_move_p55 n σ x0 x1 x2 x4 x8)
  | 0, σ, x0, x1, x2, x4, x8 => by rw [Pag_move_p55]; exact G.nul
  | n + 1, σ, x0, x1, x2, x4, x8 => by
    rw [Pag_move_p55]
    refine g_lload 4 dX15_move_55 rfl ?_
    refine g_lconst (v := 0) dX15_move_57 (by decide) ?_
    refine g_lcmp_lt 90 dX15_move_58 dX15_move_59 (by decide) ?_ ?_
    · exact g_return rfl dX15_move_90
    · refine g_aload_n 0 0 dX15_move_62 rfl rfl ?_
      refine g_iload_n 1 1 dX15_move_63 rfl rfl ?_
      refine g_lload_n 2 2 dX15_move_64 rfl rfl ?_
      refine g_lload 4 dX15_move_65 rfl ?_
      refine g_ladd dX15_move_67 ?_
      refine g_aload_n 0 0 dX15_move_68 rfl rfl ?_
      refine g_iload_n 1 1 dX15_move_69 rfl rfl ?_
      refine g_lload 3 dX15_move_70 rfl ?_
      refine g_lload 4 dX15_move_72 rfl ?_
      refine g_ladd dX15_move_74 ?_
      refine g_callV (fc := fun sς => Pag_get sς x0 x1 (x4 + x8)) (ci := 15) (as := [iv x1, jv (x4 + x8)]) rfl rfl rfl q2788 q2789 mdX15_49 (ctX15_get x0 x1 (x4 + x8)) rfl (Nat.le_of_ble_eq_true rfl) (Nat.le_of_ble_eq_true rfl) (Nat.le_of_ble_eq_true rfl) pu_I dX15_move_75 (fun r2 σ1 => ?_)
      refine g_callV (fc := fun sς => Pag_put sς x0 x1 (x2 + x8) r2) (ci := 15) (as := [iv x1, jv (x2 + x8), iv r2]) rfl rfl rfl q2344 q2345 mdX15_54 (ctX15_put x0 x1 (x2 + x8) r2) rfl (Nat.le_of_ble_eq_true rfl) (Nat.le_of_ble_eq_true rfl) (Nat.le_of_ble_eq_true rfl) pu_V dX15_move_78 (fun _ σ3 => ?_)
      refine g_lload 4 dX15_move_81 rfl ?_
      refine g_lconst (v := 1) dX15_move_83 (by decide) ?_
      refine g_lsub dX15_move_84 ?_
      refine g_nmJ (fun y4 => ?_)
      refine g_lstore dX15_move_85 (by decide) rfl ?_
      refine g_goto 55 dX15_move_87 (by decide) ?_
      refine G.sub [1, 2, 3, 4, 0] rfl ?_
      exact gX15_move_p55 n _ _ _ _ _ _
def V.Pag_move_p10  : Nat → HS → Nat → Int32 → Int64 → Int64 → Int64 → Int64 → Option (Unit × HS)
  | 0, _, _, _, _, _, _, _ => none
  | n + 1, σ, x0, x1, x2, x4, x6, x8 =>
    if x6 ≤ x8 then (
      some ((), σ))
    else (
      ck (tg σ x0 = 16) <| cl (Pag_get σ x0 x1 (x4 + x8)) fun r2 σ1 =>
      ck (tg σ1 x0 = 16) <| cl (Pag_put σ1 x0 x1 (x2 + x8) r2) fun _ σ3 =>
      bn (x8 + (1 : Int64)) fun y4 =>
      Pag_move_p10 n σ3 x0 x1 x2 x4 x6 y4)
theorem V.gX15_move_p10 {X : CX}  : ∀ (n : Nat) (σ : HS) (x0 : Nat) (x1 : Int32) (x2 : Int64) (x4 : Int64) (x6 : Int64) (x8 : Int64), G X RX15 "move" cX15_move 10 none 2 47 enV 10 [(0, av x0), (1, iv x1), (2, jv x2), (4, jv x4), (6, jv x6), (8, jv x8)] [] σ (Pag_move_p10 n σ x0 x1 x2 x4 x6 x8)
  | 0, σ, x0, x1, x2, x4, x6, x8 => by rw [Pag_move_p10]; exact G.nul
  | n + 1, σ, x0, x1, x2, x4, x6, x8 => by
    rw [Pag_move_p10]
    refine g_lload 5 dX15_move_10 rfl ?_
    refine g_lload 4 dX15_move_12 rfl ?_
    refine g_lcmp_ge 46 dX15_move_14 dX15_move_15 (by decide) ?_ ?_
    · refine g_goto 90 dX15_move_46 (by decide) ?_
      exact g_return rfl dX15_move_90
    · refine g_aload_n 0 0 dX15_move_18 rfl rfl ?_
      refine g_iload_n 1 1 dX15_move_19 rfl rfl ?_
      refine g_lload_n 2 2 dX15_move_20 rfl rfl ?_
      refine g_lload 5 dX15_move_21 rfl ?_
      refine g_ladd dX15_move_23 ?_
      refine g_aload_n 0 0 dX15_move_24 rfl rfl ?_
      refine g_iload_n 1 1 dX15_move_25 rfl rfl ?_
      refine g_lload 3 dX15_move_26 rfl ?_
      refine g_lload 5 dX15_move_28 rfl ?_
      refine g_ladd dX15_move_30 ?_
      refine g_callV (fc := fun sς => Pag_get sς x0 x1 (x4 + x8)) (ci := 15) (as := [iv x1, jv (x4 + x8)]) rfl rfl rfl q2788 q2789 mdX15_49 (ctX15_get x0 x1 (x4 + x8)) rfl (Nat.le_of_ble_eq_true rfl) (Nat.le_of_ble_eq_true rfl) (Nat.le_of_ble_eq_true rfl) pu_I dX15_move_31 (fun r2 σ1 => ?_)
      refine g_callV (fc := fun sς => Pag_put sς x0 x1 (x2 + x8) r2) (ci := 15) (as := [iv x1, jv (x2 + x8), iv r2]) rfl rfl rfl q2344 q2345 mdX15_54 (ctX15_put x0 x1 (x2 + x8) r2) rfl (Nat.le_of_ble_eq_true rfl) (Nat.le_of_ble_eq_true rfl) (Nat.le_of_ble_eq_true rfl) pu_V dX15_move_34 (fun _ σ3 => ?_)
      refine g_lload 5 dX15_move_37 rfl ?_
      refine g_lconst (v := 1) dX15_move_39 (by decide) ?_
      refine g_ladd dX15_move_40 ?_
      refine g_nmJ (fun y4 => ?_)
      refine g_lstore dX15_move_41 (by decide) rfl ?_
      refine g_goto 10 dX15_move_43 (by decide) ?_
      refine G.sub [1, 2, 3, 4, 5, 0] rfl ?_
      exact gX15_move_p10 n _ _ _ _ _ _ _
def V.Pag_move (σ : HS) (x0 : Nat) (x1 : Int32) (x2 : Int64) (x4 : Int64) (x6 : Int64) : Option (Unit × HS) :=
  if x4 < x2 then (
    bn (x6 - (1 : Int64)) fun y1 =>
    Pag_move_p55 FU σ x0 x1 x2 x4 y1)
  else (
    Pag_move_p10 FU σ x0 x1 x2 x4 x6 (0 : Int64))
theorem V.ctX15_move (x0 : Nat) (x1 : Int32) (x2 : Int64) (x4 : Int64) (x6 : Int64) : Ct yX15_move  cX15_move 10 none 2 47 eV [av x0, iv x1, jv x2, jv x4, jv x6] (fun σ => Pag_move σ x0 x1 x2 x4 x6) := by
  refine Ct.of (own := RX15) (nm := "move") (desc := "(IJJJ)V") rfl (by decide) (Nat.le_of_ble_eq_true rfl) (by decide) (fun X σ => ?_)
  show G X RX15 "move" cX15_move 10 none 2 47 enV 0 [(0, av x0), (1, iv x1), (2, jv x2), (4, jv x4), (6, jv x6)] [] σ (Pag_move σ x0 x1 x2 x4 x6)
  unfold Pag_move
  refine g_lload_n 2 2 dX15_move_0 rfl rfl ?_
  refine g_lload 3 dX15_move_1 rfl ?_
  refine g_lcmp_gt 49 dX15_move_3 dX15_move_4 (by decide) ?_ ?_
  · refine g_lload 4 dX15_move_49 rfl ?_
    refine g_lconst (v := 1) dX15_move_51 (by decide) ?_
    refine g_lsub dX15_move_52 ?_
    refine g_nmJ (fun y1 => ?_)
    refine g_lstore dX15_move_53 (by decide) rfl ?_
    refine G.sub [1, 2, 3, 4, 0] rfl ?_
    exact gX15_move_p55 FU _ _ _ _ _ _
  · refine g_lconst (v := 0) dX15_move_7 (by decide) ?_
    refine g_lstore dX15_move_8 (by decide) rfl ?_
    refine G.sub [1, 2, 3, 4, 5, 0] rfl ?_
    exact gX15_move_p10 FU _ _ _ _ _ _ _
theorem V.dX15_write_0 : decode cX15_write 0 = .ok (.iconst 0, 1) := by decide +kernel
theorem V.dX15_write_1 : decode cX15_write 1 = .ok (.istore 7, 2) := by decide +kernel
theorem V.dX15_write_3 : decode cX15_write 3 = .ok (.iload 7, 2) := by decide +kernel
theorem V.dX15_write_5 : decode cX15_write 5 = .ok (.iload 4, 2) := by decide +kernel
theorem V.dX15_write_7 : decode cX15_write 7 = .ok (.if_icmp .ge 32, 3) := by decide +kernel
theorem V.dX15_write_10 : decode cX15_write 10 = .ok (.aload_n 0, 1) := by decide +kernel
theorem V.dX15_write_11 : decode cX15_write 11 = .ok (.iload_n 1, 1) := by decide +kernel
theorem V.dX15_write_12 : decode cX15_write 12 = .ok (.lload_n 2, 1) := by decide +kernel
theorem V.dX15_write_13 : decode cX15_write 13 = .ok (.iload 7, 2) := by decide +kernel
theorem V.dX15_write_15 : decode cX15_write 15 = .ok (.i2l, 1) := by decide +kernel
theorem V.dX15_write_16 : decode cX15_write 16 = .ok (.ladd, 1) := by decide +kernel
theorem V.dX15_write_17 : decode cX15_write 17 = .ok (.lload 5, 2) := by decide +kernel
theorem V.dX15_write_19 : decode cX15_write 19 = .ok (.bipush 8, 2) := by decide +kernel
theorem V.dX15_write_21 : decode cX15_write 21 = .ok (.iload 7, 2) := by decide +kernel
theorem V.dX15_write_23 : decode cX15_write 23 = .ok (.imul, 1) := by decide +kernel
theorem V.dX15_write_24 : decode cX15_write 24 = .ok (.lshr, 1) := by decide +kernel
theorem V.dX15_write_25 : decode cX15_write 25 = .ok (.ldc2_w 52, 3) := by decide +kernel
theorem V.dX15_write_28 : decode cX15_write 28 = .ok (.land, 1) := by decide +kernel
theorem V.dX15_write_29 : decode cX15_write 29 = .ok (.l2i, 1) := by decide +kernel
theorem V.dX15_write_30 : decode cX15_write 30 = .ok (.invokevirtual 54, 3) := by decide +kernel
theorem V.dX15_write_33 : decode cX15_write 33 = .ok (.iinc 7 1, 3) := by decide +kernel
theorem V.dX15_write_36 : decode cX15_write 36 = .ok (.goto (-33), 3) := by decide +kernel
theorem V.dX15_write_39 : decode cX15_write 39 = .ok (.return_, 1) := by decide +kernel
/-! ModuleEngine$Pages.write(IJIJ)V -/
def V.Pag_write_p3  : Nat → HS → Nat → Int32 → Int64 → Int32 → Int64 → Int32 → Option (Unit × HS)
  | 0, _, _, _, _, _, _, _ => none
  | n + 1, σ, x0, x1, x2, x4, x5, x7 =>
    if x4 ≤ x7 then (
      some ((), σ))
    else (
      ck (tg σ x0 = 16) <| cl (Pag_put σ x0 x1 (x2 + x7.toInt64) (((lshr x5 ((8 : Int32) * x7)) &&& (255 : Int64)).toInt32)) fun _ σ1 =>
      bn (x7 + (1 : Int32)) fun y2 =>
      Pag_write_p3 n σ1 x0 x1 x2 x4 x5 y2)
theorem V.gX15_write_p3 {X : CX}  : ∀ (n : Nat) (σ : HS) (x0 : Nat) (x1 : Int32) (x2 : Int64) (x4 : Int32) (x5 : Int64) (x7 : Int32), G X RX15 "write" cX15_write 8 none 2 47 enV 3 [(0, av x0), (1, iv x1), (2, jv x2), (4, iv x4), (5, jv x5), (7, iv x7)] [] σ (Pag_write_p3 n σ x0 x1 x2 x4 x5 x7)
  | 0, σ, x0, x1, x2, x4, x5, x7 => by rw [Pag_write_p3]; exact G.nul
  | n + 1, σ, x0, x1, x2, x4, x5, x7 => by
    rw [Pag_write_p3]
    refine g_iload 5 dX15_write_3 rfl ?_
    refine g_iload 3 dX15_write_5 rfl ?_
    refine g_icmp_ge 39 dX15_write_7 (by decide) ?_ ?_
    · exact g_return rfl dX15_write_39
    · refine g_aload_n 0 0 dX15_write_10 rfl rfl ?_
      refine g_iload_n 1 1 dX15_write_11 rfl rfl ?_
      refine g_lload_n 2 2 dX15_write_12 rfl rfl ?_
      refine g_iload 5 dX15_write_13 rfl ?_
      refine g_i2l dX15_write_15 ?_
      refine g_ladd dX15_write_16 ?_
      refine g_lload 4 dX15_write_17 rfl ?_
      refine g_bipush (v := 8) dX15_write_19 (by decide) ?_
      refine g_iload 5 dX15_write_21 rfl ?_
      refine g_imul dX15_write_23 ?_
      refine g_lshr dX15_write_24 ?_
      refine g_ldc2 q2824 dX15_write_25 ?_
      refine g_land dX15_write_28 ?_
      refine g_l2i dX15_write_29 ?_
      refine g_callV (fc := fun sς => Pag_put sς x0 x1 (x2 + x7.toInt64) (((lshr x5 ((8 : Int32) * x7)) &&& (255 : Int64)).toInt32)) (ci := 15) (as := [iv x1, jv (x2 + x7.toInt64), iv (((lshr x5 ((8 : Int32) * x7)) &&& (255 : Int64)).toInt32)]) rfl rfl rfl q2344 q2345 mdX15_54 (ctX15_put x0 x1 (x2 + x7.toInt64) (((lshr x5 ((8 : Int32) * x7)) &&& (255 : Int64)).toInt32)) rfl (Nat.le_of_ble_eq_true rfl) (Nat.le_of_ble_eq_true rfl) (Nat.le_of_ble_eq_true rfl) pu_V dX15_write_30 (fun _ σ1 => ?_)
      refine g_iincB (w := 1) 5 dX15_write_33 rfl (by decide) (by decide) (fun _ => rfl) (fun y2 => ?_)
      refine g_goto 3 dX15_write_36 (by decide) ?_
      refine G.sub [1, 2, 3, 4, 5, 0] rfl ?_
      exact gX15_write_p3 n _ _ _ _ _ _ _
def V.Pag_write (σ : HS) (x0 : Nat) (x1 : Int32) (x2 : Int64) (x4 : Int32) (x5 : Int64) : Option (Unit × HS) :=
  Pag_write_p3 FU σ x0 x1 x2 x4 x5 (0 : Int32)
theorem V.ctX15_write (x0 : Nat) (x1 : Int32) (x2 : Int64) (x4 : Int32) (x5 : Int64) : Ct yX15_write  cX15_write 8 none 2 47 eV [av x0, iv x1, jv x2, iv x4, jv x5] (fun σ => Pag_write σ x0 x1 x2 x4 x5) := by
  refine Ct.of (own := RX15) (nm := "write") (desc := "(IJIJ)V") rfl (by decide) (Nat.le_of_ble_eq_true rfl) (by decide) (fun X σ => ?_)
  show G X RX15 "write" cX15_write 8 none 2 47 enV 0 [(0, av x0), (1, iv x1), (2, jv x2), (4, iv x4), (5, jv x5)] [] σ (Pag_write σ x0 x1 x2 x4 x5)
  unfold Pag_write
  refine g_iconst (v := 0) dX15_write_0 (by decide) ?_
  refine g_istore dX15_write_1 (by decide) rfl ?_
  refine G.sub [1, 2, 3, 4, 5, 0] rfl ?_
  exact gX15_write_p3 FU _ _ _ _ _ _ _
theorem V.dX15_read_0 : decode cX15_read 0 = .ok (.lconst 0, 1) := by decide +kernel
theorem V.dX15_read_1 : decode cX15_read 1 = .ok (.lstore 5, 2) := by decide +kernel
theorem V.dX15_read_3 : decode cX15_read 3 = .ok (.iload 4, 2) := by decide +kernel
theorem V.dX15_read_5 : decode cX15_read 5 = .ok (.iconst 1, 1) := by decide +kernel
theorem V.dX15_read_6 : decode cX15_read 6 = .ok (.isub, 1) := by decide +kernel
theorem V.dX15_read_7 : decode cX15_read 7 = .ok (.istore 7, 2) := by decide +kernel
theorem V.dX15_read_9 : decode cX15_read 9 = .ok (.iload 7, 2) := by decide +kernel
theorem V.dX15_read_11 : decode cX15_read 11 = .ok (.ifCond .lt 28, 3) := by decide +kernel
theorem V.dX15_read_14 : decode cX15_read 14 = .ok (.lload 5, 2) := by decide +kernel
theorem V.dX15_read_16 : decode cX15_read 16 = .ok (.bipush 8, 2) := by decide +kernel
theorem V.dX15_read_18 : decode cX15_read 18 = .ok (.lshl, 1) := by decide +kernel
theorem V.dX15_read_19 : decode cX15_read 19 = .ok (.aload_n 0, 1) := by decide +kernel
theorem V.dX15_read_20 : decode cX15_read 20 = .ok (.iload_n 1, 1) := by decide +kernel
theorem V.dX15_read_21 : decode cX15_read 21 = .ok (.lload_n 2, 1) := by decide +kernel
theorem V.dX15_read_22 : decode cX15_read 22 = .ok (.iload 7, 2) := by decide +kernel
theorem V.dX15_read_24 : decode cX15_read 24 = .ok (.i2l, 1) := by decide +kernel
theorem V.dX15_read_25 : decode cX15_read 25 = .ok (.ladd, 1) := by decide +kernel
theorem V.dX15_read_26 : decode cX15_read 26 = .ok (.invokevirtual 49, 3) := by decide +kernel
theorem V.dX15_read_29 : decode cX15_read 29 = .ok (.i2l, 1) := by decide +kernel
theorem V.dX15_read_30 : decode cX15_read 30 = .ok (.lor, 1) := by decide +kernel
theorem V.dX15_read_31 : decode cX15_read 31 = .ok (.lstore 5, 2) := by decide +kernel
theorem V.dX15_read_33 : decode cX15_read 33 = .ok (.iinc 7 (-1), 3) := by decide +kernel
theorem V.dX15_read_36 : decode cX15_read 36 = .ok (.goto (-27), 3) := by decide +kernel
theorem V.dX15_read_39 : decode cX15_read 39 = .ok (.lload 5, 2) := by decide +kernel
theorem V.dX15_read_41 : decode cX15_read 41 = .ok (.lreturn, 1) := by decide +kernel
/-! ModuleEngine$Pages.read(IJI)J -/
def V.Pag_read_p9  : Nat → HS → Nat → Int32 → Int64 → Int64 → Int32 → Option (Int64 × HS)
  | 0, _, _, _, _, _, _ => none
  | n + 1, σ, x0, x1, x2, x5, x7 =>
    if x7 < 0 then (
      some (x5, σ))
    else (
      ck (tg σ x0 = 16) <| cl (Pag_get σ x0 x1 (x2 + x7.toInt64)) fun r2 σ1 =>
      bn ((lshl x5 (8 : Int32)) ||| r2.toInt64) fun y3 =>
      bn (x7 + (-1 : Int32)) fun y4 =>
      Pag_read_p9 n σ1 x0 x1 x2 y3 y4)
theorem V.gX15_read_p9 {X : CX}  : ∀ (n : Nat) (σ : HS) (x0 : Nat) (x1 : Int32) (x2 : Int64) (x5 : Int64) (x7 : Int32), G X RX15 "read" cX15_read 8 (some .long) 2 46 enJ 9 [(0, av x0), (1, iv x1), (2, jv x2), (5, jv x5), (7, iv x7)] [] σ (Pag_read_p9 n σ x0 x1 x2 x5 x7)
  | 0, σ, x0, x1, x2, x5, x7 => by rw [Pag_read_p9]; exact G.nul
  | n + 1, σ, x0, x1, x2, x5, x7 => by
    rw [Pag_read_p9]
    refine g_iload 4 dX15_read_9 rfl ?_
    refine g_if_lt 39 dX15_read_11 (by decide) ?_ ?_
    · refine g_lload 3 dX15_read_39 rfl ?_
      exact g_lreturn rfl dX15_read_41
    · refine g_lload 3 dX15_read_14 rfl ?_
      refine g_bipush (v := 8) dX15_read_16 (by decide) ?_
      refine g_lshl dX15_read_18 ?_
      refine g_aload_n 0 0 dX15_read_19 rfl rfl ?_
      refine g_iload_n 1 1 dX15_read_20 rfl rfl ?_
      refine g_lload_n 2 2 dX15_read_21 rfl rfl ?_
      refine g_iload 4 dX15_read_22 rfl ?_
      refine g_i2l dX15_read_24 ?_
      refine g_ladd dX15_read_25 ?_
      refine g_callV (fc := fun sς => Pag_get sς x0 x1 (x2 + x7.toInt64)) (ci := 15) (as := [iv x1, jv (x2 + x7.toInt64)]) rfl rfl rfl q2788 q2789 mdX15_49 (ctX15_get x0 x1 (x2 + x7.toInt64)) rfl (Nat.le_of_ble_eq_true rfl) (Nat.le_of_ble_eq_true rfl) (Nat.le_of_ble_eq_true rfl) pu_I dX15_read_26 (fun r2 σ1 => ?_)
      refine g_i2l dX15_read_29 ?_
      refine g_lor dX15_read_30 ?_
      refine g_nmJ (fun y3 => ?_)
      refine g_lstore dX15_read_31 (by decide) rfl ?_
      refine g_iincB (w := (-1)) 4 dX15_read_33 rfl (by decide) (by decide) (fun _ => rfl) (fun y4 => ?_)
      refine g_goto 9 dX15_read_36 (by decide) ?_
      refine G.sub [2, 3, 4, 1, 0] rfl ?_
      exact gX15_read_p9 n _ _ _ _ _ _
def V.Pag_read (σ : HS) (x0 : Nat) (x1 : Int32) (x2 : Int64) (x4 : Int32) : Option (Int64 × HS) :=
  bn (x4 - (1 : Int32)) fun y1 =>
  Pag_read_p9 FU σ x0 x1 x2 (0 : Int64) y1
theorem V.ctX15_read (x0 : Nat) (x1 : Int32) (x2 : Int64) (x4 : Int32) : Ct yX15_read  cX15_read 8 (some .long) 2 46 eJ [av x0, iv x1, jv x2, iv x4] (fun σ => Pag_read σ x0 x1 x2 x4) := by
  refine Ct.of (own := RX15) (nm := "read") (desc := "(IJI)J") rfl (by decide) (Nat.le_of_ble_eq_true rfl) (by decide) (fun X σ => ?_)
  show G X RX15 "read" cX15_read 8 (some .long) 2 46 enJ 0 [(0, av x0), (1, iv x1), (2, jv x2), (4, iv x4)] [] σ (Pag_read σ x0 x1 x2 x4)
  unfold Pag_read
  refine g_lconst (v := 0) dX15_read_0 (by decide) ?_
  refine g_lstore dX15_read_1 (by decide) rfl ?_
  refine g_iload 4 dX15_read_3 rfl ?_
  refine g_iconst (v := 1) dX15_read_5 (by decide) ?_
  refine g_isub dX15_read_6 ?_
  refine g_nmI (fun y1 => ?_)
  refine g_istore dX15_read_7 (by decide) rfl ?_
  refine G.sub [2, 3, 4, 1, 0] rfl ?_
  exact gX15_read_p9 FU _ _ _ _ _ _
theorem V.dX14_init_0 : decode cX14_init 0 = .ok (.aload_n 0, 1) := by decide +kernel
theorem V.dX14_init_1 : decode cX14_init 1 = .ok (.invokespecial 1, 3) := by decide +kernel
theorem V.dX14_init_4 : decode cX14_init 4 = .ok (.aload_n 0, 1) := by decide +kernel
theorem V.dX14_init_5 : decode cX14_init 5 = .ok (.aload_n 1, 1) := by decide +kernel
theorem V.dX14_init_6 : decode cX14_init 6 = .ok (.putfield 7, 3) := by decide +kernel
theorem V.dX14_init_9 : decode cX14_init 9 = .ok (.aload_n 0, 1) := by decide +kernel
theorem V.dX14_init_10 : decode cX14_init 10 = .ok (.aload_n 2, 1) := by decide +kernel
theorem V.dX14_init_11 : decode cX14_init 11 = .ok (.putfield 13, 3) := by decide +kernel
theorem V.dX14_init_14 : decode cX14_init 14 = .ok (.aload_n 0, 1) := by decide +kernel
theorem V.dX14_init_15 : decode cX14_init 15 = .ok (.aload_n 3, 1) := by decide +kernel
theorem V.dX14_init_16 : decode cX14_init 16 = .ok (.putfield 16, 3) := by decide +kernel
theorem V.dX14_init_19 : decode cX14_init 19 = .ok (.aload_n 0, 1) := by decide +kernel
theorem V.dX14_init_20 : decode cX14_init 20 = .ok (.aload 4, 2) := by decide +kernel
theorem V.dX14_init_22 : decode cX14_init 22 = .ok (.putfield 19, 3) := by decide +kernel
theorem V.dX14_init_25 : decode cX14_init 25 = .ok (.aload_n 0, 1) := by decide +kernel
theorem V.dX14_init_26 : decode cX14_init 26 = .ok (.aload 5, 2) := by decide +kernel
theorem V.dX14_init_28 : decode cX14_init 28 = .ok (.putfield 22, 3) := by decide +kernel
theorem V.dX14_init_31 : decode cX14_init 31 = .ok (.return_, 1) := by decide +kernel
theorem V.fpX14_7 : FP RX14 "<init>" 7 14 0 (.array .int) := ⟨(RX14, TX14, 7), tyX14, rfl, rfl, in_X14, by decide, tyX14_ok, nmX14, rfl, Or.inr ⟨rfl, rfl, rfl, q958⟩⟩
theorem V.fpX14_13 : FP RX14 "<init>" 13 14 2 (.array .int) := ⟨(RX14, TX14, 7), tyX14, rfl, rfl, in_X14, by decide, tyX14_ok, nmX14, rfl, Or.inr ⟨rfl, rfl, rfl, q960⟩⟩
theorem V.fpX14_16 : FP RX14 "<init>" 16 14 3 (.array .int) := ⟨(RX14, TX14, 7), tyX14, rfl, rfl, in_X14, by decide, tyX14_ok, nmX14, rfl, Or.inr ⟨rfl, rfl, rfl, q961⟩⟩
theorem V.fpX14_19 : FP RX14 "<init>" 19 14 4 (.array .int) := ⟨(RX14, TX14, 7), tyX14, rfl, rfl, in_X14, by decide, tyX14_ok, nmX14, rfl, Or.inr ⟨rfl, rfl, rfl, q962⟩⟩
theorem V.fpX14_22 : FP RX14 "<init>" 22 14 5 (.array .long) := ⟨(RX14, TX14, 7), tyX14, rfl, rfl, in_X14, by decide, tyX14_ok, nmX14, rfl, Or.inr ⟨rfl, rfl, rfl, q963⟩⟩
/-! ModuleEngine$Tables.<init>([I[I[I[I[J)V -/
def V.Tab_init (σ : HS) (x0 : Nat) (x1 : Nat) (x2 : Nat) (x3 : Nat) (x4 : Nat) (x5 : Nat) : Option (Unit × HS) :=
  ck (¬ x0 = 0) <|
  ck (tg σ x0 = 15) <| bn (sR σ x0 0 x1) fun σ1 =>
  ck (tg σ1 x0 = 15) <| bn (sR σ1 x0 2 x2) fun σ2 =>
  ck (tg σ2 x0 = 15) <| bn (sR σ2 x0 3 x3) fun σ3 =>
  ck (tg σ3 x0 = 15) <| bn (sR σ3 x0 4 x4) fun σ4 =>
  ck (tg σ4 x0 = 15) <| bn (sR σ4 x0 5 x5) fun σ5 =>
  some ((), σ5)
theorem V.ctX14_init (x0 : Nat) (x1 : Nat) (x2 : Nat) (x3 : Nat) (x4 : Nat) (x5 : Nat) : Ct yX14_init  cX14_init 6 none 1 24 eV [av x0, av x1, av x2, av x3, av x4, av x5] (fun σ => Tab_init σ x0 x1 x2 x3 x4 x5) := by
  refine Ct.of (own := RX14) (nm := "<init>") (desc := "([I[I[I[I[J)V") rfl (by decide) (Nat.le_of_ble_eq_true rfl) (by decide) (fun X σ => ?_)
  show G X RX14 "<init>" cX14_init 6 none 1 24 enV 0 [(0, av x0), (1, av x1), (2, av x2), (3, av x3), (4, av x4), (5, av x5)] [] σ (Tab_init σ x0 x1 x2 x3 x4 x5)
  unfold Tab_init
  refine g_aload_n 0 0 dX14_init_0 rfl rfl ?_
  refine g_objInit q957 (Nat.le_of_ble_eq_true rfl) (Nat.le_of_ble_eq_true rfl) dX14_init_1 ?_
  refine g_aload_n 0 0 dX14_init_4 rfl rfl ?_
  refine g_aload_n 1 1 dX14_init_5 rfl rfl ?_
  refine g_putR fpX14_7 rfl dX14_init_6 (fun σ1 => ?_)
  refine g_aload_n 0 0 dX14_init_9 rfl rfl ?_
  refine g_aload_n 2 2 dX14_init_10 rfl rfl ?_
  refine g_putR fpX14_13 rfl dX14_init_11 (fun σ2 => ?_)
  refine g_aload_n 0 0 dX14_init_14 rfl rfl ?_
  refine g_aload_n 3 3 dX14_init_15 rfl rfl ?_
  refine g_putR fpX14_16 rfl dX14_init_16 (fun σ3 => ?_)
  refine g_aload_n 0 0 dX14_init_19 rfl rfl ?_
  refine g_aload 4 dX14_init_20 rfl ?_
  refine g_putR fpX14_19 rfl dX14_init_22 (fun σ4 => ?_)
  refine g_aload_n 0 0 dX14_init_25 rfl rfl ?_
  refine g_aload 5 dX14_init_26 rfl ?_
  refine g_putR fpX14_22 rfl dX14_init_28 (fun σ5 => ?_)
  exact g_return rfl dX14_init_31
theorem V.dX14_type_0 : decode cX14_type 0 = .ok (.aload_n 0, 1) := by decide +kernel
theorem V.dX14_type_1 : decode cX14_type 1 = .ok (.getfield 13, 3) := by decide +kernel
theorem V.dX14_type_4 : decode cX14_type 4 = .ok (.iload_n 1, 1) := by decide +kernel
theorem V.dX14_type_5 : decode cX14_type 5 = .ok (.iaload, 1) := by decide +kernel
theorem V.dX14_type_6 : decode cX14_type 6 = .ok (.ireturn, 1) := by decide +kernel
theorem V.fdX14_13 : FD RX14 13 14 2 2 := ⟨(RX14, TX14, 7), tyX14, rfl, rfl, in_X14, by decide, Or.inl q960, rfl⟩
/-! ModuleEngine$Tables.type(I)I -/
def V.Tab_type (σ : HS) (x0 : Nat) (x1 : Int32) : Option (Int32 × HS) :=
  ck (tg σ x0 = 15) <|
  ck (tg σ (gR σ x0 2) = 100 ∧ inb x1 (ln σ (gR σ x0 2))) <|
  some (gI σ (gR σ x0 2) (ix x1), σ)
theorem V.ctX14_type (x0 : Nat) (x1 : Int32) : Ct yX14_type  cX14_type 2 (some .int) 0 0 eI [av x0, iv x1] (fun σ => Tab_type σ x0 x1) := by
  refine Ct.of (own := RX14) (nm := "type") (desc := "(I)I") rfl (by decide) (Nat.le_of_ble_eq_true rfl) (by decide) (fun X σ => ?_)
  show G X RX14 "type" cX14_type 2 (some .int) 0 0 enI 0 [(0, av x0), (1, iv x1)] [] σ (Tab_type σ x0 x1)
  unfold Tab_type
  refine g_aload_n 0 0 dX14_type_0 rfl rfl ?_
  refine g_getR fdX14_13 dX14_type_1 ?_
  refine g_iload_n 1 1 dX14_type_4 rfl rfl ?_
  refine g_iaload dX14_type_5 ?_
  exact g_ireturn rfl dX14_type_6
theorem V.dX14_size_0 : decode cX14_size 0 = .ok (.aload_n 0, 1) := by decide +kernel
theorem V.dX14_size_1 : decode cX14_size 1 = .ok (.getfield 19, 3) := by decide +kernel
theorem V.dX14_size_4 : decode cX14_size 4 = .ok (.iload_n 1, 1) := by decide +kernel
theorem V.dX14_size_5 : decode cX14_size 5 = .ok (.iaload, 1) := by decide +kernel
theorem V.dX14_size_6 : decode cX14_size 6 = .ok (.ireturn, 1) := by decide +kernel
theorem V.fdX14_19 : FD RX14 19 14 4 2 := ⟨(RX14, TX14, 7), tyX14, rfl, rfl, in_X14, by decide, Or.inl q962, rfl⟩
/-! ModuleEngine$Tables.size(I)I -/
def V.Tab_size (σ : HS) (x0 : Nat) (x1 : Int32) : Option (Int32 × HS) :=
  ck (tg σ x0 = 15) <|
  ck (tg σ (gR σ x0 4) = 100 ∧ inb x1 (ln σ (gR σ x0 4))) <|
  some (gI σ (gR σ x0 4) (ix x1), σ)
theorem V.ctX14_size (x0 : Nat) (x1 : Int32) : Ct yX14_size  cX14_size 2 (some .int) 0 0 eI [av x0, iv x1] (fun σ => Tab_size σ x0 x1) := by
  refine Ct.of (own := RX14) (nm := "size") (desc := "(I)I") rfl (by decide) (Nat.le_of_ble_eq_true rfl) (by decide) (fun X σ => ?_)
  show G X RX14 "size" cX14_size 2 (some .int) 0 0 enI 0 [(0, av x0), (1, iv x1)] [] σ (Tab_size σ x0 x1)
  unfold Tab_size
  refine g_aload_n 0 0 dX14_size_0 rfl rfl ?_
  refine g_getR fdX14_19 dX14_size_1 ?_
  refine g_iload_n 1 1 dX14_size_4 rfl rfl ?_
  refine g_iaload dX14_size_5 ?_
  exact g_ireturn rfl dX14_size_6
theorem V.dX14_limit_0 : decode cX14_limit 0 = .ok (.aload_n 0, 1) := by decide +kernel
theorem V.dX14_limit_1 : decode cX14_limit 1 = .ok (.getfield 22, 3) := by decide +kernel
theorem V.dX14_limit_4 : decode cX14_limit 4 = .ok (.iload_n 1, 1) := by decide +kernel
theorem V.dX14_limit_5 : decode cX14_limit 5 = .ok (.laload, 1) := by decide +kernel
theorem V.dX14_limit_6 : decode cX14_limit 6 = .ok (.lreturn, 1) := by decide +kernel
theorem V.fdX14_22 : FD RX14 22 14 5 2 := ⟨(RX14, TX14, 7), tyX14, rfl, rfl, in_X14, by decide, Or.inl q963, rfl⟩
/-! ModuleEngine$Tables.limit(I)J -/
def V.Tab_limit (σ : HS) (x0 : Nat) (x1 : Int32) : Option (Int64 × HS) :=
  ck (tg σ x0 = 15) <|
  ck (tg σ (gR σ x0 5) = 101 ∧ inb x1 (ln σ (gR σ x0 5))) <|
  some (gJ σ (gR σ x0 5) (ix x1), σ)
theorem V.ctX14_limit (x0 : Nat) (x1 : Int32) : Ct yX14_limit  cX14_limit 2 (some .long) 0 0 eJ [av x0, iv x1] (fun σ => Tab_limit σ x0 x1) := by
  refine Ct.of (own := RX14) (nm := "limit") (desc := "(I)J") rfl (by decide) (Nat.le_of_ble_eq_true rfl) (by decide) (fun X σ => ?_)
  show G X RX14 "limit" cX14_limit 2 (some .long) 0 0 enJ 0 [(0, av x0), (1, iv x1)] [] σ (Tab_limit σ x0 x1)
  unfold Tab_limit
  refine g_aload_n 0 0 dX14_limit_0 rfl rfl ?_
  refine g_getR fdX14_22 dX14_limit_1 ?_
  refine g_iload_n 1 1 dX14_limit_4 rfl rfl ?_
  refine g_laload dX14_limit_5 ?_
  exact g_lreturn rfl dX14_limit_6
theorem V.dX14_many_0 : decode cX14_many 0 = .ok (.aload_n 0, 1) := by decide +kernel
theorem V.dX14_many_1 : decode cX14_many 1 = .ok (.getfield 26, 3) := by decide +kernel
theorem V.dX14_many_4 : decode cX14_many 4 = .ok (.ireturn, 1) := by decide +kernel
theorem V.fdX14_26 : FD RX14 26 14 6 0 := ⟨(RX14, TX14, 7), tyX14, rfl, rfl, in_X14, by decide, Or.inl q964, rfl⟩
/-! ModuleEngine$Tables.many()I -/
def V.Tab_many (σ : HS) (x0 : Nat) : Option (Int32 × HS) :=
  ck (tg σ x0 = 15) <|
  some (gI σ x0 6, σ)
theorem V.ctX14_many (x0 : Nat) : Ct yX14_many  cX14_many 1 (some .int) 0 0 eI [av x0] (fun σ => Tab_many σ x0) := by
  refine Ct.of (own := RX14) (nm := "many") (desc := "()I") rfl (by decide) (Nat.le_of_ble_eq_true rfl) (by decide) (fun X σ => ?_)
  show G X RX14 "many" cX14_many 1 (some .int) 0 0 enI 0 [(0, av x0)] [] σ (Tab_many σ x0)
  unfold Tab_many
  refine g_aload_n 0 0 dX14_many_0 rfl rfl ?_
  refine g_getI fdX14_26 dX14_many_1 ?_
  exact g_ireturn rfl dX14_many_4
theorem V.dX14_left_0 : decode cX14_left 0 = .ok (.aload_n 0, 1) := by decide +kernel
theorem V.dX14_left_1 : decode cX14_left 1 = .ok (.getfield 7, 3) := by decide +kernel
theorem V.dX14_left_4 : decode cX14_left 4 = .ok (.arraylength, 1) := by decide +kernel
theorem V.dX14_left_5 : decode cX14_left 5 = .ok (.aload_n 0, 1) := by decide +kernel
theorem V.dX14_left_6 : decode cX14_left 6 = .ok (.getfield 30, 3) := by decide +kernel
theorem V.dX14_left_9 : decode cX14_left 9 = .ok (.isub, 1) := by decide +kernel
theorem V.dX14_left_10 : decode cX14_left 10 = .ok (.ireturn, 1) := by decide +kernel
theorem V.fdX14_7 : FD RX14 7 14 0 2 := ⟨(RX14, TX14, 7), tyX14, rfl, rfl, in_X14, by decide, Or.inl q958, rfl⟩
theorem V.fdX14_30 : FD RX14 30 14 1 0 := ⟨(RX14, TX14, 7), tyX14, rfl, rfl, in_X14, by decide, Or.inl q959, rfl⟩
/-! ModuleEngine$Tables.left()I -/
def V.Tab_left (σ : HS) (x0 : Nat) : Option (Int32 × HS) :=
  ck (tg σ x0 = 15) <|
  ck (tg σ (gR σ x0 0) = 100) <|
  ck (tg σ x0 = 15) <|
  some ((nI (ln σ (gR σ x0 0))) - (gI σ x0 1), σ)
theorem V.ctX14_left (x0 : Nat) : Ct yX14_left  cX14_left 1 (some .int) 0 0 eI [av x0] (fun σ => Tab_left σ x0) := by
  refine Ct.of (own := RX14) (nm := "left") (desc := "()I") rfl (by decide) (Nat.le_of_ble_eq_true rfl) (by decide) (fun X σ => ?_)
  show G X RX14 "left" cX14_left 1 (some .int) 0 0 enI 0 [(0, av x0)] [] σ (Tab_left σ x0)
  unfold Tab_left
  refine g_aload_n 0 0 dX14_left_0 rfl rfl ?_
  refine g_getR fdX14_7 dX14_left_1 ?_
  refine g_alen 0 rfl dX14_left_4 ?_
  refine g_aload_n 0 0 dX14_left_5 rfl rfl ?_
  refine g_getI fdX14_30 dX14_left_6 ?_
  refine g_isub dX14_left_9 ?_
  exact g_ireturn rfl dX14_left_10
theorem V.dX14_grow_0 : decode cX14_grow 0 = .ok (.aload_n 0, 1) := by decide +kernel
theorem V.dX14_grow_1 : decode cX14_grow 1 = .ok (.getfield 19, 3) := by decide +kernel
theorem V.dX14_grow_4 : decode cX14_grow 4 = .ok (.iload_n 1, 1) := by decide +kernel
theorem V.dX14_grow_5 : decode cX14_grow 5 = .ok (.iaload, 1) := by decide +kernel
theorem V.dX14_grow_6 : decode cX14_grow 6 = .ok (.istore 5, 2) := by decide +kernel
theorem V.dX14_grow_8 : decode cX14_grow 8 = .ok (.iload 5, 2) := by decide +kernel
theorem V.dX14_grow_10 : decode cX14_grow 10 = .ok (.i2l, 1) := by decide +kernel
theorem V.dX14_grow_11 : decode cX14_grow 11 = .ok (.lload_n 2, 1) := by decide +kernel
theorem V.dX14_grow_12 : decode cX14_grow 12 = .ok (.ladd, 1) := by decide +kernel
theorem V.dX14_grow_13 : decode cX14_grow 13 = .ok (.aload_n 0, 1) := by decide +kernel
theorem V.dX14_grow_14 : decode cX14_grow 14 = .ok (.getfield 22, 3) := by decide +kernel
theorem V.dX14_grow_17 : decode cX14_grow 17 = .ok (.iload_n 1, 1) := by decide +kernel
theorem V.dX14_grow_18 : decode cX14_grow 18 = .ok (.laload, 1) := by decide +kernel
theorem V.dX14_grow_19 : decode cX14_grow 19 = .ok (.lcmp, 1) := by decide +kernel
theorem V.dX14_grow_20 : decode cX14_grow 20 = .ok (.ifCond .gt 13, 3) := by decide +kernel
theorem V.dX14_grow_23 : decode cX14_grow 23 = .ok (.lload_n 2, 1) := by decide +kernel
theorem V.dX14_grow_24 : decode cX14_grow 24 = .ok (.aload_n 0, 1) := by decide +kernel
theorem V.dX14_grow_25 : decode cX14_grow 25 = .ok (.invokevirtual 33, 3) := by decide +kernel
theorem V.dX14_grow_28 : decode cX14_grow 28 = .ok (.i2l, 1) := by decide +kernel
theorem V.dX14_grow_29 : decode cX14_grow 29 = .ok (.lcmp, 1) := by decide +kernel
theorem V.dX14_grow_30 : decode cX14_grow 30 = .ok (.ifCond .le 5, 3) := by decide +kernel
theorem V.dX14_grow_33 : decode cX14_grow 33 = .ok (.iconst (-1), 1) := by decide +kernel
theorem V.dX14_grow_34 : decode cX14_grow 34 = .ok (.ireturn, 1) := by decide +kernel
theorem V.dX14_grow_35 : decode cX14_grow 35 = .ok (.lload_n 2, 1) := by decide +kernel
theorem V.dX14_grow_36 : decode cX14_grow 36 = .ok (.l2i, 1) := by decide +kernel
theorem V.dX14_grow_37 : decode cX14_grow 37 = .ok (.istore 6, 2) := by decide +kernel
theorem V.dX14_grow_39 : decode cX14_grow 39 = .ok (.aload_n 0, 1) := by decide +kernel
theorem V.dX14_grow_40 : decode cX14_grow 40 = .ok (.getfield 16, 3) := by decide +kernel
theorem V.dX14_grow_43 : decode cX14_grow 43 = .ok (.iload_n 1, 1) := by decide +kernel
theorem V.dX14_grow_44 : decode cX14_grow 44 = .ok (.iaload, 1) := by decide +kernel
theorem V.dX14_grow_45 : decode cX14_grow 45 = .ok (.iload 5, 2) := by decide +kernel
theorem V.dX14_grow_47 : decode cX14_grow 47 = .ok (.iadd, 1) := by decide +kernel
theorem V.dX14_grow_48 : decode cX14_grow 48 = .ok (.istore 7, 2) := by decide +kernel
theorem V.dX14_grow_50 : decode cX14_grow 50 = .ok (.aload_n 0, 1) := by decide +kernel
theorem V.dX14_grow_51 : decode cX14_grow 51 = .ok (.getfield 30, 3) := by decide +kernel
theorem V.dX14_grow_54 : decode cX14_grow 54 = .ok (.iconst 1, 1) := by decide +kernel
theorem V.dX14_grow_55 : decode cX14_grow 55 = .ok (.isub, 1) := by decide +kernel
theorem V.dX14_grow_56 : decode cX14_grow 56 = .ok (.istore 8, 2) := by decide +kernel
theorem V.dX14_grow_58 : decode cX14_grow 58 = .ok (.iload 8, 2) := by decide +kernel
theorem V.dX14_grow_60 : decode cX14_grow 60 = .ok (.iload 7, 2) := by decide +kernel
theorem V.dX14_grow_62 : decode cX14_grow 62 = .ok (.if_icmp .lt 26, 3) := by decide +kernel
theorem V.dX14_grow_65 : decode cX14_grow 65 = .ok (.aload_n 0, 1) := by decide +kernel
theorem V.dX14_grow_66 : decode cX14_grow 66 = .ok (.getfield 7, 3) := by decide +kernel
theorem V.dX14_grow_69 : decode cX14_grow 69 = .ok (.iload 8, 2) := by decide +kernel
theorem V.dX14_grow_71 : decode cX14_grow 71 = .ok (.iload 6, 2) := by decide +kernel
theorem V.dX14_grow_73 : decode cX14_grow 73 = .ok (.iadd, 1) := by decide +kernel
theorem V.dX14_grow_74 : decode cX14_grow 74 = .ok (.aload_n 0, 1) := by decide +kernel
theorem V.dX14_grow_75 : decode cX14_grow 75 = .ok (.getfield 7, 3) := by decide +kernel
theorem V.dX14_grow_78 : decode cX14_grow 78 = .ok (.iload 8, 2) := by decide +kernel
theorem V.dX14_grow_80 : decode cX14_grow 80 = .ok (.iaload, 1) := by decide +kernel
theorem V.dX14_grow_81 : decode cX14_grow 81 = .ok (.iastore, 1) := by decide +kernel
theorem V.dX14_grow_82 : decode cX14_grow 82 = .ok (.iinc 8 (-1), 3) := by decide +kernel
theorem V.dX14_grow_85 : decode cX14_grow 85 = .ok (.goto (-27), 3) := by decide +kernel
theorem V.dX14_grow_88 : decode cX14_grow 88 = .ok (.iconst 0, 1) := by decide +kernel
theorem V.dX14_grow_89 : decode cX14_grow 89 = .ok (.istore 8, 2) := by decide +kernel
theorem V.dX14_grow_91 : decode cX14_grow 91 = .ok (.iload 8, 2) := by decide +kernel
theorem V.dX14_grow_93 : decode cX14_grow 93 = .ok (.iload 6, 2) := by decide +kernel
theorem V.dX14_grow_95 : decode cX14_grow 95 = .ok (.if_icmp .ge 21, 3) := by decide +kernel
theorem V.dX14_grow_98 : decode cX14_grow 98 = .ok (.aload_n 0, 1) := by decide +kernel
theorem V.dX14_grow_99 : decode cX14_grow 99 = .ok (.getfield 7, 3) := by decide +kernel
theorem V.dX14_grow_102 : decode cX14_grow 102 = .ok (.iload 7, 2) := by decide +kernel
theorem V.dX14_grow_104 : decode cX14_grow 104 = .ok (.iload 8, 2) := by decide +kernel
theorem V.dX14_grow_106 : decode cX14_grow 106 = .ok (.iadd, 1) := by decide +kernel
theorem V.dX14_grow_107 : decode cX14_grow 107 = .ok (.iload 4, 2) := by decide +kernel
theorem V.dX14_grow_109 : decode cX14_grow 109 = .ok (.iastore, 1) := by decide +kernel
theorem V.dX14_grow_110 : decode cX14_grow 110 = .ok (.iinc 8 1, 3) := by decide +kernel
theorem V.dX14_grow_113 : decode cX14_grow 113 = .ok (.goto (-22), 3) := by decide +kernel
theorem V.dX14_grow_116 : decode cX14_grow 116 = .ok (.iload_n 1, 1) := by decide +kernel
theorem V.dX14_grow_117 : decode cX14_grow 117 = .ok (.iconst 1, 1) := by decide +kernel
theorem V.dX14_grow_118 : decode cX14_grow 118 = .ok (.iadd, 1) := by decide +kernel
theorem V.dX14_grow_119 : decode cX14_grow 119 = .ok (.istore 8, 2) := by decide +kernel
theorem V.dX14_grow_121 : decode cX14_grow 121 = .ok (.iload 8, 2) := by decide +kernel
theorem V.dX14_grow_123 : decode cX14_grow 123 = .ok (.aload_n 0, 1) := by decide +kernel
theorem V.dX14_grow_124 : decode cX14_grow 124 = .ok (.getfield 26, 3) := by decide +kernel
theorem V.dX14_grow_127 : decode cX14_grow 127 = .ok (.if_icmp .ge 21, 3) := by decide +kernel
theorem V.dX14_grow_130 : decode cX14_grow 130 = .ok (.aload_n 0, 1) := by decide +kernel
theorem V.dX14_grow_131 : decode cX14_grow 131 = .ok (.getfield 16, 3) := by decide +kernel
theorem V.dX14_grow_134 : decode cX14_grow 134 = .ok (.iload 8, 2) := by decide +kernel
theorem V.dX14_grow_136 : decode cX14_grow 136 = .ok (.dup2, 1) := by decide +kernel
theorem V.dX14_grow_137 : decode cX14_grow 137 = .ok (.iaload, 1) := by decide +kernel
theorem V.dX14_grow_138 : decode cX14_grow 138 = .ok (.iload 6, 2) := by decide +kernel
theorem V.dX14_grow_140 : decode cX14_grow 140 = .ok (.iadd, 1) := by decide +kernel
theorem V.dX14_grow_141 : decode cX14_grow 141 = .ok (.iastore, 1) := by decide +kernel
theorem V.dX14_grow_142 : decode cX14_grow 142 = .ok (.iinc 8 1, 3) := by decide +kernel
theorem V.dX14_grow_145 : decode cX14_grow 145 = .ok (.goto (-24), 3) := by decide +kernel
theorem V.dX14_grow_148 : decode cX14_grow 148 = .ok (.aload_n 0, 1) := by decide +kernel
theorem V.dX14_grow_149 : decode cX14_grow 149 = .ok (.dup, 1) := by decide +kernel
theorem V.dX14_grow_150 : decode cX14_grow 150 = .ok (.getfield 30, 3) := by decide +kernel
theorem V.dX14_grow_153 : decode cX14_grow 153 = .ok (.iload 6, 2) := by decide +kernel
theorem V.dX14_grow_155 : decode cX14_grow 155 = .ok (.iadd, 1) := by decide +kernel
theorem V.dX14_grow_156 : decode cX14_grow 156 = .ok (.putfield 30, 3) := by decide +kernel
theorem V.dX14_grow_159 : decode cX14_grow 159 = .ok (.aload_n 0, 1) := by decide +kernel
theorem V.dX14_grow_160 : decode cX14_grow 160 = .ok (.getfield 19, 3) := by decide +kernel
theorem V.dX14_grow_163 : decode cX14_grow 163 = .ok (.iload_n 1, 1) := by decide +kernel
theorem V.dX14_grow_164 : decode cX14_grow 164 = .ok (.dup2, 1) := by decide +kernel
theorem V.dX14_grow_165 : decode cX14_grow 165 = .ok (.iaload, 1) := by decide +kernel
theorem V.dX14_grow_166 : decode cX14_grow 166 = .ok (.iload 6, 2) := by decide +kernel
theorem V.dX14_grow_168 : decode cX14_grow 168 = .ok (.iadd, 1) := by decide +kernel
theorem V.dX14_grow_169 : decode cX14_grow 169 = .ok (.iastore, 1) := by decide +kernel
theorem V.dX14_grow_170 : decode cX14_grow 170 = .ok (.iload 5, 2) := by decide +kernel
theorem V.dX14_grow_172 : decode cX14_grow 172 = .ok (.ireturn, 1) := by decide +kernel
theorem V.mdX14_33 : MD RX14 33 yX14_left cX14_left 1 (some .int) 0 := ⟨Or.inl q2286, q374, q2264, by decide, by decide, by decide +kernel⟩
theorem V.fdX14_16 : FD RX14 16 14 3 2 := ⟨(RX14, TX14, 7), tyX14, rfl, rfl, in_X14, by decide, Or.inl q961, rfl⟩
theorem V.fpX14_30 {nm : String} : FP RX14 nm 30 14 1 (.int) := ⟨(RX14, TX14, 7), tyX14, rfl, rfl, in_X14, by decide, tyX14_ok, nmX14, rfl, Or.inl ⟨rfl, Or.inl q959⟩⟩
/-! ModuleEngine$Tables.grow(IJI)I -/
def V.Tab_grow_p121  : Nat → HS → Nat → Int32 → Int32 → Int32 → Int32 → Option (Int32 × HS)
  | 0, _, _, _, _, _, _ => none
  | n + 1, σ, x0, x1, x5, x6, x8 =>
    ck (tg σ x0 = 15) <|
    if (gI σ x0 6) ≤ x8 then (
      ck (tg σ x0 = 15) <|
      ck (tg σ x0 = 15) <| bn (sI σ x0 1 ((gI σ x0 1) + x6)) fun σ1 =>
      ck (tg σ1 x0 = 15) <|
      ck (tg σ1 (gR σ1 x0 4) = 100 ∧ inb x1 (ln σ1 (gR σ1 x0 4))) <|
      ck (tg σ1 (gR σ1 x0 4) = 100 ∧ inb x1 (ln σ1 (gR σ1 x0 4))) <| bn (sI σ1 (gR σ1 x0 4) (ix x1) ((gI σ1 (gR σ1 x0 4) (ix x1)) + x6)) fun σ2 =>
      some (x5, σ2))
    else (
      ck (tg σ x0 = 15) <|
      ck (tg σ (gR σ x0 3) = 100 ∧ inb x8 (ln σ (gR σ x0 3))) <|
      ck (tg σ (gR σ x0 3) = 100 ∧ inb x8 (ln σ (gR σ x0 3))) <| bn (sI σ (gR σ x0 3) (ix x8) ((gI σ (gR σ x0 3) (ix x8)) + x6)) fun σ3 =>
      bn (x8 + (1 : Int32)) fun y4 =>
      Tab_grow_p121 n σ3 x0 x1 x5 x6 y4)
theorem V.gX14_grow_p121 {X : CX}  : ∀ (n : Nat) (σ : HS) (x0 : Nat) (x1 : Int32) (x5 : Int32) (x6 : Int32) (x8 : Int32), G X RX14 "grow" cX14_grow 9 (some .int) 1 20 enI 121 [(0, av x0), (1, iv x1), (5, iv x5), (6, iv x6), (8, iv x8)] [] σ (Tab_grow_p121 n σ x0 x1 x5 x6 x8)
  | 0, σ, x0, x1, x5, x6, x8 => by rw [Tab_grow_p121]; exact G.nul
  | n + 1, σ, x0, x1, x5, x6, x8 => by
    rw [Tab_grow_p121]
    refine g_iload 4 dX14_grow_121 rfl ?_
    refine g_aload_n 0 0 dX14_grow_123 rfl rfl ?_
    refine g_getI fdX14_26 dX14_grow_124 ?_
    refine g_icmp_ge 148 dX14_grow_127 (by decide) ?_ ?_
    · refine g_aload_n 0 0 dX14_grow_148 rfl rfl ?_
      refine g_dup dX14_grow_149 rfl ?_
      refine g_getI fdX14_30 dX14_grow_150 ?_
      refine g_iload 3 dX14_grow_153 rfl ?_
      refine g_iadd dX14_grow_155 ?_
      refine g_putI fpX14_30 dX14_grow_156 (fun σ1 => ?_)
      refine g_aload_n 0 0 dX14_grow_159 rfl rfl ?_
      refine g_getR fdX14_19 dX14_grow_160 ?_
      refine g_iload_n 1 1 dX14_grow_163 rfl rfl ?_
      refine g_dup2_11 dX14_grow_164 rfl rfl ?_
      refine g_iaload dX14_grow_165 ?_
      refine g_iload 3 dX14_grow_166 rfl ?_
      refine g_iadd dX14_grow_168 ?_
      refine g_iastore dX14_grow_169 (fun σ2 => ?_)
      refine g_iload 2 dX14_grow_170 rfl ?_
      exact g_ireturn rfl dX14_grow_172
    · refine g_aload_n 0 0 dX14_grow_130 rfl rfl ?_
      refine g_getR fdX14_16 dX14_grow_131 ?_
      refine g_iload 4 dX14_grow_134 rfl ?_
      refine g_dup2_11 dX14_grow_136 rfl rfl ?_
      refine g_iaload dX14_grow_137 ?_
      refine g_iload 3 dX14_grow_138 rfl ?_
      refine g_iadd dX14_grow_140 ?_
      refine g_iastore dX14_grow_141 (fun σ3 => ?_)
      refine g_iincB (w := 1) 4 dX14_grow_142 rfl (by decide) (by decide) (fun _ => rfl) (fun y4 => ?_)
      refine g_goto 121 dX14_grow_145 (by decide) ?_
      refine G.sub [1, 2, 3, 4, 0] rfl ?_
      exact gX14_grow_p121 n _ _ _ _ _ _
def V.Tab_grow_p91  : Nat → HS → Nat → Int32 → Int32 → Int32 → Int32 → Int32 → Int32 → Option (Int32 × HS)
  | 0, _, _, _, _, _, _, _, _ => none
  | n + 1, σ, x0, x1, x4, x5, x6, x7, x8 =>
    if x6 ≤ x8 then (
      bn (x1 + (1 : Int32)) fun y1 =>
      Tab_grow_p121 FU σ x0 x1 x5 x6 y1)
    else (
      ck (tg σ x0 = 15) <|
      ck (tg σ (gR σ x0 0) = 100 ∧ inb (x7 + x8) (ln σ (gR σ x0 0))) <| bn (sI σ (gR σ x0 0) (ix (x7 + x8)) x4) fun σ2 =>
      bn (x8 + (1 : Int32)) fun y3 =>
      Tab_grow_p91 n σ2 x0 x1 x4 x5 x6 x7 y3)
theorem V.gX14_grow_p91 {X : CX}  : ∀ (n : Nat) (σ : HS) (x0 : Nat) (x1 : Int32) (x4 : Int32) (x5 : Int32) (x6 : Int32) (x7 : Int32) (x8 : Int32), G X RX14 "grow" cX14_grow 9 (some .int) 1 20 enI 91 [(0, av x0), (1, iv x1), (4, iv x4), (5, iv x5), (6, iv x6), (7, iv x7), (8, iv x8)] [] σ (Tab_grow_p91 n σ x0 x1 x4 x5 x6 x7 x8)
  | 0, σ, x0, x1, x4, x5, x6, x7, x8 => by rw [Tab_grow_p91]; exact G.nul
  | n + 1, σ, x0, x1, x4, x5, x6, x7, x8 => by
    rw [Tab_grow_p91]
    refine g_iload 6 dX14_grow_91 rfl ?_
    refine g_iload 4 dX14_grow_93 rfl ?_
    refine g_icmp_ge 116 dX14_grow_95 (by decide) ?_ ?_
    · refine g_iload_n 1 1 dX14_grow_116 rfl rfl ?_
      refine g_iconst (v := 1) dX14_grow_117 (by decide) ?_
      refine g_iadd dX14_grow_118 ?_
      refine g_nmI (fun y1 => ?_)
      refine g_istore dX14_grow_119 (by decide) rfl ?_
      refine G.sub [1, 2, 4, 5, 0] rfl ?_
      exact gX14_grow_p121 FU _ _ _ _ _ _
    · refine g_aload_n 0 0 dX14_grow_98 rfl rfl ?_
      refine g_getR fdX14_7 dX14_grow_99 ?_
      refine g_iload 5 dX14_grow_102 rfl ?_
      refine g_iload 6 dX14_grow_104 rfl ?_
      refine g_iadd dX14_grow_106 ?_
      refine g_iload 2 dX14_grow_107 rfl ?_
      refine g_iastore dX14_grow_109 (fun σ2 => ?_)
      refine g_iincB (w := 1) 6 dX14_grow_110 rfl (by decide) (by decide) (fun _ => rfl) (fun y3 => ?_)
      refine g_goto 91 dX14_grow_113 (by decide) ?_
      refine G.sub [1, 2, 3, 4, 5, 6, 0] rfl ?_
      exact gX14_grow_p91 n _ _ _ _ _ _ _ _
def V.Tab_grow_p58  : Nat → HS → Nat → Int32 → Int32 → Int32 → Int32 → Int32 → Int32 → Option (Int32 × HS)
  | 0, _, _, _, _, _, _, _, _ => none
  | n + 1, σ, x0, x1, x4, x5, x6, x7, x8 =>
    if x8 < x7 then (
      Tab_grow_p91 FU σ x0 x1 x4 x5 x6 x7 (0 : Int32))
    else (
      ck (tg σ x0 = 15) <|
      ck (tg σ x0 = 15) <|
      ck (tg σ (gR σ x0 0) = 100 ∧ inb x8 (ln σ (gR σ x0 0))) <|
      ck (tg σ (gR σ x0 0) = 100 ∧ inb (x8 + x6) (ln σ (gR σ x0 0))) <| bn (sI σ (gR σ x0 0) (ix (x8 + x6)) (gI σ (gR σ x0 0) (ix x8))) fun σ1 =>
      bn (x8 + (-1 : Int32)) fun y2 =>
      Tab_grow_p58 n σ1 x0 x1 x4 x5 x6 x7 y2)
theorem V.gX14_grow_p58 {X : CX}  : ∀ (n : Nat) (σ : HS) (x0 : Nat) (x1 : Int32) (x4 : Int32) (x5 : Int32) (x6 : Int32) (x7 : Int32) (x8 : Int32), G X RX14 "grow" cX14_grow 9 (some .int) 1 20 enI 58 [(0, av x0), (1, iv x1), (4, iv x4), (5, iv x5), (6, iv x6), (7, iv x7), (8, iv x8)] [] σ (Tab_grow_p58 n σ x0 x1 x4 x5 x6 x7 x8)
  | 0, σ, x0, x1, x4, x5, x6, x7, x8 => by rw [Tab_grow_p58]; exact G.nul
  | n + 1, σ, x0, x1, x4, x5, x6, x7, x8 => by
    rw [Tab_grow_p58]
    refine g_iload 6 dX14_grow_58 rfl ?_
    refine g_iload 5 dX14_grow_60 rfl ?_
    refine g_icmp_lt 88 dX14_grow_62 (by decide) ?_ ?_
    · refine g_iconst (v := 0) dX14_grow_88 (by decide) ?_
      refine g_istore dX14_grow_89 (by decide) rfl ?_
      refine G.sub [1, 2, 3, 4, 5, 6, 0] rfl ?_
      exact gX14_grow_p91 FU _ _ _ _ _ _ _ _
    · refine g_aload_n 0 0 dX14_grow_65 rfl rfl ?_
      refine g_getR fdX14_7 dX14_grow_66 ?_
      refine g_iload 6 dX14_grow_69 rfl ?_
      refine g_iload 4 dX14_grow_71 rfl ?_
      refine g_iadd dX14_grow_73 ?_
      refine g_aload_n 0 0 dX14_grow_74 rfl rfl ?_
      refine g_getR fdX14_7 dX14_grow_75 ?_
      refine g_iload 6 dX14_grow_78 rfl ?_
      refine g_iaload dX14_grow_80 ?_
      refine g_iastore dX14_grow_81 (fun σ1 => ?_)
      refine g_iincB (w := (-1)) 6 dX14_grow_82 rfl (by decide) (by decide) (fun _ => rfl) (fun y2 => ?_)
      refine g_goto 58 dX14_grow_85 (by decide) ?_
      refine G.sub [1, 2, 3, 4, 5, 6, 0] rfl ?_
      exact gX14_grow_p58 n _ _ _ _ _ _ _ _
def V.Tab_grow (σ : HS) (x0 : Nat) (x1 : Int32) (x2 : Int64) (x4 : Int32) : Option (Int32 × HS) :=
  ck (tg σ x0 = 15) <|
  ck (tg σ (gR σ x0 4) = 100 ∧ inb x1 (ln σ (gR σ x0 4))) <|
  bn (gI σ (gR σ x0 4) (ix x1)) fun y1 =>
  ck (tg σ x0 = 15) <|
  ck (tg σ (gR σ x0 5) = 101 ∧ inb x1 (ln σ (gR σ x0 5))) <|
  if (gJ σ (gR σ x0 5) (ix x1)) < (y1.toInt64 + x2) then (
    some ((-1 : Int32), σ))
  else (
    ck (tg σ x0 = 15) <| cl (Tab_left σ x0 ) fun r3 σ2 =>
    if x2 ≤ r3.toInt64 then (
      ck (tg σ2 x0 = 15) <|
      ck (tg σ2 (gR σ2 x0 3) = 100 ∧ inb x1 (ln σ2 (gR σ2 x0 3))) <|
      bn ((gI σ2 (gR σ2 x0 3) (ix x1)) + y1) fun y4 =>
      ck (tg σ2 x0 = 15) <|
      bn ((gI σ2 x0 1) - (1 : Int32)) fun y5 =>
      Tab_grow_p58 FU σ2 x0 x1 x4 y1 x2.toInt32 y4 y5)
    else (
      some ((-1 : Int32), σ2)))
theorem V.ctX14_grow (x0 : Nat) (x1 : Int32) (x2 : Int64) (x4 : Int32) : Ct yX14_grow  cX14_grow 9 (some .int) 1 20 eI [av x0, iv x1, jv x2, iv x4] (fun σ => Tab_grow σ x0 x1 x2 x4) := by
  refine Ct.of (own := RX14) (nm := "grow") (desc := "(IJI)I") rfl (by decide) (Nat.le_of_ble_eq_true rfl) (by decide) (fun X σ => ?_)
  show G X RX14 "grow" cX14_grow 9 (some .int) 1 20 enI 0 [(0, av x0), (1, iv x1), (2, jv x2), (4, iv x4)] [] σ (Tab_grow σ x0 x1 x2 x4)
  unfold Tab_grow
  refine g_aload_n 0 0 dX14_grow_0 rfl rfl ?_
  refine g_getR fdX14_19 dX14_grow_1 ?_
  refine g_iload_n 1 1 dX14_grow_4 rfl rfl ?_
  refine g_iaload dX14_grow_5 ?_
  refine g_nmI (fun y1 => ?_)
  refine g_istore dX14_grow_6 (by decide) rfl ?_
  refine g_iload 0 dX14_grow_8 rfl ?_
  refine g_i2l dX14_grow_10 ?_
  refine g_lload_n 2 3 dX14_grow_11 rfl rfl ?_
  refine g_ladd dX14_grow_12 ?_
  refine g_aload_n 0 1 dX14_grow_13 rfl rfl ?_
  refine g_getR fdX14_22 dX14_grow_14 ?_
  refine g_iload_n 1 2 dX14_grow_17 rfl rfl ?_
  refine g_laload dX14_grow_18 ?_
  refine g_lcmp_gt 33 dX14_grow_19 dX14_grow_20 (by decide) ?_ ?_
  · refine g_iconst (v := (-1)) dX14_grow_33 (by decide) ?_
    exact g_ireturn rfl dX14_grow_34
  · refine g_lload_n 2 3 dX14_grow_23 rfl rfl ?_
    refine g_aload_n 0 1 dX14_grow_24 rfl rfl ?_
    refine g_callV (fc := fun sς => Tab_left sς x0 ) (ci := 14) (as := []) rfl rfl rfl q2262 q2263 mdX14_33 (ctX14_left x0 ) rfl (Nat.le_of_ble_eq_true rfl) (Nat.le_of_ble_eq_true rfl) (Nat.le_of_ble_eq_true rfl) pu_I dX14_grow_25 (fun r3 σ2 => ?_)
    refine g_i2l dX14_grow_28 ?_
    refine g_lcmp_le 35 dX14_grow_29 dX14_grow_30 (by decide) ?_ ?_
    · refine g_lload_n 2 3 dX14_grow_35 rfl rfl ?_
      refine g_l2i dX14_grow_36 ?_
      refine g_istore dX14_grow_37 (by decide) rfl ?_
      refine g_aload_n 0 2 dX14_grow_39 rfl rfl ?_
      refine g_getR fdX14_16 dX14_grow_40 ?_
      refine g_iload_n 1 3 dX14_grow_43 rfl rfl ?_
      refine g_iaload dX14_grow_44 ?_
      refine g_iload 1 dX14_grow_45 rfl ?_
      refine g_iadd dX14_grow_47 ?_
      refine g_nmI (fun y4 => ?_)
      refine g_istore dX14_grow_48 (by decide) rfl ?_
      refine g_aload_n 0 3 dX14_grow_50 rfl rfl ?_
      refine g_getI fdX14_30 dX14_grow_51 ?_
      refine g_iconst (v := 1) dX14_grow_54 (by decide) ?_
      refine g_isub dX14_grow_55 ?_
      refine g_nmI (fun y5 => ?_)
      refine g_istore dX14_grow_56 (by decide) rfl ?_
      refine G.sub [4, 5, 7, 3, 2, 1, 0] rfl ?_
      exact gX14_grow_p58 FU _ _ _ _ _ _ _ _
    · refine g_iconst (v := (-1)) dX14_grow_33 (by decide) ?_
      exact g_ireturn rfl dX14_grow_34
theorem V.dX14_make_0 : decode cX14_make 0 = .ok (.aload_n 0, 1) := by decide +kernel
theorem V.dX14_make_1 : decode cX14_make 1 = .ok (.getfield 26, 3) := by decide +kernel
theorem V.dX14_make_4 : decode cX14_make 4 = .ok (.aload_n 0, 1) := by decide +kernel
theorem V.dX14_make_5 : decode cX14_make 5 = .ok (.getfield 19, 3) := by decide +kernel
theorem V.dX14_make_8 : decode cX14_make 8 = .ok (.arraylength, 1) := by decide +kernel
theorem V.dX14_make_9 : decode cX14_make 9 = .ok (.if_icmp .eq 22, 3) := by decide +kernel
theorem V.dX14_make_12 : decode cX14_make 12 = .ok (.iload_n 2, 1) := by decide +kernel
theorem V.dX14_make_13 : decode cX14_make 13 = .ok (.ifCond .lt 18, 3) := by decide +kernel
theorem V.dX14_make_16 : decode cX14_make 16 = .ok (.iload_n 2, 1) := by decide +kernel
theorem V.dX14_make_17 : decode cX14_make 17 = .ok (.i2l, 1) := by decide +kernel
theorem V.dX14_make_18 : decode cX14_make 18 = .ok (.lload_n 3, 1) := by decide +kernel
theorem V.dX14_make_19 : decode cX14_make 19 = .ok (.lcmp, 1) := by decide +kernel
theorem V.dX14_make_20 : decode cX14_make 20 = .ok (.ifCond .gt 11, 3) := by decide +kernel
theorem V.dX14_make_23 : decode cX14_make 23 = .ok (.iload_n 2, 1) := by decide +kernel
theorem V.dX14_make_24 : decode cX14_make 24 = .ok (.aload_n 0, 1) := by decide +kernel
theorem V.dX14_make_25 : decode cX14_make 25 = .ok (.invokevirtual 33, 3) := by decide +kernel
theorem V.dX14_make_28 : decode cX14_make 28 = .ok (.if_icmp .le 5, 3) := by decide +kernel
theorem V.dX14_make_31 : decode cX14_make 31 = .ok (.iconst (-1), 1) := by decide +kernel
theorem V.dX14_make_32 : decode cX14_make 32 = .ok (.ireturn, 1) := by decide +kernel
theorem V.dX14_make_33 : decode cX14_make 33 = .ok (.aload_n 0, 1) := by decide +kernel
theorem V.dX14_make_34 : decode cX14_make 34 = .ok (.getfield 13, 3) := by decide +kernel
theorem V.dX14_make_37 : decode cX14_make 37 = .ok (.aload_n 0, 1) := by decide +kernel
theorem V.dX14_make_38 : decode cX14_make 38 = .ok (.getfield 26, 3) := by decide +kernel
theorem V.dX14_make_41 : decode cX14_make 41 = .ok (.iload_n 1, 1) := by decide +kernel
theorem V.dX14_make_42 : decode cX14_make 42 = .ok (.iastore, 1) := by decide +kernel
theorem V.dX14_make_43 : decode cX14_make 43 = .ok (.aload_n 0, 1) := by decide +kernel
theorem V.dX14_make_44 : decode cX14_make 44 = .ok (.getfield 16, 3) := by decide +kernel
theorem V.dX14_make_47 : decode cX14_make 47 = .ok (.aload_n 0, 1) := by decide +kernel
theorem V.dX14_make_48 : decode cX14_make 48 = .ok (.getfield 26, 3) := by decide +kernel
theorem V.dX14_make_51 : decode cX14_make 51 = .ok (.aload_n 0, 1) := by decide +kernel
theorem V.dX14_make_52 : decode cX14_make 52 = .ok (.getfield 30, 3) := by decide +kernel
theorem V.dX14_make_55 : decode cX14_make 55 = .ok (.iastore, 1) := by decide +kernel
theorem V.dX14_make_56 : decode cX14_make 56 = .ok (.aload_n 0, 1) := by decide +kernel
theorem V.dX14_make_57 : decode cX14_make 57 = .ok (.getfield 19, 3) := by decide +kernel
theorem V.dX14_make_60 : decode cX14_make 60 = .ok (.aload_n 0, 1) := by decide +kernel
theorem V.dX14_make_61 : decode cX14_make 61 = .ok (.getfield 26, 3) := by decide +kernel
theorem V.dX14_make_64 : decode cX14_make 64 = .ok (.iconst 0, 1) := by decide +kernel
theorem V.dX14_make_65 : decode cX14_make 65 = .ok (.iastore, 1) := by decide +kernel
theorem V.dX14_make_66 : decode cX14_make 66 = .ok (.aload_n 0, 1) := by decide +kernel
theorem V.dX14_make_67 : decode cX14_make 67 = .ok (.getfield 22, 3) := by decide +kernel
theorem V.dX14_make_70 : decode cX14_make 70 = .ok (.aload_n 0, 1) := by decide +kernel
theorem V.dX14_make_71 : decode cX14_make 71 = .ok (.getfield 26, 3) := by decide +kernel
theorem V.dX14_make_74 : decode cX14_make 74 = .ok (.lload_n 3, 1) := by decide +kernel
theorem V.dX14_make_75 : decode cX14_make 75 = .ok (.lastore, 1) := by decide +kernel
theorem V.dX14_make_76 : decode cX14_make 76 = .ok (.aload_n 0, 1) := by decide +kernel
theorem V.dX14_make_77 : decode cX14_make 77 = .ok (.dup, 1) := by decide +kernel
theorem V.dX14_make_78 : decode cX14_make 78 = .ok (.getfield 26, 3) := by decide +kernel
theorem V.dX14_make_81 : decode cX14_make 81 = .ok (.iconst 1, 1) := by decide +kernel
theorem V.dX14_make_82 : decode cX14_make 82 = .ok (.iadd, 1) := by decide +kernel
theorem V.dX14_make_83 : decode cX14_make 83 = .ok (.putfield 26, 3) := by decide +kernel
theorem V.dX14_make_86 : decode cX14_make 86 = .ok (.aload_n 0, 1) := by decide +kernel
theorem V.dX14_make_87 : decode cX14_make 87 = .ok (.aload_n 0, 1) := by decide +kernel
theorem V.dX14_make_88 : decode cX14_make 88 = .ok (.getfield 26, 3) := by decide +kernel
theorem V.dX14_make_91 : decode cX14_make 91 = .ok (.iconst 1, 1) := by decide +kernel
theorem V.dX14_make_92 : decode cX14_make 92 = .ok (.isub, 1) := by decide +kernel
theorem V.dX14_make_93 : decode cX14_make 93 = .ok (.iload_n 2, 1) := by decide +kernel
theorem V.dX14_make_94 : decode cX14_make 94 = .ok (.i2l, 1) := by decide +kernel
theorem V.dX14_make_95 : decode cX14_make 95 = .ok (.iconst (-1), 1) := by decide +kernel
theorem V.dX14_make_96 : decode cX14_make 96 = .ok (.invokevirtual 37, 3) := by decide +kernel
theorem V.dX14_make_99 : decode cX14_make 99 = .ok (.pop, 1) := by decide +kernel
theorem V.dX14_make_100 : decode cX14_make 100 = .ok (.aload_n 0, 1) := by decide +kernel
theorem V.dX14_make_101 : decode cX14_make 101 = .ok (.getfield 26, 3) := by decide +kernel
theorem V.dX14_make_104 : decode cX14_make 104 = .ok (.iconst 1, 1) := by decide +kernel
theorem V.dX14_make_105 : decode cX14_make 105 = .ok (.isub, 1) := by decide +kernel
theorem V.dX14_make_106 : decode cX14_make 106 = .ok (.ireturn, 1) := by decide +kernel
theorem V.fpX14_26 {nm : String} : FP RX14 nm 26 14 6 (.int) := ⟨(RX14, TX14, 7), tyX14, rfl, rfl, in_X14, by decide, tyX14_ok, nmX14, rfl, Or.inl ⟨rfl, Or.inl q964⟩⟩
theorem V.mdX14_37 : MD RX14 37 yX14_grow cX14_grow 9 (some .int) 3 := ⟨Or.inl q2287, q374, q2290, by decide, by decide, by decide +kernel⟩
/-! ModuleEngine$Tables.make(IIJ)I -/
def V.Tab_make (σ : HS) (x0 : Nat) (x1 : Int32) (x2 : Int32) (x3 : Int64) : Option (Int32 × HS) :=
  ck (tg σ x0 = 15) <|
  ck (tg σ x0 = 15) <|
  ck (tg σ (gR σ x0 4) = 100) <|
  if (gI σ x0 6) = (nI (ln σ (gR σ x0 4))) then (
    some ((-1 : Int32), σ))
  else (
    if x2 < 0 then (
      some ((-1 : Int32), σ))
    else (
      if x3 < x2.toInt64 then (
        some ((-1 : Int32), σ))
      else (
        ck (tg σ x0 = 15) <| cl (Tab_left σ x0 ) fun r2 σ1 =>
        if x2 ≤ r2 then (
          ck (tg σ1 x0 = 15) <|
          ck (tg σ1 x0 = 15) <|
          ck (tg σ1 (gR σ1 x0 2) = 100 ∧ inb (gI σ1 x0 6) (ln σ1 (gR σ1 x0 2))) <| bn (sI σ1 (gR σ1 x0 2) (ix (gI σ1 x0 6)) x1) fun σ3 =>
          ck (tg σ3 x0 = 15) <|
          ck (tg σ3 x0 = 15) <|
          ck (tg σ3 x0 = 15) <|
          ck (tg σ3 (gR σ3 x0 3) = 100 ∧ inb (gI σ3 x0 6) (ln σ3 (gR σ3 x0 3))) <| bn (sI σ3 (gR σ3 x0 3) (ix (gI σ3 x0 6)) (gI σ3 x0 1)) fun σ4 =>
          ck (tg σ4 x0 = 15) <|
          ck (tg σ4 x0 = 15) <|
          ck (tg σ4 (gR σ4 x0 4) = 100 ∧ inb (gI σ4 x0 6) (ln σ4 (gR σ4 x0 4))) <| bn (sI σ4 (gR σ4 x0 4) (ix (gI σ4 x0 6)) (0 : Int32)) fun σ5 =>
          ck (tg σ5 x0 = 15) <|
          ck (tg σ5 x0 = 15) <|
          ck (tg σ5 (gR σ5 x0 5) = 101 ∧ inb (gI σ5 x0 6) (ln σ5 (gR σ5 x0 5))) <| bn (sJ σ5 (gR σ5 x0 5) (ix (gI σ5 x0 6)) x3) fun σ6 =>
          ck (tg σ6 x0 = 15) <|
          ck (tg σ6 x0 = 15) <| bn (sI σ6 x0 6 ((gI σ6 x0 6) + (1 : Int32))) fun σ7 =>
          ck (tg σ7 x0 = 15) <|
          ck (tg σ7 x0 = 15) <| cl (Tab_grow σ7 x0 ((gI σ7 x0 6) - (1 : Int32)) x2.toInt64 (-1 : Int32)) fun r9 σ8 =>
          ck (tg σ8 x0 = 15) <|
          some ((gI σ8 x0 6) - (1 : Int32), σ8))
        else (
          some ((-1 : Int32), σ1)))))
theorem V.ctX14_make (x0 : Nat) (x1 : Int32) (x2 : Int32) (x3 : Int64) : Ct yX14_make  cX14_make 5 (some .int) 2 48 eI [av x0, iv x1, iv x2, jv x3] (fun σ => Tab_make σ x0 x1 x2 x3) := by
  refine Ct.of (own := RX14) (nm := "make") (desc := "(IIJ)I") rfl (by decide) (Nat.le_of_ble_eq_true rfl) (by decide) (fun X σ => ?_)
  show G X RX14 "make" cX14_make 5 (some .int) 2 48 enI 0 [(0, av x0), (1, iv x1), (2, iv x2), (3, jv x3)] [] σ (Tab_make σ x0 x1 x2 x3)
  unfold Tab_make
  refine g_aload_n 0 0 dX14_make_0 rfl rfl ?_
  refine g_getI fdX14_26 dX14_make_1 ?_
  refine g_aload_n 0 0 dX14_make_4 rfl rfl ?_
  refine g_getR fdX14_19 dX14_make_5 ?_
  refine g_alen 0 rfl dX14_make_8 ?_
  refine g_icmp_eq 31 dX14_make_9 (by decide) ?_ ?_
  · refine g_iconst (v := (-1)) dX14_make_31 (by decide) ?_
    exact g_ireturn rfl dX14_make_32
  · refine g_iload_n 2 2 dX14_make_12 rfl rfl ?_
    refine g_if_lt 31 dX14_make_13 (by decide) ?_ ?_
    · refine g_iconst (v := (-1)) dX14_make_31 (by decide) ?_
      exact g_ireturn rfl dX14_make_32
    · refine g_iload_n 2 2 dX14_make_16 rfl rfl ?_
      refine g_i2l dX14_make_17 ?_
      refine g_lload_n 3 3 dX14_make_18 rfl rfl ?_
      refine g_lcmp_gt 31 dX14_make_19 dX14_make_20 (by decide) ?_ ?_
      · refine g_iconst (v := (-1)) dX14_make_31 (by decide) ?_
        exact g_ireturn rfl dX14_make_32
      · refine g_iload_n 2 2 dX14_make_23 rfl rfl ?_
        refine g_aload_n 0 0 dX14_make_24 rfl rfl ?_
        refine g_callV (fc := fun sς => Tab_left sς x0 ) (ci := 14) (as := []) rfl rfl rfl q2262 q2263 mdX14_33 (ctX14_left x0 ) rfl (Nat.le_of_ble_eq_true rfl) (Nat.le_of_ble_eq_true rfl) (Nat.le_of_ble_eq_true rfl) pu_I dX14_make_25 (fun r2 σ1 => ?_)
        refine g_icmp_le 33 dX14_make_28 (by decide) ?_ ?_
        · refine g_aload_n 0 0 dX14_make_33 rfl rfl ?_
          refine g_getR fdX14_13 dX14_make_34 ?_
          refine g_aload_n 0 0 dX14_make_37 rfl rfl ?_
          refine g_getI fdX14_26 dX14_make_38 ?_
          refine g_iload_n 1 1 dX14_make_41 rfl rfl ?_
          refine g_iastore dX14_make_42 (fun σ3 => ?_)
          refine g_aload_n 0 0 dX14_make_43 rfl rfl ?_
          refine g_getR fdX14_16 dX14_make_44 ?_
          refine g_aload_n 0 0 dX14_make_47 rfl rfl ?_
          refine g_getI fdX14_26 dX14_make_48 ?_
          refine g_aload_n 0 0 dX14_make_51 rfl rfl ?_
          refine g_getI fdX14_30 dX14_make_52 ?_
          refine g_iastore dX14_make_55 (fun σ4 => ?_)
          refine g_aload_n 0 0 dX14_make_56 rfl rfl ?_
          refine g_getR fdX14_19 dX14_make_57 ?_
          refine g_aload_n 0 0 dX14_make_60 rfl rfl ?_
          refine g_getI fdX14_26 dX14_make_61 ?_
          refine g_iconst (v := 0) dX14_make_64 (by decide) ?_
          refine g_iastore dX14_make_65 (fun σ5 => ?_)
          refine g_aload_n 0 0 dX14_make_66 rfl rfl ?_
          refine g_getR fdX14_22 dX14_make_67 ?_
          refine g_aload_n 0 0 dX14_make_70 rfl rfl ?_
          refine g_getI fdX14_26 dX14_make_71 ?_
          refine g_lload_n 3 3 dX14_make_74 rfl rfl ?_
          refine g_lastore dX14_make_75 (fun σ6 => ?_)
          refine g_aload_n 0 0 dX14_make_76 rfl rfl ?_
          refine g_dup dX14_make_77 rfl ?_
          refine g_getI fdX14_26 dX14_make_78 ?_
          refine g_iconst (v := 1) dX14_make_81 (by decide) ?_
          refine g_iadd dX14_make_82 ?_
          refine g_putI fpX14_26 dX14_make_83 (fun σ7 => ?_)
          refine g_aload_n 0 0 dX14_make_86 rfl rfl ?_
          refine g_aload_n 0 0 dX14_make_87 rfl rfl ?_
          refine g_getI fdX14_26 dX14_make_88 ?_
          refine g_iconst (v := 1) dX14_make_91 (by decide) ?_
          refine g_isub dX14_make_92 ?_
          refine g_iload_n 2 2 dX14_make_93 rfl rfl ?_
          refine g_i2l dX14_make_94 ?_
          refine g_iconst (v := (-1)) dX14_make_95 (by decide) ?_
          refine g_callV (fc := fun sς => Tab_grow sς x0 ((gI σ7 x0 6) - (1 : Int32)) x2.toInt64 (-1 : Int32)) (ci := 14) (as := [iv ((gI σ7 x0 6) - (1 : Int32)), jv x2.toInt64, iv (-1 : Int32)]) rfl rfl rfl q2288 q2289 mdX14_37 (ctX14_grow x0 ((gI σ7 x0 6) - (1 : Int32)) x2.toInt64 (-1 : Int32)) rfl (Nat.le_of_ble_eq_true rfl) (Nat.le_of_ble_eq_true rfl) (Nat.le_of_ble_eq_true rfl) pu_I dX14_make_96 (fun r9 σ8 => ?_)
          refine g_pop dX14_make_99 rfl ?_
          refine g_aload_n 0 0 dX14_make_100 rfl rfl ?_
          refine g_getI fdX14_26 dX14_make_101 ?_
          refine g_iconst (v := 1) dX14_make_104 (by decide) ?_
          refine g_isub dX14_make_105 ?_
          exact g_ireturn rfl dX14_make_106
        · refine g_iconst (v := (-1)) dX14_make_31 (by decide) ?_
          exact g_ireturn rfl dX14_make_32
theorem V.dX14_put_0 : decode cX14_put 0 = .ok (.aload_n 0, 1) := by decide +kernel
theorem V.dX14_put_1 : decode cX14_put 1 = .ok (.getfield 7, 3) := by decide +kernel
theorem V.dX14_put_4 : decode cX14_put 4 = .ok (.aload_n 0, 1) := by decide +kernel
theorem V.dX14_put_5 : decode cX14_put 5 = .ok (.getfield 16, 3) := by decide +kernel
theorem V.dX14_put_8 : decode cX14_put 8 = .ok (.iload_n 1, 1) := by decide +kernel
theorem V.dX14_put_9 : decode cX14_put 9 = .ok (.iaload, 1) := by decide +kernel
theorem V.dX14_put_10 : decode cX14_put 10 = .ok (.lload_n 2, 1) := by decide +kernel
theorem V.dX14_put_11 : decode cX14_put 11 = .ok (.l2i, 1) := by decide +kernel
theorem V.dX14_put_12 : decode cX14_put 12 = .ok (.iadd, 1) := by decide +kernel
theorem V.dX14_put_13 : decode cX14_put 13 = .ok (.iload 4, 2) := by decide +kernel
theorem V.dX14_put_15 : decode cX14_put 15 = .ok (.iastore, 1) := by decide +kernel
theorem V.dX14_put_16 : decode cX14_put 16 = .ok (.return_, 1) := by decide +kernel
/-! ModuleEngine$Tables.put(IJI)V -/
def V.Tab_put (σ : HS) (x0 : Nat) (x1 : Int32) (x2 : Int64) (x4 : Int32) : Option (Unit × HS) :=
  ck (tg σ x0 = 15) <|
  ck (tg σ x0 = 15) <|
  ck (tg σ (gR σ x0 3) = 100 ∧ inb x1 (ln σ (gR σ x0 3))) <|
  ck (tg σ (gR σ x0 0) = 100 ∧ inb ((gI σ (gR σ x0 3) (ix x1)) + x2.toInt32) (ln σ (gR σ x0 0))) <| bn (sI σ (gR σ x0 0) (ix ((gI σ (gR σ x0 3) (ix x1)) + x2.toInt32)) x4) fun σ1 =>
  some ((), σ1)
theorem V.ctX14_put (x0 : Nat) (x1 : Int32) (x2 : Int64) (x4 : Int32) : Ct yX14_put  cX14_put 5 none 0 0 eV [av x0, iv x1, jv x2, iv x4] (fun σ => Tab_put σ x0 x1 x2 x4) := by
  refine Ct.of (own := RX14) (nm := "put") (desc := "(IJI)V") rfl (by decide) (Nat.le_of_ble_eq_true rfl) (by decide) (fun X σ => ?_)
  show G X RX14 "put" cX14_put 5 none 0 0 enV 0 [(0, av x0), (1, iv x1), (2, jv x2), (4, iv x4)] [] σ (Tab_put σ x0 x1 x2 x4)
  unfold Tab_put
  refine g_aload_n 0 0 dX14_put_0 rfl rfl ?_
  refine g_getR fdX14_7 dX14_put_1 ?_
  refine g_aload_n 0 0 dX14_put_4 rfl rfl ?_
  refine g_getR fdX14_16 dX14_put_5 ?_
  refine g_iload_n 1 1 dX14_put_8 rfl rfl ?_
  refine g_iaload dX14_put_9 ?_
  refine g_lload_n 2 2 dX14_put_10 rfl rfl ?_
  refine g_l2i dX14_put_11 ?_
  refine g_iadd dX14_put_12 ?_
  refine g_iload 3 dX14_put_13 rfl ?_
  refine g_iastore dX14_put_15 (fun σ1 => ?_)
  exact g_return rfl dX14_put_16
theorem V.dX14_get_0 : decode cX14_get 0 = .ok (.aload_n 0, 1) := by decide +kernel
theorem V.dX14_get_1 : decode cX14_get 1 = .ok (.getfield 7, 3) := by decide +kernel
theorem V.dX14_get_4 : decode cX14_get 4 = .ok (.aload_n 0, 1) := by decide +kernel
theorem V.dX14_get_5 : decode cX14_get 5 = .ok (.getfield 16, 3) := by decide +kernel
theorem V.dX14_get_8 : decode cX14_get 8 = .ok (.iload_n 1, 1) := by decide +kernel
theorem V.dX14_get_9 : decode cX14_get 9 = .ok (.iaload, 1) := by decide +kernel
theorem V.dX14_get_10 : decode cX14_get 10 = .ok (.lload_n 2, 1) := by decide +kernel
theorem V.dX14_get_11 : decode cX14_get 11 = .ok (.l2i, 1) := by decide +kernel
theorem V.dX14_get_12 : decode cX14_get 12 = .ok (.iadd, 1) := by decide +kernel
theorem V.dX14_get_13 : decode cX14_get 13 = .ok (.iaload, 1) := by decide +kernel
theorem V.dX14_get_14 : decode cX14_get 14 = .ok (.ireturn, 1) := by decide +kernel
/-! ModuleEngine$Tables.get(IJ)I -/
def V.Tab_get (σ : HS) (x0 : Nat) (x1 : Int32) (x2 : Int64) : Option (Int32 × HS) :=
  ck (tg σ x0 = 15) <|
  ck (tg σ x0 = 15) <|
  ck (tg σ (gR σ x0 3) = 100 ∧ inb x1 (ln σ (gR σ x0 3))) <|
  ck (tg σ (gR σ x0 0) = 100 ∧ inb ((gI σ (gR σ x0 3) (ix x1)) + x2.toInt32) (ln σ (gR σ x0 0))) <|
  some (gI σ (gR σ x0 0) (ix ((gI σ (gR σ x0 3) (ix x1)) + x2.toInt32)), σ)
theorem V.ctX14_get (x0 : Nat) (x1 : Int32) (x2 : Int64) : Ct yX14_get  cX14_get 4 (some .int) 0 0 eI [av x0, iv x1, jv x2] (fun σ => Tab_get σ x0 x1 x2) := by
  refine Ct.of (own := RX14) (nm := "get") (desc := "(IJ)I") rfl (by decide) (Nat.le_of_ble_eq_true rfl) (by decide) (fun X σ => ?_)
  show G X RX14 "get" cX14_get 4 (some .int) 0 0 enI 0 [(0, av x0), (1, iv x1), (2, jv x2)] [] σ (Tab_get σ x0 x1 x2)
  unfold Tab_get
  refine g_aload_n 0 0 dX14_get_0 rfl rfl ?_
  refine g_getR fdX14_7 dX14_get_1 ?_
  refine g_aload_n 0 0 dX14_get_4 rfl rfl ?_
  refine g_getR fdX14_16 dX14_get_5 ?_
  refine g_iload_n 1 1 dX14_get_8 rfl rfl ?_
  refine g_iaload dX14_get_9 ?_
  refine g_lload_n 2 2 dX14_get_10 rfl rfl ?_
  refine g_l2i dX14_get_11 ?_
  refine g_iadd dX14_get_12 ?_
  refine g_iaload dX14_get_13 ?_
  exact g_ireturn rfl dX14_get_14
theorem V.dX14_move_0 : decode cX14_move 0 = .ok (.iload_n 1, 1) := by decide +kernel
theorem V.dX14_move_1 : decode cX14_move 1 = .ok (.iload_n 2, 1) := by decide +kernel
theorem V.dX14_move_2 : decode cX14_move 2 = .ok (.if_icmp .ne 10, 3) := by decide +kernel
theorem V.dX14_move_5 : decode cX14_move 5 = .ok (.lload_n 3, 1) := by decide +kernel
theorem V.dX14_move_6 : decode cX14_move 6 = .ok (.lload 5, 2) := by decide +kernel
theorem V.dX14_move_8 : decode cX14_move 8 = .ok (.lcmp, 1) := by decide +kernel
theorem V.dX14_move_9 : decode cX14_move 9 = .ok (.ifCond .gt 7, 3) := by decide +kernel
theorem V.dX14_move_12 : decode cX14_move 12 = .ok (.iconst 1, 1) := by decide +kernel
theorem V.dX14_move_13 : decode cX14_move 13 = .ok (.goto 4, 3) := by decide +kernel
theorem V.dX14_move_16 : decode cX14_move 16 = .ok (.iconst 0, 1) := by decide +kernel
theorem V.dX14_move_17 : decode cX14_move 17 = .ok (.istore 9, 2) := by decide +kernel
theorem V.dX14_move_19 : decode cX14_move 19 = .ok (.lconst 0, 1) := by decide +kernel
theorem V.dX14_move_20 : decode cX14_move 20 = .ok (.lstore 10, 2) := by decide +kernel
theorem V.dX14_move_22 : decode cX14_move 22 = .ok (.lload 10, 2) := by decide +kernel
theorem V.dX14_move_24 : decode cX14_move 24 = .ok (.lload 7, 2) := by decide +kernel
theorem V.dX14_move_26 : decode cX14_move 26 = .ok (.lcmp, 1) := by decide +kernel
theorem V.dX14_move_27 : decode cX14_move 27 = .ok (.ifCond .ge 50, 3) := by decide +kernel
theorem V.dX14_move_30 : decode cX14_move 30 = .ok (.iload 9, 2) := by decide +kernel
theorem V.dX14_move_32 : decode cX14_move 32 = .ok (.ifCond .eq 8, 3) := by decide +kernel
theorem V.dX14_move_35 : decode cX14_move 35 = .ok (.lload 10, 2) := by decide +kernel
theorem V.dX14_move_37 : decode cX14_move 37 = .ok (.goto 10, 3) := by decide +kernel
theorem V.dX14_move_40 : decode cX14_move 40 = .ok (.lload 7, 2) := by decide +kernel
theorem V.dX14_move_42 : decode cX14_move 42 = .ok (.lconst 1, 1) := by decide +kernel
theorem V.dX14_move_43 : decode cX14_move 43 = .ok (.lsub, 1) := by decide +kernel
theorem V.dX14_move_44 : decode cX14_move 44 = .ok (.lload 10, 2) := by decide +kernel
theorem V.dX14_move_46 : decode cX14_move 46 = .ok (.lsub, 1) := by decide +kernel
theorem V.dX14_move_47 : decode cX14_move 47 = .ok (.lstore 12, 2) := by decide +kernel
theorem V.dX14_move_49 : decode cX14_move 49 = .ok (.aload_n 0, 1) := by decide +kernel
theorem V.dX14_move_50 : decode cX14_move 50 = .ok (.iload_n 1, 1) := by decide +kernel
theorem V.dX14_move_51 : decode cX14_move 51 = .ok (.lload_n 3, 1) := by decide +kernel
theorem V.dX14_move_52 : decode cX14_move 52 = .ok (.lload 12, 2) := by decide +kernel
theorem V.dX14_move_54 : decode cX14_move 54 = .ok (.ladd, 1) := by decide +kernel
theorem V.dX14_move_55 : decode cX14_move 55 = .ok (.aload_n 0, 1) := by decide +kernel
theorem V.dX14_move_56 : decode cX14_move 56 = .ok (.iload_n 2, 1) := by decide +kernel
theorem V.dX14_move_57 : decode cX14_move 57 = .ok (.lload 5, 2) := by decide +kernel
theorem V.dX14_move_59 : decode cX14_move 59 = .ok (.lload 12, 2) := by decide +kernel
theorem V.dX14_move_61 : decode cX14_move 61 = .ok (.ladd, 1) := by decide +kernel
theorem V.dX14_move_62 : decode cX14_move 62 = .ok (.invokevirtual 41, 3) := by decide +kernel
theorem V.dX14_move_65 : decode cX14_move 65 = .ok (.invokevirtual 45, 3) := by decide +kernel
theorem V.dX14_move_68 : decode cX14_move 68 = .ok (.lload 10, 2) := by decide +kernel
theorem V.dX14_move_70 : decode cX14_move 70 = .ok (.lconst 1, 1) := by decide +kernel
theorem V.dX14_move_71 : decode cX14_move 71 = .ok (.ladd, 1) := by decide +kernel
theorem V.dX14_move_72 : decode cX14_move 72 = .ok (.lstore 10, 2) := by decide +kernel
theorem V.dX14_move_74 : decode cX14_move 74 = .ok (.goto (-52), 3) := by decide +kernel
theorem V.dX14_move_77 : decode cX14_move 77 = .ok (.return_, 1) := by decide +kernel
theorem V.mdX14_41 : MD RX14 41 yX14_get cX14_get 4 (some .int) 2 := ⟨Or.inl q2802, q374, q2742, by decide, by decide, by decide +kernel⟩
theorem V.mdX14_45 : MD RX14 45 yX14_put cX14_put 5 none 3 := ⟨Or.inl q2803, q374, q2329, by decide, by decide, by decide +kernel⟩
/-! ModuleEngine$Tables.move(IIJJJ)V -/
def V.Tab_move_p47 (rec22 : HS → Nat → Int32 → Int32 → Int64 → Int64 → Int64 → Int32 → Int64 → Option (Unit × HS)) (σ : HS) (x0 : Nat) (x1 : Int32) (x2 : Int32) (x3 : Int64) (x5 : Int64) (x7 : Int64) (x9 : Int32) (x10 : Int64) (s0 : Int64) : Option (Unit × HS) :=
  ck (tg σ x0 = 15) <| cl (Tab_get σ x0 x2 (x5 + s0)) fun r2 σ1 =>
  ck (tg σ1 x0 = 15) <| cl (Tab_put σ1 x0 x1 (x3 + s0) r2) fun _ σ3 =>
  bn (x10 + (1 : Int64)) fun y4 =>
  rec22 σ3 x0 x1 x2 x3 x5 x7 x9 y4
theorem V.gX14_move_p47 {X : CX} (rec22 : HS → Nat → Int32 → Int32 → Int64 → Int64 → Int64 → Int32 → Int64 → Option (Unit × HS)) (hrec22 : ∀ (σ : HS) (x0 : Nat) (x1 : Int32) (x2 : Int32) (x3 : Int64) (x5 : Int64) (x7 : Int64) (x9 : Int32) (x10 : Int64), G X RX14 "move" cX14_move 14 none 1 24 enV 22 [(0, av x0), (1, iv x1), (2, iv x2), (3, jv x3), (5, jv x5), (7, jv x7), (9, iv x9), (10, jv x10)] [] σ (rec22 σ x0 x1 x2 x3 x5 x7 x9 x10)) (σ : HS) (x0 : Nat) (x1 : Int32) (x2 : Int32) (x3 : Int64) (x5 : Int64) (x7 : Int64) (x9 : Int32) (x10 : Int64) (s0 : Int64) : G X RX14 "move" cX14_move 14 none 1 24 enV 47 [(0, av x0), (1, iv x1), (2, iv x2), (3, jv x3), (5, jv x5), (7, jv x7), (9, iv x9), (10, jv x10)] [jv s0] σ (Tab_move_p47 rec22 σ x0 x1 x2 x3 x5 x7 x9 x10 s0) := by
  unfold Tab_move_p47
  refine g_lstore dX14_move_47 (by decide) rfl ?_
  refine g_aload_n 0 1 dX14_move_49 rfl rfl ?_
  refine g_iload_n 1 2 dX14_move_50 rfl rfl ?_
  refine g_lload_n 3 4 dX14_move_51 rfl rfl ?_
  refine g_lload 0 dX14_move_52 rfl ?_
  refine g_ladd dX14_move_54 ?_
  refine g_aload_n 0 1 dX14_move_55 rfl rfl ?_
  refine g_iload_n 2 3 dX14_move_56 rfl rfl ?_
  refine g_lload 5 dX14_move_57 rfl ?_
  refine g_lload 0 dX14_move_59 rfl ?_
  refine g_ladd dX14_move_61 ?_
  refine g_callV (fc := fun sς => Tab_get sς x0 x2 (x5 + s0)) (ci := 14) (as := [iv x2, jv (x5 + s0)]) rfl rfl rfl q2740 q2741 mdX14_41 (ctX14_get x0 x2 (x5 + s0)) rfl (Nat.le_of_ble_eq_true rfl) (Nat.le_of_ble_eq_true rfl) (Nat.le_of_ble_eq_true rfl) pu_I dX14_move_62 (fun r2 σ1 => ?_)
  refine g_callV (fc := fun sς => Tab_put sς x0 x1 (x3 + s0) r2) (ci := 14) (as := [iv x1, jv (x3 + s0), iv r2]) rfl rfl rfl q2327 q2328 mdX14_45 (ctX14_put x0 x1 (x3 + s0) r2) rfl (Nat.le_of_ble_eq_true rfl) (Nat.le_of_ble_eq_true rfl) (Nat.le_of_ble_eq_true rfl) pu_V dX14_move_65 (fun _ σ3 => ?_)
  refine g_lload 8 dX14_move_68 rfl ?_
  refine g_lconst (v := 1) dX14_move_70 (by decide) ?_
  refine g_ladd dX14_move_71 ?_
  refine g_nmJ (fun y4 => ?_)
  refine g_lstore dX14_move_72 (by decide) rfl ?_
  refine g_goto 22 dX14_move_74 (by decide) ?_
  refine G.sub [2, 3, 4, 5, 6, 7, 8, 0] rfl ?_
  exact hrec22 _ _ _ _ _ _ _ _ _
def V.Tab_move_p22  : Nat → HS → Nat → Int32 → Int32 → Int64 → Int64 → Int64 → Int32 → Int64 → Option (Unit × HS)
  | 0, _, _, _, _, _, _, _, _, _ => none
  | n + 1, σ, x0, x1, x2, x3, x5, x7, x9, x10 =>
    if x7 ≤ x10 then (
      some ((), σ))
    else (
      if x9 = 0 then (
        Tab_move_p47 (Tab_move_p22 n) σ x0 x1 x2 x3 x5 x7 x9 x10 ((x7 - (1 : Int64)) - x10))
      else (
        Tab_move_p47 (Tab_move_p22 n) σ x0 x1 x2 x3 x5 x7 x9 x10 x10))
theorem V.gX14_move_p22 {X : CX}  : ∀ (n : Nat) (σ : HS) (x0 : Nat) (x1 : Int32) (x2 : Int32) (x3 : Int64) (x5 : Int64) (x7 : Int64) (x9 : Int32) (x10 : Int64), G X RX14 "move" cX14_move 14 none 1 24 enV 22 [(0, av x0), (1, iv x1), (2, iv x2), (3, jv x3), (5, jv x5), (7, jv x7), (9, iv x9), (10, jv x10)] [] σ (Tab_move_p22 n σ x0 x1 x2 x3 x5 x7 x9 x10)
  | 0, σ, x0, x1, x2, x3, x5, x7, x9, x10 => by rw [Tab_move_p22]; exact G.nul
  | n + 1, σ, x0, x1, x2, x3, x5, x7, x9, x10 => by
    rw [Tab_move_p22]
    refine g_lload 7 dX14_move_22 rfl ?_
    refine g_lload 5 dX14_move_24 rfl ?_
    refine g_lcmp_ge 77 dX14_move_26 dX14_move_27 (by decide) ?_ ?_
    · exact g_return rfl dX14_move_77
    · refine g_iload 6 dX14_move_30 rfl ?_
      refine g_if_eq 40 dX14_move_32 (by decide) ?_ ?_
      · refine g_lload 5 dX14_move_40 rfl ?_
        refine g_lconst (v := 1) dX14_move_42 (by decide) ?_
        refine g_lsub dX14_move_43 ?_
        refine g_lload 7 dX14_move_44 rfl ?_
        refine g_lsub dX14_move_46 ?_
        exact gX14_move_p47 (Tab_move_p22 n) (gX14_move_p22 n) _ _ _ _ _ _ _ _ _ _
      · refine g_lload 7 dX14_move_35 rfl ?_
        refine g_goto 47 dX14_move_37 (by decide) ?_
        exact gX14_move_p47 (Tab_move_p22 n) (gX14_move_p22 n) _ _ _ _ _ _ _ _ _ _
def V.Tab_move_p17  (σ : HS) (x0 : Nat) (x1 : Int32) (x2 : Int32) (x3 : Int64) (x5 : Int64) (x7 : Int64) (s0 : Int32) : Option (Unit × HS) :=
  Tab_move_p22 FU σ x0 x1 x2 x3 x5 x7 s0 (0 : Int64)
theorem V.gX14_move_p17 {X : CX}  (σ : HS) (x0 : Nat) (x1 : Int32) (x2 : Int32) (x3 : Int64) (x5 : Int64) (x7 : Int64) (s0 : Int32) : G X RX14 "move" cX14_move 14 none 1 24 enV 17 [(0, av x0), (1, iv x1), (2, iv x2), (3, jv x3), (5, jv x5), (7, jv x7)] [iv s0] σ (Tab_move_p17 σ x0 x1 x2 x3 x5 x7 s0) := by
  unfold Tab_move_p17
  refine g_istore dX14_move_17 (by decide) rfl ?_
  refine g_lconst (v := 0) dX14_move_19 (by decide) ?_
  refine g_lstore dX14_move_20 (by decide) rfl ?_
  refine G.sub [2, 3, 4, 5, 6, 7, 1, 0] rfl ?_
  exact gX14_move_p22 FU _ _ _ _ _ _ _ _ _
def V.Tab_move_p12  (σ : HS) (x0 : Nat) (x1 : Int32) (x2 : Int32) (x3 : Int64) (x5 : Int64) (x7 : Int64) : Option (Unit × HS) :=
  Tab_move_p17 σ x0 x1 x2 x3 x5 x7 (1 : Int32)
theorem V.gX14_move_p12 {X : CX}  (σ : HS) (x0 : Nat) (x1 : Int32) (x2 : Int32) (x3 : Int64) (x5 : Int64) (x7 : Int64) : G X RX14 "move" cX14_move 14 none 1 24 enV 12 [(0, av x0), (1, iv x1), (2, iv x2), (3, jv x3), (5, jv x5), (7, jv x7)] [] σ (Tab_move_p12 σ x0 x1 x2 x3 x5 x7) := by
  unfold Tab_move_p12
  refine g_iconst (v := 1) dX14_move_12 (by decide) ?_
  refine g_goto 17 dX14_move_13 (by decide) ?_
  exact gX14_move_p17 _ _ _ _ _ _ _ _
def V.Tab_move (σ : HS) (x0 : Nat) (x1 : Int32) (x2 : Int32) (x3 : Int64) (x5 : Int64) (x7 : Int64) : Option (Unit × HS) :=
  if x1 = x2 then (
    if x5 < x3 then (
      Tab_move_p17 σ x0 x1 x2 x3 x5 x7 (0 : Int32))
    else (
      Tab_move_p12 σ x0 x1 x2 x3 x5 x7))
  else (
    Tab_move_p12 σ x0 x1 x2 x3 x5 x7)
theorem V.ctX14_move (x0 : Nat) (x1 : Int32) (x2 : Int32) (x3 : Int64) (x5 : Int64) (x7 : Int64) : Ct yX14_move  cX14_move 14 none 1 24 eV [av x0, iv x1, iv x2, jv x3, jv x5, jv x7] (fun σ => Tab_move σ x0 x1 x2 x3 x5 x7) := by
  refine Ct.of (own := RX14) (nm := "move") (desc := "(IIJJJ)V") rfl (by decide) (Nat.le_of_ble_eq_true rfl) (by decide) (fun X σ => ?_)
  show G X RX14 "move" cX14_move 14 none 1 24 enV 0 [(0, av x0), (1, iv x1), (2, iv x2), (3, jv x3), (5, jv x5), (7, jv x7)] [] σ (Tab_move σ x0 x1 x2 x3 x5 x7)
  unfold Tab_move
  refine g_iload_n 1 1 dX14_move_0 rfl rfl ?_
  refine g_iload_n 2 2 dX14_move_1 rfl rfl ?_
  refine g_icmp_ne 12 dX14_move_2 (by decide) ?_ ?_
  · exact gX14_move_p12 _ _ _ _ _ _ _
  · refine g_lload_n 3 3 dX14_move_5 rfl rfl ?_
    refine g_lload 4 dX14_move_6 rfl ?_
    refine g_lcmp_gt 16 dX14_move_8 dX14_move_9 (by decide) ?_ ?_
    · refine g_iconst (v := 0) dX14_move_16 (by decide) ?_
      exact gX14_move_p17 _ _ _ _ _ _ _ _
    · exact gX14_move_p12 _ _ _ _ _ _ _
theorem V.dX2_init_0 : decode cX2_init 0 = .ok (.aload_n 0, 1) := by decide +kernel
theorem V.dX2_init_1 : decode cX2_init 1 = .ok (.invokespecial 1, 3) := by decide +kernel
theorem V.dX2_init_4 : decode cX2_init 4 = .ok (.aload_n 0, 1) := by decide +kernel
theorem V.dX2_init_5 : decode cX2_init 5 = .ok (.bipush 64, 2) := by decide +kernel
theorem V.dX2_init_7 : decode cX2_init 7 = .ok (.newarray .byte, 2) := by decide +kernel
theorem V.dX2_init_9 : decode cX2_init 9 = .ok (.putfield 7, 3) := by decide +kernel
theorem V.dX2_init_12 : decode cX2_init 12 = .ok (.aload_n 0, 1) := by decide +kernel
theorem V.dX2_init_13 : decode cX2_init 13 = .ok (.new 13, 3) := by decide +kernel
theorem V.dX2_init_16 : decode cX2_init 16 = .ok (.dup, 1) := by decide +kernel
theorem V.dX2_init_17 : decode cX2_init 17 = .ok (.invokespecial 15, 3) := by decide +kernel
theorem V.dX2_init_20 : decode cX2_init 20 = .ok (.putfield 16, 3) := by decide +kernel
theorem V.dX2_init_23 : decode cX2_init 23 = .ok (.aload_n 0, 1) := by decide +kernel
theorem V.dX2_init_24 : decode cX2_init 24 = .ok (.new 13, 3) := by decide +kernel
theorem V.dX2_init_27 : decode cX2_init 27 = .ok (.dup, 1) := by decide +kernel
theorem V.dX2_init_28 : decode cX2_init 28 = .ok (.invokespecial 15, 3) := by decide +kernel
theorem V.dX2_init_31 : decode cX2_init 31 = .ok (.putfield 20, 3) := by decide +kernel
theorem V.dX2_init_34 : decode cX2_init 34 = .ok (.aload_n 0, 1) := by decide +kernel
theorem V.dX2_init_35 : decode cX2_init 35 = .ok (.new 13, 3) := by decide +kernel
theorem V.dX2_init_38 : decode cX2_init 38 = .ok (.dup, 1) := by decide +kernel
theorem V.dX2_init_39 : decode cX2_init 39 = .ok (.invokespecial 15, 3) := by decide +kernel
theorem V.dX2_init_42 : decode cX2_init 42 = .ok (.putfield 23, 3) := by decide +kernel
theorem V.dX2_init_45 : decode cX2_init 45 = .ok (.aload_n 0, 1) := by decide +kernel
theorem V.dX2_init_46 : decode cX2_init 46 = .ok (.new 13, 3) := by decide +kernel
theorem V.dX2_init_49 : decode cX2_init 49 = .ok (.dup, 1) := by decide +kernel
theorem V.dX2_init_50 : decode cX2_init 50 = .ok (.invokespecial 15, 3) := by decide +kernel
theorem V.dX2_init_53 : decode cX2_init 53 = .ok (.putfield 26, 3) := by decide +kernel
theorem V.dX2_init_56 : decode cX2_init 56 = .ok (.aload_n 0, 1) := by decide +kernel
theorem V.dX2_init_57 : decode cX2_init 57 = .ok (.new 13, 3) := by decide +kernel
theorem V.dX2_init_60 : decode cX2_init 60 = .ok (.dup, 1) := by decide +kernel
theorem V.dX2_init_61 : decode cX2_init 61 = .ok (.invokespecial 15, 3) := by decide +kernel
theorem V.dX2_init_64 : decode cX2_init 64 = .ok (.putfield 29, 3) := by decide +kernel
theorem V.dX2_init_67 : decode cX2_init 67 = .ok (.aload_n 0, 1) := by decide +kernel
theorem V.dX2_init_68 : decode cX2_init 68 = .ok (.new 13, 3) := by decide +kernel
theorem V.dX2_init_71 : decode cX2_init 71 = .ok (.dup, 1) := by decide +kernel
theorem V.dX2_init_72 : decode cX2_init 72 = .ok (.invokespecial 15, 3) := by decide +kernel
theorem V.dX2_init_75 : decode cX2_init 75 = .ok (.putfield 32, 3) := by decide +kernel
theorem V.dX2_init_78 : decode cX2_init 78 = .ok (.aload_n 0, 1) := by decide +kernel
theorem V.dX2_init_79 : decode cX2_init 79 = .ok (.new 13, 3) := by decide +kernel
theorem V.dX2_init_82 : decode cX2_init 82 = .ok (.dup, 1) := by decide +kernel
theorem V.dX2_init_83 : decode cX2_init 83 = .ok (.invokespecial 15, 3) := by decide +kernel
theorem V.dX2_init_86 : decode cX2_init 86 = .ok (.putfield 35, 3) := by decide +kernel
theorem V.dX2_init_89 : decode cX2_init 89 = .ok (.aload_n 0, 1) := by decide +kernel
theorem V.dX2_init_90 : decode cX2_init 90 = .ok (.new 13, 3) := by decide +kernel
theorem V.dX2_init_93 : decode cX2_init 93 = .ok (.dup, 1) := by decide +kernel
theorem V.dX2_init_94 : decode cX2_init 94 = .ok (.invokespecial 15, 3) := by decide +kernel
theorem V.dX2_init_97 : decode cX2_init 97 = .ok (.putfield 38, 3) := by decide +kernel
theorem V.dX2_init_100 : decode cX2_init 100 = .ok (.aload_n 0, 1) := by decide +kernel
theorem V.dX2_init_101 : decode cX2_init 101 = .ok (.new 13, 3) := by decide +kernel
theorem V.dX2_init_104 : decode cX2_init 104 = .ok (.dup, 1) := by decide +kernel
theorem V.dX2_init_105 : decode cX2_init 105 = .ok (.invokespecial 15, 3) := by decide +kernel
theorem V.dX2_init_108 : decode cX2_init 108 = .ok (.putfield 41, 3) := by decide +kernel
theorem V.dX2_init_111 : decode cX2_init 111 = .ok (.aload_n 0, 1) := by decide +kernel
theorem V.dX2_init_112 : decode cX2_init 112 = .ok (.new 13, 3) := by decide +kernel
theorem V.dX2_init_115 : decode cX2_init 115 = .ok (.dup, 1) := by decide +kernel
theorem V.dX2_init_116 : decode cX2_init 116 = .ok (.invokespecial 15, 3) := by decide +kernel
theorem V.dX2_init_119 : decode cX2_init 119 = .ok (.putfield 44, 3) := by decide +kernel
theorem V.dX2_init_122 : decode cX2_init 122 = .ok (.aload_n 0, 1) := by decide +kernel
theorem V.dX2_init_123 : decode cX2_init 123 = .ok (.new 13, 3) := by decide +kernel
theorem V.dX2_init_126 : decode cX2_init 126 = .ok (.dup, 1) := by decide +kernel
theorem V.dX2_init_127 : decode cX2_init 127 = .ok (.invokespecial 15, 3) := by decide +kernel
theorem V.dX2_init_130 : decode cX2_init 130 = .ok (.putfield 47, 3) := by decide +kernel
theorem V.dX2_init_133 : decode cX2_init 133 = .ok (.aload_n 0, 1) := by decide +kernel
theorem V.dX2_init_134 : decode cX2_init 134 = .ok (.new 13, 3) := by decide +kernel
theorem V.dX2_init_137 : decode cX2_init 137 = .ok (.dup, 1) := by decide +kernel
theorem V.dX2_init_138 : decode cX2_init 138 = .ok (.invokespecial 15, 3) := by decide +kernel
theorem V.dX2_init_141 : decode cX2_init 141 = .ok (.putfield 50, 3) := by decide +kernel
theorem V.dX2_init_144 : decode cX2_init 144 = .ok (.aload_n 0, 1) := by decide +kernel
theorem V.dX2_init_145 : decode cX2_init 145 = .ok (.new 13, 3) := by decide +kernel
theorem V.dX2_init_148 : decode cX2_init 148 = .ok (.dup, 1) := by decide +kernel
theorem V.dX2_init_149 : decode cX2_init 149 = .ok (.invokespecial 15, 3) := by decide +kernel
theorem V.dX2_init_152 : decode cX2_init 152 = .ok (.putfield 53, 3) := by decide +kernel
theorem V.dX2_init_155 : decode cX2_init 155 = .ok (.aload_n 0, 1) := by decide +kernel
theorem V.dX2_init_156 : decode cX2_init 156 = .ok (.new 13, 3) := by decide +kernel
theorem V.dX2_init_159 : decode cX2_init 159 = .ok (.dup, 1) := by decide +kernel
theorem V.dX2_init_160 : decode cX2_init 160 = .ok (.invokespecial 15, 3) := by decide +kernel
theorem V.dX2_init_163 : decode cX2_init 163 = .ok (.putfield 56, 3) := by decide +kernel
theorem V.dX2_init_166 : decode cX2_init 166 = .ok (.aload_n 0, 1) := by decide +kernel
theorem V.dX2_init_167 : decode cX2_init 167 = .ok (.bipush 14, 2) := by decide +kernel
theorem V.dX2_init_169 : decode cX2_init 169 = .ok (.anewarray 13, 3) := by decide +kernel
theorem V.dX2_init_172 : decode cX2_init 172 = .ok (.dup, 1) := by decide +kernel
theorem V.dX2_init_173 : decode cX2_init 173 = .ok (.iconst 0, 1) := by decide +kernel
theorem V.dX2_init_174 : decode cX2_init 174 = .ok (.aload_n 0, 1) := by decide +kernel
theorem V.dX2_init_175 : decode cX2_init 175 = .ok (.getfield 16, 3) := by decide +kernel
theorem V.dX2_init_178 : decode cX2_init 178 = .ok (.aastore, 1) := by decide +kernel
theorem V.dX2_init_179 : decode cX2_init 179 = .ok (.dup, 1) := by decide +kernel
theorem V.dX2_init_180 : decode cX2_init 180 = .ok (.iconst 1, 1) := by decide +kernel
theorem V.dX2_init_181 : decode cX2_init 181 = .ok (.aload_n 0, 1) := by decide +kernel
theorem V.dX2_init_182 : decode cX2_init 182 = .ok (.getfield 20, 3) := by decide +kernel
theorem V.dX2_init_185 : decode cX2_init 185 = .ok (.aastore, 1) := by decide +kernel
theorem V.dX2_init_186 : decode cX2_init 186 = .ok (.dup, 1) := by decide +kernel
theorem V.dX2_init_187 : decode cX2_init 187 = .ok (.iconst 2, 1) := by decide +kernel
theorem V.dX2_init_188 : decode cX2_init 188 = .ok (.aload_n 0, 1) := by decide +kernel
theorem V.dX2_init_189 : decode cX2_init 189 = .ok (.getfield 23, 3) := by decide +kernel
theorem V.dX2_init_192 : decode cX2_init 192 = .ok (.aastore, 1) := by decide +kernel
theorem V.dX2_init_193 : decode cX2_init 193 = .ok (.dup, 1) := by decide +kernel
theorem V.dX2_init_194 : decode cX2_init 194 = .ok (.iconst 3, 1) := by decide +kernel
theorem V.dX2_init_195 : decode cX2_init 195 = .ok (.aload_n 0, 1) := by decide +kernel
theorem V.dX2_init_196 : decode cX2_init 196 = .ok (.getfield 26, 3) := by decide +kernel
theorem V.dX2_init_199 : decode cX2_init 199 = .ok (.aastore, 1) := by decide +kernel
theorem V.dX2_init_200 : decode cX2_init 200 = .ok (.dup, 1) := by decide +kernel
theorem V.dX2_init_201 : decode cX2_init 201 = .ok (.iconst 4, 1) := by decide +kernel
theorem V.dX2_init_202 : decode cX2_init 202 = .ok (.aload_n 0, 1) := by decide +kernel
theorem V.dX2_init_203 : decode cX2_init 203 = .ok (.getfield 29, 3) := by decide +kernel
theorem V.dX2_init_206 : decode cX2_init 206 = .ok (.aastore, 1) := by decide +kernel
theorem V.dX2_init_207 : decode cX2_init 207 = .ok (.dup, 1) := by decide +kernel
theorem V.dX2_init_208 : decode cX2_init 208 = .ok (.iconst 5, 1) := by decide +kernel
theorem V.dX2_init_209 : decode cX2_init 209 = .ok (.aload_n 0, 1) := by decide +kernel
theorem V.dX2_init_210 : decode cX2_init 210 = .ok (.getfield 32, 3) := by decide +kernel
theorem V.dX2_init_213 : decode cX2_init 213 = .ok (.aastore, 1) := by decide +kernel
theorem V.dX2_init_214 : decode cX2_init 214 = .ok (.dup, 1) := by decide +kernel
theorem V.dX2_init_215 : decode cX2_init 215 = .ok (.bipush 6, 2) := by decide +kernel
theorem V.dX2_init_217 : decode cX2_init 217 = .ok (.aload_n 0, 1) := by decide +kernel
theorem V.dX2_init_218 : decode cX2_init 218 = .ok (.getfield 35, 3) := by decide +kernel
theorem V.dX2_init_221 : decode cX2_init 221 = .ok (.aastore, 1) := by decide +kernel
theorem V.dX2_init_222 : decode cX2_init 222 = .ok (.dup, 1) := by decide +kernel
theorem V.dX2_init_223 : decode cX2_init 223 = .ok (.bipush 7, 2) := by decide +kernel
theorem V.dX2_init_225 : decode cX2_init 225 = .ok (.aload_n 0, 1) := by decide +kernel
theorem V.dX2_init_226 : decode cX2_init 226 = .ok (.getfield 38, 3) := by decide +kernel
theorem V.dX2_init_229 : decode cX2_init 229 = .ok (.aastore, 1) := by decide +kernel
theorem V.dX2_init_230 : decode cX2_init 230 = .ok (.dup, 1) := by decide +kernel
theorem V.dX2_init_231 : decode cX2_init 231 = .ok (.bipush 8, 2) := by decide +kernel
theorem V.dX2_init_233 : decode cX2_init 233 = .ok (.aload_n 0, 1) := by decide +kernel
theorem V.dX2_init_234 : decode cX2_init 234 = .ok (.getfield 41, 3) := by decide +kernel
theorem V.dX2_init_237 : decode cX2_init 237 = .ok (.aastore, 1) := by decide +kernel
theorem V.dX2_init_238 : decode cX2_init 238 = .ok (.dup, 1) := by decide +kernel
theorem V.dX2_init_239 : decode cX2_init 239 = .ok (.bipush 9, 2) := by decide +kernel
theorem V.dX2_init_241 : decode cX2_init 241 = .ok (.aload_n 0, 1) := by decide +kernel
theorem V.dX2_init_242 : decode cX2_init 242 = .ok (.getfield 44, 3) := by decide +kernel
theorem V.dX2_init_245 : decode cX2_init 245 = .ok (.aastore, 1) := by decide +kernel
theorem V.dX2_init_246 : decode cX2_init 246 = .ok (.dup, 1) := by decide +kernel
theorem V.dX2_init_247 : decode cX2_init 247 = .ok (.bipush 10, 2) := by decide +kernel
theorem V.dX2_init_249 : decode cX2_init 249 = .ok (.aload_n 0, 1) := by decide +kernel
theorem V.dX2_init_250 : decode cX2_init 250 = .ok (.getfield 47, 3) := by decide +kernel
theorem V.dX2_init_253 : decode cX2_init 253 = .ok (.aastore, 1) := by decide +kernel
theorem V.dX2_init_254 : decode cX2_init 254 = .ok (.dup, 1) := by decide +kernel
theorem V.dX2_init_255 : decode cX2_init 255 = .ok (.bipush 11, 2) := by decide +kernel
theorem V.dX2_init_257 : decode cX2_init 257 = .ok (.aload_n 0, 1) := by decide +kernel
theorem V.dX2_init_258 : decode cX2_init 258 = .ok (.getfield 50, 3) := by decide +kernel
theorem V.dX2_init_261 : decode cX2_init 261 = .ok (.aastore, 1) := by decide +kernel
theorem V.dX2_init_262 : decode cX2_init 262 = .ok (.dup, 1) := by decide +kernel
theorem V.dX2_init_263 : decode cX2_init 263 = .ok (.bipush 12, 2) := by decide +kernel
theorem V.dX2_init_265 : decode cX2_init 265 = .ok (.aload_n 0, 1) := by decide +kernel
theorem V.dX2_init_266 : decode cX2_init 266 = .ok (.getfield 53, 3) := by decide +kernel
theorem V.dX2_init_269 : decode cX2_init 269 = .ok (.aastore, 1) := by decide +kernel
theorem V.dX2_init_270 : decode cX2_init 270 = .ok (.dup, 1) := by decide +kernel
theorem V.dX2_init_271 : decode cX2_init 271 = .ok (.bipush 13, 2) := by decide +kernel
theorem V.dX2_init_273 : decode cX2_init 273 = .ok (.aload_n 0, 1) := by decide +kernel
theorem V.dX2_init_274 : decode cX2_init 274 = .ok (.getfield 56, 3) := by decide +kernel
theorem V.dX2_init_277 : decode cX2_init 277 = .ok (.aastore, 1) := by decide +kernel
theorem V.dX2_init_278 : decode cX2_init 278 = .ok (.putfield 59, 3) := by decide +kernel
theorem V.dX2_init_281 : decode cX2_init 281 = .ok (.return_, 1) := by decide +kernel
theorem V.fpX2_7 {nm : String} : FP RX2 nm 7 2 0 (.array .byte) := ⟨(RX2, TX2, 21), tyX2, rfl, rfl, in_X2, by decide, tyX2_ok, nmX2, rfl, Or.inl ⟨rfl, Or.inl q424⟩⟩
theorem V.ndX2_13 : ND RX2 13 3 2 := ⟨(RX3, TX3, 2), tyX3, rfl, rfl, in_X3, tyX3_ok, by decide, q408, q409, q363⟩
theorem V.mdX2_15 : MD RX2 15 yX3_init cX3_init 1 none 0 := ⟨Or.inr ⟨_, q410⟩, q363, q412, by decide, by decide, by decide +kernel⟩
theorem V.fpX2_16 : FP RX2 "<init>" 16 2 1 (.object "ModuleEngine$Row") := ⟨(RX2, TX2, 21), tyX2, rfl, rfl, in_X2, by decide, tyX2_ok, nmX2, rfl, Or.inr ⟨rfl, rfl, rfl, q428⟩⟩
theorem V.fpX2_20 : FP RX2 "<init>" 20 2 2 (.object "ModuleEngine$Row") := ⟨(RX2, TX2, 21), tyX2, rfl, rfl, in_X2, by decide, tyX2_ok, nmX2, rfl, Or.inr ⟨rfl, rfl, rfl, q430⟩⟩
theorem V.fpX2_23 : FP RX2 "<init>" 23 2 3 (.object "ModuleEngine$Row") := ⟨(RX2, TX2, 21), tyX2, rfl, rfl, in_X2, by decide, tyX2_ok, nmX2, rfl, Or.inr ⟨rfl, rfl, rfl, q432⟩⟩
theorem V.fpX2_26 : FP RX2 "<init>" 26 2 4 (.object "ModuleEngine$Row") := ⟨(RX2, TX2, 21), tyX2, rfl, rfl, in_X2, by decide, tyX2_ok, nmX2, rfl, Or.inr ⟨rfl, rfl, rfl, q436⟩⟩
theorem V.fpX2_29 : FP RX2 "<init>" 29 2 5 (.object "ModuleEngine$Row") := ⟨(RX2, TX2, 21), tyX2, rfl, rfl, in_X2, by decide, tyX2_ok, nmX2, rfl, Or.inr ⟨rfl, rfl, rfl, q440⟩⟩
theorem V.fpX2_32 : FP RX2 "<init>" 32 2 6 (.object "ModuleEngine$Row") := ⟨(RX2, TX2, 21), tyX2, rfl, rfl, in_X2, by decide, tyX2_ok, nmX2, rfl, Or.inr ⟨rfl, rfl, rfl, q444⟩⟩
theorem V.fpX2_35 : FP RX2 "<init>" 35 2 7 (.object "ModuleEngine$Row") := ⟨(RX2, TX2, 21), tyX2, rfl, rfl, in_X2, by decide, tyX2_ok, nmX2, rfl, Or.inr ⟨rfl, rfl, rfl, q448⟩⟩
theorem V.fpX2_38 : FP RX2 "<init>" 38 2 8 (.object "ModuleEngine$Row") := ⟨(RX2, TX2, 21), tyX2, rfl, rfl, in_X2, by decide, tyX2_ok, nmX2, rfl, Or.inr ⟨rfl, rfl, rfl, q452⟩⟩
theorem V.fpX2_41 : FP RX2 "<init>" 41 2 9 (.object "ModuleEngine$Row") := ⟨(RX2, TX2, 21), tyX2, rfl, rfl, in_X2, by decide, tyX2_ok, nmX2, rfl, Or.inr ⟨rfl, rfl, rfl, q456⟩⟩
theorem V.fpX2_44 : FP RX2 "<init>" 44 2 10 (.object "ModuleEngine$Row") := ⟨(RX2, TX2, 21), tyX2, rfl, rfl, in_X2, by decide, tyX2_ok, nmX2, rfl, Or.inr ⟨rfl, rfl, rfl, q460⟩⟩
theorem V.fpX2_47 : FP RX2 "<init>" 47 2 11 (.object "ModuleEngine$Row") := ⟨(RX2, TX2, 21), tyX2, rfl, rfl, in_X2, by decide, tyX2_ok, nmX2, rfl, Or.inr ⟨rfl, rfl, rfl, q464⟩⟩
theorem V.fpX2_50 : FP RX2 "<init>" 50 2 12 (.object "ModuleEngine$Row") := ⟨(RX2, TX2, 21), tyX2, rfl, rfl, in_X2, by decide, tyX2_ok, nmX2, rfl, Or.inr ⟨rfl, rfl, rfl, q468⟩⟩
theorem V.fpX2_53 : FP RX2 "<init>" 53 2 13 (.object "ModuleEngine$Row") := ⟨(RX2, TX2, 21), tyX2, rfl, rfl, in_X2, by decide, tyX2_ok, nmX2, rfl, Or.inr ⟨rfl, rfl, rfl, q472⟩⟩
theorem V.fpX2_56 : FP RX2 "<init>" 56 2 14 (.object "ModuleEngine$Row") := ⟨(RX2, TX2, 21), tyX2, rfl, rfl, in_X2, by decide, tyX2_ok, nmX2, rfl, Or.inr ⟨rfl, rfl, rfl, q476⟩⟩
theorem V.fdX2_16 : FD RX2 16 2 1 2 := ⟨(RX2, TX2, 21), tyX2, rfl, rfl, in_X2, by decide, Or.inl q428, rfl⟩
theorem V.fdX2_20 : FD RX2 20 2 2 2 := ⟨(RX2, TX2, 21), tyX2, rfl, rfl, in_X2, by decide, Or.inl q430, rfl⟩
theorem V.fdX2_23 : FD RX2 23 2 3 2 := ⟨(RX2, TX2, 21), tyX2, rfl, rfl, in_X2, by decide, Or.inl q432, rfl⟩
theorem V.fdX2_26 : FD RX2 26 2 4 2 := ⟨(RX2, TX2, 21), tyX2, rfl, rfl, in_X2, by decide, Or.inl q436, rfl⟩
theorem V.fdX2_29 : FD RX2 29 2 5 2 := ⟨(RX2, TX2, 21), tyX2, rfl, rfl, in_X2, by decide, Or.inl q440, rfl⟩
theorem V.fdX2_32 : FD RX2 32 2 6 2 := ⟨(RX2, TX2, 21), tyX2, rfl, rfl, in_X2, by decide, Or.inl q444, rfl⟩
theorem V.fdX2_35 : FD RX2 35 2 7 2 := ⟨(RX2, TX2, 21), tyX2, rfl, rfl, in_X2, by decide, Or.inl q448, rfl⟩
theorem V.fdX2_38 : FD RX2 38 2 8 2 := ⟨(RX2, TX2, 21), tyX2, rfl, rfl, in_X2, by decide, Or.inl q452, rfl⟩
theorem V.fdX2_41 : FD RX2 41 2 9 2 := ⟨(RX2, TX2, 21), tyX2, rfl, rfl, in_X2, by decide, Or.inl q456, rfl⟩
theorem V.fdX2_44 : FD RX2 44 2 10 2 := ⟨(RX2, TX2, 21), tyX2, rfl, rfl, in_X2, by decide, Or.inl q460, rfl⟩
theorem V.fdX2_47 : FD RX2 47 2 11 2 := ⟨(RX2, TX2, 21), tyX2, rfl, rfl, in_X2, by decide, Or.inl q464, rfl⟩
theorem V.fdX2_50 : FD RX2 50 2 12 2 := ⟨(RX2, TX2, 21), tyX2, rfl, rfl, in_X2, by decide, Or.inl q468, rfl⟩
theorem V.fdX2_53 : FD RX2 53 2 13 2 := ⟨(RX2, TX2, 21), tyX2, rfl, rfl, in_X2, by decide, Or.inl q472, rfl⟩
theorem V.fdX2_56 : FD RX2 56 2 14 2 := ⟨(RX2, TX2, 21), tyX2, rfl, rfl, in_X2, by decide, Or.inl q476, rfl⟩
theorem V.fpX2_59 : FP RX2 "<init>" 59 2 15 (.array (.object "ModuleEngine$Row")) := ⟨(RX2, TX2, 21), tyX2, rfl, rfl, in_X2, by decide, tyX2_ok, nmX2, rfl, Or.inr ⟨rfl, rfl, rfl, q478⟩⟩
/-! ModuleEngine$Module.<init>()V -/
def V.Mod_init (σ : HS) (x0 : Nat) : Option (Unit × HS) :=
  ck (¬ x0 = 0) <|
  ck (lenok (64 : Int32)) <| newa σ 102 (64 : Int32) fun a1 σ2 =>
  ck (tg σ2 x0 = 3) <| bn (sR σ2 x0 0 a1) fun σ3 =>
  newr σ3 fun a4 σ5 =>
  ck (tg σ5 x0 = 3) <| bn (sR σ5 x0 1 a4) fun σ6 =>
  newr σ6 fun a7 σ8 =>
  ck (tg σ8 x0 = 3) <| bn (sR σ8 x0 2 a7) fun σ9 =>
  newr σ9 fun a10 σ11 =>
  ck (tg σ11 x0 = 3) <| bn (sR σ11 x0 3 a10) fun σ12 =>
  newr σ12 fun a13 σ14 =>
  ck (tg σ14 x0 = 3) <| bn (sR σ14 x0 4 a13) fun σ15 =>
  newr σ15 fun a16 σ17 =>
  ck (tg σ17 x0 = 3) <| bn (sR σ17 x0 5 a16) fun σ18 =>
  newr σ18 fun a19 σ20 =>
  ck (tg σ20 x0 = 3) <| bn (sR σ20 x0 6 a19) fun σ21 =>
  newr σ21 fun a22 σ23 =>
  ck (tg σ23 x0 = 3) <| bn (sR σ23 x0 7 a22) fun σ24 =>
  newr σ24 fun a25 σ26 =>
  ck (tg σ26 x0 = 3) <| bn (sR σ26 x0 8 a25) fun σ27 =>
  newr σ27 fun a28 σ29 =>
  ck (tg σ29 x0 = 3) <| bn (sR σ29 x0 9 a28) fun σ30 =>
  newr σ30 fun a31 σ32 =>
  ck (tg σ32 x0 = 3) <| bn (sR σ32 x0 10 a31) fun σ33 =>
  newr σ33 fun a34 σ35 =>
  ck (tg σ35 x0 = 3) <| bn (sR σ35 x0 11 a34) fun σ36 =>
  newr σ36 fun a37 σ38 =>
  ck (tg σ38 x0 = 3) <| bn (sR σ38 x0 12 a37) fun σ39 =>
  newr σ39 fun a40 σ41 =>
  ck (tg σ41 x0 = 3) <| bn (sR σ41 x0 13 a40) fun σ42 =>
  newr σ42 fun a43 σ44 =>
  ck (tg σ44 x0 = 3) <| bn (sR σ44 x0 14 a43) fun σ45 =>
  ck (lenok (14 : Int32)) <| newa σ45 104 (14 : Int32) fun a46 σ47 =>
  ck (tg σ47 x0 = 3) <|
  ck (tg σ47 a46 = 104 ∧ inb (0 : Int32) (ln σ47 a46) ∧ tg σ47 (gR σ47 x0 1) = 4) <| bn (sR σ47 a46 (ix (0 : Int32)) (gR σ47 x0 1)) fun σ48 =>
  ck (tg σ48 x0 = 3) <|
  ck (tg σ48 a46 = 104 ∧ inb (1 : Int32) (ln σ48 a46) ∧ tg σ48 (gR σ48 x0 2) = 4) <| bn (sR σ48 a46 (ix (1 : Int32)) (gR σ48 x0 2)) fun σ49 =>
  ck (tg σ49 x0 = 3) <|
  ck (tg σ49 a46 = 104 ∧ inb (2 : Int32) (ln σ49 a46) ∧ tg σ49 (gR σ49 x0 3) = 4) <| bn (sR σ49 a46 (ix (2 : Int32)) (gR σ49 x0 3)) fun σ50 =>
  ck (tg σ50 x0 = 3) <|
  ck (tg σ50 a46 = 104 ∧ inb (3 : Int32) (ln σ50 a46) ∧ tg σ50 (gR σ50 x0 4) = 4) <| bn (sR σ50 a46 (ix (3 : Int32)) (gR σ50 x0 4)) fun σ51 =>
  ck (tg σ51 x0 = 3) <|
  ck (tg σ51 a46 = 104 ∧ inb (4 : Int32) (ln σ51 a46) ∧ tg σ51 (gR σ51 x0 5) = 4) <| bn (sR σ51 a46 (ix (4 : Int32)) (gR σ51 x0 5)) fun σ52 =>
  ck (tg σ52 x0 = 3) <|
  ck (tg σ52 a46 = 104 ∧ inb (5 : Int32) (ln σ52 a46) ∧ tg σ52 (gR σ52 x0 6) = 4) <| bn (sR σ52 a46 (ix (5 : Int32)) (gR σ52 x0 6)) fun σ53 =>
  ck (tg σ53 x0 = 3) <|
  ck (tg σ53 a46 = 104 ∧ inb (6 : Int32) (ln σ53 a46) ∧ tg σ53 (gR σ53 x0 7) = 4) <| bn (sR σ53 a46 (ix (6 : Int32)) (gR σ53 x0 7)) fun σ54 =>
  ck (tg σ54 x0 = 3) <|
  ck (tg σ54 a46 = 104 ∧ inb (7 : Int32) (ln σ54 a46) ∧ tg σ54 (gR σ54 x0 8) = 4) <| bn (sR σ54 a46 (ix (7 : Int32)) (gR σ54 x0 8)) fun σ55 =>
  ck (tg σ55 x0 = 3) <|
  ck (tg σ55 a46 = 104 ∧ inb (8 : Int32) (ln σ55 a46) ∧ tg σ55 (gR σ55 x0 9) = 4) <| bn (sR σ55 a46 (ix (8 : Int32)) (gR σ55 x0 9)) fun σ56 =>
  ck (tg σ56 x0 = 3) <|
  ck (tg σ56 a46 = 104 ∧ inb (9 : Int32) (ln σ56 a46) ∧ tg σ56 (gR σ56 x0 10) = 4) <| bn (sR σ56 a46 (ix (9 : Int32)) (gR σ56 x0 10)) fun σ57 =>
  ck (tg σ57 x0 = 3) <|
  ck (tg σ57 a46 = 104 ∧ inb (10 : Int32) (ln σ57 a46) ∧ tg σ57 (gR σ57 x0 11) = 4) <| bn (sR σ57 a46 (ix (10 : Int32)) (gR σ57 x0 11)) fun σ58 =>
  ck (tg σ58 x0 = 3) <|
  ck (tg σ58 a46 = 104 ∧ inb (11 : Int32) (ln σ58 a46) ∧ tg σ58 (gR σ58 x0 12) = 4) <| bn (sR σ58 a46 (ix (11 : Int32)) (gR σ58 x0 12)) fun σ59 =>
  ck (tg σ59 x0 = 3) <|
  ck (tg σ59 a46 = 104 ∧ inb (12 : Int32) (ln σ59 a46) ∧ tg σ59 (gR σ59 x0 13) = 4) <| bn (sR σ59 a46 (ix (12 : Int32)) (gR σ59 x0 13)) fun σ60 =>
  ck (tg σ60 x0 = 3) <|
  ck (tg σ60 a46 = 104 ∧ inb (13 : Int32) (ln σ60 a46) ∧ tg σ60 (gR σ60 x0 14) = 4) <| bn (sR σ60 a46 (ix (13 : Int32)) (gR σ60 x0 14)) fun σ61 =>
  ck (tg σ61 x0 = 3) <| bn (sR σ61 x0 15 a46) fun σ62 =>
  some ((), σ62)
theorem V.ctX2_init (x0 : Nat) : Ct yX2_init  cX2_init 1 none 2 44 eV [av x0] (fun σ => Mod_init σ x0) := by
  refine Ct.of (own := RX2) (nm := "<init>") (desc := "()V") rfl (by decide) (Nat.le_of_ble_eq_true rfl) (by decide) (fun X σ => ?_)
  show G X RX2 "<init>" cX2_init 1 none 2 44 enV 0 [(0, av x0)] [] σ (Mod_init σ x0)
  unfold Mod_init
  refine g_aload_n 0 0 dX2_init_0 rfl rfl ?_
  refine g_objInit q407 (Nat.le_of_ble_eq_true rfl) (Nat.le_of_ble_eq_true rfl) dX2_init_1 ?_
  refine g_aload_n 0 0 dX2_init_4 rfl rfl ?_
  refine g_bipush (v := 64) dX2_init_5 (by decide) ?_
  refine g_na_byte dX2_init_7 (fun a1 σ2 => ?_)
  refine g_putR fpX2_7 rfl dX2_init_9 (fun σ3 => ?_)
  refine g_aload_n 0 0 dX2_init_12 rfl rfl ?_
  refine g_newr ndX2_13 q411 mdX2_15 (Nat.le_of_ble_eq_true rfl) (Nat.le_of_ble_eq_true rfl) (Nat.le_of_ble_eq_true rfl) dX2_init_13 dX2_init_16 dX2_init_17 (fun a4 σ5 => ?_)
  refine g_putR fpX2_16 rfl dX2_init_20 (fun σ6 => ?_)
  refine g_aload_n 0 0 dX2_init_23 rfl rfl ?_
  refine g_newr ndX2_13 q411 mdX2_15 (Nat.le_of_ble_eq_true rfl) (Nat.le_of_ble_eq_true rfl) (Nat.le_of_ble_eq_true rfl) dX2_init_24 dX2_init_27 dX2_init_28 (fun a7 σ8 => ?_)
  refine g_putR fpX2_20 rfl dX2_init_31 (fun σ9 => ?_)
  refine g_aload_n 0 0 dX2_init_34 rfl rfl ?_
  refine g_newr ndX2_13 q411 mdX2_15 (Nat.le_of_ble_eq_true rfl) (Nat.le_of_ble_eq_true rfl) (Nat.le_of_ble_eq_true rfl) dX2_init_35 dX2_init_38 dX2_init_39 (fun a10 σ11 => ?_)
  refine g_putR fpX2_23 rfl dX2_init_42 (fun σ12 => ?_)
  refine g_aload_n 0 0 dX2_init_45 rfl rfl ?_
  refine g_newr ndX2_13 q411 mdX2_15 (Nat.le_of_ble_eq_true rfl) (Nat.le_of_ble_eq_true rfl) (Nat.le_of_ble_eq_true rfl) dX2_init_46 dX2_init_49 dX2_init_50 (fun a13 σ14 => ?_)
  refine g_putR fpX2_26 rfl dX2_init_53 (fun σ15 => ?_)
  refine g_aload_n 0 0 dX2_init_56 rfl rfl ?_
  refine g_newr ndX2_13 q411 mdX2_15 (Nat.le_of_ble_eq_true rfl) (Nat.le_of_ble_eq_true rfl) (Nat.le_of_ble_eq_true rfl) dX2_init_57 dX2_init_60 dX2_init_61 (fun a16 σ17 => ?_)
  refine g_putR fpX2_29 rfl dX2_init_64 (fun σ18 => ?_)
  refine g_aload_n 0 0 dX2_init_67 rfl rfl ?_
  refine g_newr ndX2_13 q411 mdX2_15 (Nat.le_of_ble_eq_true rfl) (Nat.le_of_ble_eq_true rfl) (Nat.le_of_ble_eq_true rfl) dX2_init_68 dX2_init_71 dX2_init_72 (fun a19 σ20 => ?_)
  refine g_putR fpX2_32 rfl dX2_init_75 (fun σ21 => ?_)
  refine g_aload_n 0 0 dX2_init_78 rfl rfl ?_
  refine g_newr ndX2_13 q411 mdX2_15 (Nat.le_of_ble_eq_true rfl) (Nat.le_of_ble_eq_true rfl) (Nat.le_of_ble_eq_true rfl) dX2_init_79 dX2_init_82 dX2_init_83 (fun a22 σ23 => ?_)
  refine g_putR fpX2_35 rfl dX2_init_86 (fun σ24 => ?_)
  refine g_aload_n 0 0 dX2_init_89 rfl rfl ?_
  refine g_newr ndX2_13 q411 mdX2_15 (Nat.le_of_ble_eq_true rfl) (Nat.le_of_ble_eq_true rfl) (Nat.le_of_ble_eq_true rfl) dX2_init_90 dX2_init_93 dX2_init_94 (fun a25 σ26 => ?_)
  refine g_putR fpX2_38 rfl dX2_init_97 (fun σ27 => ?_)
  refine g_aload_n 0 0 dX2_init_100 rfl rfl ?_
  refine g_newr ndX2_13 q411 mdX2_15 (Nat.le_of_ble_eq_true rfl) (Nat.le_of_ble_eq_true rfl) (Nat.le_of_ble_eq_true rfl) dX2_init_101 dX2_init_104 dX2_init_105 (fun a28 σ29 => ?_)
  refine g_putR fpX2_41 rfl dX2_init_108 (fun σ30 => ?_)
  refine g_aload_n 0 0 dX2_init_111 rfl rfl ?_
  refine g_newr ndX2_13 q411 mdX2_15 (Nat.le_of_ble_eq_true rfl) (Nat.le_of_ble_eq_true rfl) (Nat.le_of_ble_eq_true rfl) dX2_init_112 dX2_init_115 dX2_init_116 (fun a31 σ32 => ?_)
  refine g_putR fpX2_44 rfl dX2_init_119 (fun σ33 => ?_)
  refine g_aload_n 0 0 dX2_init_122 rfl rfl ?_
  refine g_newr ndX2_13 q411 mdX2_15 (Nat.le_of_ble_eq_true rfl) (Nat.le_of_ble_eq_true rfl) (Nat.le_of_ble_eq_true rfl) dX2_init_123 dX2_init_126 dX2_init_127 (fun a34 σ35 => ?_)
  refine g_putR fpX2_47 rfl dX2_init_130 (fun σ36 => ?_)
  refine g_aload_n 0 0 dX2_init_133 rfl rfl ?_
  refine g_newr ndX2_13 q411 mdX2_15 (Nat.le_of_ble_eq_true rfl) (Nat.le_of_ble_eq_true rfl) (Nat.le_of_ble_eq_true rfl) dX2_init_134 dX2_init_137 dX2_init_138 (fun a37 σ38 => ?_)
  refine g_putR fpX2_50 rfl dX2_init_141 (fun σ39 => ?_)
  refine g_aload_n 0 0 dX2_init_144 rfl rfl ?_
  refine g_newr ndX2_13 q411 mdX2_15 (Nat.le_of_ble_eq_true rfl) (Nat.le_of_ble_eq_true rfl) (Nat.le_of_ble_eq_true rfl) dX2_init_145 dX2_init_148 dX2_init_149 (fun a40 σ41 => ?_)
  refine g_putR fpX2_53 rfl dX2_init_152 (fun σ42 => ?_)
  refine g_aload_n 0 0 dX2_init_155 rfl rfl ?_
  refine g_newr ndX2_13 q411 mdX2_15 (Nat.le_of_ble_eq_true rfl) (Nat.le_of_ble_eq_true rfl) (Nat.le_of_ble_eq_true rfl) dX2_init_156 dX2_init_159 dX2_init_160 (fun a43 σ44 => ?_)
  refine g_putR fpX2_56 rfl dX2_init_163 (fun σ45 => ?_)
  refine g_aload_n 0 0 dX2_init_166 rfl rfl ?_
  refine g_bipush (v := 14) dX2_init_167 (by decide) ?_
  refine g_anewarray 4 rfl q408 (by decide) dX2_init_169 (fun a46 σ47 => ?_)
  refine g_dup dX2_init_172 rfl ?_
  refine g_iconst (v := 0) dX2_init_173 (by decide) ?_
  refine g_aload_n 0 0 dX2_init_174 rfl rfl ?_
  refine g_getR fdX2_16 dX2_init_175 ?_
  refine g_aastore 4 3 rfl rfl rfl dX2_init_178 (fun σ48 => ?_)
  refine g_dup dX2_init_179 rfl ?_
  refine g_iconst (v := 1) dX2_init_180 (by decide) ?_
  refine g_aload_n 0 0 dX2_init_181 rfl rfl ?_
  refine g_getR fdX2_20 dX2_init_182 ?_
  refine g_aastore 4 3 rfl rfl rfl dX2_init_185 (fun σ49 => ?_)
  refine g_dup dX2_init_186 rfl ?_
  refine g_iconst (v := 2) dX2_init_187 (by decide) ?_
  refine g_aload_n 0 0 dX2_init_188 rfl rfl ?_
  refine g_getR fdX2_23 dX2_init_189 ?_
  refine g_aastore 4 3 rfl rfl rfl dX2_init_192 (fun σ50 => ?_)
  refine g_dup dX2_init_193 rfl ?_
  refine g_iconst (v := 3) dX2_init_194 (by decide) ?_
  refine g_aload_n 0 0 dX2_init_195 rfl rfl ?_
  refine g_getR fdX2_26 dX2_init_196 ?_
  refine g_aastore 4 3 rfl rfl rfl dX2_init_199 (fun σ51 => ?_)
  refine g_dup dX2_init_200 rfl ?_
  refine g_iconst (v := 4) dX2_init_201 (by decide) ?_
  refine g_aload_n 0 0 dX2_init_202 rfl rfl ?_
  refine g_getR fdX2_29 dX2_init_203 ?_
  refine g_aastore 4 3 rfl rfl rfl dX2_init_206 (fun σ52 => ?_)
  refine g_dup dX2_init_207 rfl ?_
  refine g_iconst (v := 5) dX2_init_208 (by decide) ?_
  refine g_aload_n 0 0 dX2_init_209 rfl rfl ?_
  refine g_getR fdX2_32 dX2_init_210 ?_
  refine g_aastore 4 3 rfl rfl rfl dX2_init_213 (fun σ53 => ?_)
  refine g_dup dX2_init_214 rfl ?_
  refine g_bipush (v := 6) dX2_init_215 (by decide) ?_
  refine g_aload_n 0 0 dX2_init_217 rfl rfl ?_
  refine g_getR fdX2_35 dX2_init_218 ?_
  refine g_aastore 4 3 rfl rfl rfl dX2_init_221 (fun σ54 => ?_)
  refine g_dup dX2_init_222 rfl ?_
  refine g_bipush (v := 7) dX2_init_223 (by decide) ?_
  refine g_aload_n 0 0 dX2_init_225 rfl rfl ?_
  refine g_getR fdX2_38 dX2_init_226 ?_
  refine g_aastore 4 3 rfl rfl rfl dX2_init_229 (fun σ55 => ?_)
  refine g_dup dX2_init_230 rfl ?_
  refine g_bipush (v := 8) dX2_init_231 (by decide) ?_
  refine g_aload_n 0 0 dX2_init_233 rfl rfl ?_
  refine g_getR fdX2_41 dX2_init_234 ?_
  refine g_aastore 4 3 rfl rfl rfl dX2_init_237 (fun σ56 => ?_)
  refine g_dup dX2_init_238 rfl ?_
  refine g_bipush (v := 9) dX2_init_239 (by decide) ?_
  refine g_aload_n 0 0 dX2_init_241 rfl rfl ?_
  refine g_getR fdX2_44 dX2_init_242 ?_
  refine g_aastore 4 3 rfl rfl rfl dX2_init_245 (fun σ57 => ?_)
  refine g_dup dX2_init_246 rfl ?_
  refine g_bipush (v := 10) dX2_init_247 (by decide) ?_
  refine g_aload_n 0 0 dX2_init_249 rfl rfl ?_
  refine g_getR fdX2_47 dX2_init_250 ?_
  refine g_aastore 4 3 rfl rfl rfl dX2_init_253 (fun σ58 => ?_)
  refine g_dup dX2_init_254 rfl ?_
  refine g_bipush (v := 11) dX2_init_255 (by decide) ?_
  refine g_aload_n 0 0 dX2_init_257 rfl rfl ?_
  refine g_getR fdX2_50 dX2_init_258 ?_
  refine g_aastore 4 3 rfl rfl rfl dX2_init_261 (fun σ59 => ?_)
  refine g_dup dX2_init_262 rfl ?_
  refine g_bipush (v := 12) dX2_init_263 (by decide) ?_
  refine g_aload_n 0 0 dX2_init_265 rfl rfl ?_
  refine g_getR fdX2_53 dX2_init_266 ?_
  refine g_aastore 4 3 rfl rfl rfl dX2_init_269 (fun σ60 => ?_)
  refine g_dup dX2_init_270 rfl ?_
  refine g_bipush (v := 13) dX2_init_271 (by decide) ?_
  refine g_aload_n 0 0 dX2_init_273 rfl rfl ?_
  refine g_getR fdX2_56 dX2_init_274 ?_
  refine g_aastore 4 3 rfl rfl rfl dX2_init_277 (fun σ61 => ?_)
  refine g_putR fpX2_59 rfl dX2_init_278 (fun σ62 => ?_)
  exact g_return rfl dX2_init_281
theorem V.dX2_begin_0 : decode cX2_begin 0 = .ok (.aload_n 0, 1) := by decide +kernel
theorem V.dX2_begin_1 : decode cX2_begin 1 = .ok (.getfield 7, 3) := by decide +kernel
theorem V.dX2_begin_4 : decode cX2_begin 4 = .ok (.arraylength, 1) := by decide +kernel
theorem V.dX2_begin_5 : decode cX2_begin 5 = .ok (.iload_n 2, 1) := by decide +kernel
theorem V.dX2_begin_6 : decode cX2_begin 6 = .ok (.if_icmp .ge 10, 3) := by decide +kernel
theorem V.dX2_begin_9 : decode cX2_begin 9 = .ok (.aload_n 0, 1) := by decide +kernel
theorem V.dX2_begin_10 : decode cX2_begin 10 = .ok (.iload_n 2, 1) := by decide +kernel
theorem V.dX2_begin_11 : decode cX2_begin 11 = .ok (.newarray .byte, 2) := by decide +kernel
theorem V.dX2_begin_13 : decode cX2_begin 13 = .ok (.putfield 7, 3) := by decide +kernel
theorem V.dX2_begin_16 : decode cX2_begin 16 = .ok (.iconst 0, 1) := by decide +kernel
theorem V.dX2_begin_17 : decode cX2_begin 17 = .ok (.istore_n 3, 1) := by decide +kernel
theorem V.dX2_begin_18 : decode cX2_begin 18 = .ok (.iload_n 3, 1) := by decide +kernel
theorem V.dX2_begin_19 : decode cX2_begin 19 = .ok (.iload_n 2, 1) := by decide +kernel
theorem V.dX2_begin_20 : decode cX2_begin 20 = .ok (.if_icmp .ge 18, 3) := by decide +kernel
theorem V.dX2_begin_23 : decode cX2_begin 23 = .ok (.aload_n 0, 1) := by decide +kernel
theorem V.dX2_begin_24 : decode cX2_begin 24 = .ok (.getfield 7, 3) := by decide +kernel
theorem V.dX2_begin_27 : decode cX2_begin 27 = .ok (.iload_n 3, 1) := by decide +kernel
theorem V.dX2_begin_28 : decode cX2_begin 28 = .ok (.aload_n 1, 1) := by decide +kernel
theorem V.dX2_begin_29 : decode cX2_begin 29 = .ok (.iload_n 3, 1) := by decide +kernel
theorem V.dX2_begin_30 : decode cX2_begin 30 = .ok (.baload, 1) := by decide +kernel
theorem V.dX2_begin_31 : decode cX2_begin 31 = .ok (.bastore, 1) := by decide +kernel
theorem V.dX2_begin_32 : decode cX2_begin 32 = .ok (.iinc 3 1, 3) := by decide +kernel
theorem V.dX2_begin_35 : decode cX2_begin 35 = .ok (.goto (-17), 3) := by decide +kernel
theorem V.dX2_begin_38 : decode cX2_begin 38 = .ok (.aload_n 0, 1) := by decide +kernel
theorem V.dX2_begin_39 : decode cX2_begin 39 = .ok (.iload_n 2, 1) := by decide +kernel
theorem V.dX2_begin_40 : decode cX2_begin 40 = .ok (.putfield 63, 3) := by decide +kernel
theorem V.dX2_begin_43 : decode cX2_begin 43 = .ok (.aload_n 0, 1) := by decide +kernel
theorem V.dX2_begin_44 : decode cX2_begin 44 = .ok (.getfield 59, 3) := by decide +kernel
theorem V.dX2_begin_47 : decode cX2_begin 47 = .ok (.astore_n 3, 1) := by decide +kernel
theorem V.dX2_begin_48 : decode cX2_begin 48 = .ok (.aload_n 3, 1) := by decide +kernel
theorem V.dX2_begin_49 : decode cX2_begin 49 = .ok (.arraylength, 1) := by decide +kernel
theorem V.dX2_begin_50 : decode cX2_begin 50 = .ok (.istore 4, 2) := by decide +kernel
theorem V.dX2_begin_52 : decode cX2_begin 52 = .ok (.iconst 0, 1) := by decide +kernel
theorem V.dX2_begin_53 : decode cX2_begin 53 = .ok (.istore 5, 2) := by decide +kernel
theorem V.dX2_begin_55 : decode cX2_begin 55 = .ok (.iload 5, 2) := by decide +kernel
theorem V.dX2_begin_57 : decode cX2_begin 57 = .ok (.iload 4, 2) := by decide +kernel
theorem V.dX2_begin_59 : decode cX2_begin 59 = .ok (.if_icmp .ge 21, 3) := by decide +kernel
theorem V.dX2_begin_62 : decode cX2_begin 62 = .ok (.aload_n 3, 1) := by decide +kernel
theorem V.dX2_begin_63 : decode cX2_begin 63 = .ok (.iload 5, 2) := by decide +kernel
theorem V.dX2_begin_65 : decode cX2_begin 65 = .ok (.aaload, 1) := by decide +kernel
theorem V.dX2_begin_66 : decode cX2_begin 66 = .ok (.astore 6, 2) := by decide +kernel
theorem V.dX2_begin_68 : decode cX2_begin 68 = .ok (.aload 6, 2) := by decide +kernel
theorem V.dX2_begin_70 : decode cX2_begin 70 = .ok (.iconst 0, 1) := by decide +kernel
theorem V.dX2_begin_71 : decode cX2_begin 71 = .ok (.invokevirtual 67, 3) := by decide +kernel
theorem V.dX2_begin_74 : decode cX2_begin 74 = .ok (.iinc 5 1, 3) := by decide +kernel
theorem V.dX2_begin_77 : decode cX2_begin 77 = .ok (.goto (-22), 3) := by decide +kernel
theorem V.dX2_begin_80 : decode cX2_begin 80 = .ok (.aload_n 0, 1) := by decide +kernel
theorem V.dX2_begin_81 : decode cX2_begin 81 = .ok (.iconst 0, 1) := by decide +kernel
theorem V.dX2_begin_82 : decode cX2_begin 82 = .ok (.putfield 71, 3) := by decide +kernel
theorem V.dX2_begin_85 : decode cX2_begin 85 = .ok (.aload_n 0, 1) := by decide +kernel
theorem V.dX2_begin_86 : decode cX2_begin 86 = .ok (.iconst 0, 1) := by decide +kernel
theorem V.dX2_begin_87 : decode cX2_begin 87 = .ok (.putfield 74, 3) := by decide +kernel
theorem V.dX2_begin_90 : decode cX2_begin 90 = .ok (.aload_n 0, 1) := by decide +kernel
theorem V.dX2_begin_91 : decode cX2_begin 91 = .ok (.ldc2_w 78, 3) := by decide +kernel
theorem V.dX2_begin_94 : decode cX2_begin 94 = .ok (.putfield 80, 3) := by decide +kernel
theorem V.dX2_begin_97 : decode cX2_begin 97 = .ok (.return_, 1) := by decide +kernel
theorem V.fdX2_7 : FD RX2 7 2 0 2 := ⟨(RX2, TX2, 21), tyX2, rfl, rfl, in_X2, by decide, Or.inl q424, rfl⟩
theorem V.fpX2_63 {nm : String} : FP RX2 nm 63 2 18 (.int) := ⟨(RX2, TX2, 21), tyX2, rfl, rfl, in_X2, by decide, tyX2_ok, nmX2, rfl, Or.inl ⟨rfl, Or.inl q484⟩⟩
theorem V.fdX2_59 : FD RX2 59 2 15 2 := ⟨(RX2, TX2, 21), tyX2, rfl, rfl, in_X2, by decide, Or.inl q478, rfl⟩
theorem V.fpX2_71 {nm : String} : FP RX2 nm 71 2 16 (.int) := ⟨(RX2, TX2, 21), tyX2, rfl, rfl, in_X2, by decide, tyX2_ok, nmX2, rfl, Or.inl ⟨rfl, Or.inl q479⟩⟩
theorem V.fpX2_74 {nm : String} : FP RX2 nm 74 2 19 (.boolean) := ⟨(RX2, TX2, 21), tyX2, rfl, rfl, in_X2, by decide, tyX2_ok, nmX2, rfl, Or.inl ⟨rfl, Or.inl q486⟩⟩
theorem V.fpX2_80 {nm : String} : FP RX2 nm 80 2 20 (.long) := ⟨(RX2, TX2, 21), tyX2, rfl, rfl, in_X2, by decide, tyX2_ok, nmX2, rfl, Or.inl ⟨rfl, Or.inl q490⟩⟩
theorem V.mdX2_67 : MD RX2 67 yX3_cut cX3_cut 2 none 1 := ⟨Or.inl q1280, q363, q1283, by decide, by decide, by decide +kernel⟩
/-! ModuleEngine$Module.begin([BI)V -/
def V.Mod_begin_p55  : Nat → HS → Nat → Nat → Int32 → Int32 → Option (Unit × HS)
  | 0, _, _, _, _, _ => none
  | n + 1, σ, x0, x3, x4, x5 =>
    if x4 ≤ x5 then (
      ck (tg σ x0 = 3) <| bn (sI σ x0 16 (0 : Int32)) fun σ1 =>
      ck (tg σ1 x0 = 3) <| bn (sI σ1 x0 19 (0 : Int32)) fun σ2 =>
      ck (tg σ2 x0 = 3) <| bn (sJ σ2 x0 20 (-1 : Int64)) fun σ3 =>
      some ((), σ3))
    else (
      ck (tg σ x3 = 104 ∧ inb x5 (ln σ x3)) <|
      bn (gR σ x3 (ix x5)) fun y4 =>
      ck (tg σ y4 = 4) <| cl (Row_cut σ y4 (0 : Int32)) fun _ σ5 =>
      bn (x5 + (1 : Int32)) fun y6 =>
      Mod_begin_p55 n σ5 x0 x3 x4 y6)
theorem V.gX2_begin_p55 {X : CX}  : ∀ (n : Nat) (σ : HS) (x0 : Nat) (x3 : Nat) (x4 : Int32) (x5 : Int32), G X RX2 "begin" cX2_begin 7 none 1 21 enV 55 [(0, av x0), (3, av x3), (4, iv x4), (5, iv x5)] [] σ (Mod_begin_p55 n σ x0 x3 x4 x5)
  | 0, σ, x0, x3, x4, x5 => by rw [Mod_begin_p55]; exact G.nul
  | n + 1, σ, x0, x3, x4, x5 => by
    rw [Mod_begin_p55]
    refine g_iload 3 dX2_begin_55 rfl ?_
    refine g_iload 2 dX2_begin_57 rfl ?_
    refine g_icmp_ge 80 dX2_begin_59 (by decide) ?_ ?_
    · refine g_aload_n 0 0 dX2_begin_80 rfl rfl ?_
      refine g_iconst (v := 0) dX2_begin_81 (by decide) ?_
      refine g_putI fpX2_71 dX2_begin_82 (fun σ1 => ?_)
      refine g_aload_n 0 0 dX2_begin_85 rfl rfl ?_
      refine g_iconst (v := 0) dX2_begin_86 (by decide) ?_
      refine g_putZ fpX2_74 ⟨by decide +kernel, by decide +kernel⟩ dX2_begin_87 (fun σ2 => ?_)
      refine g_aload_n 0 0 dX2_begin_90 rfl rfl ?_
      refine g_ldc2 q1284 dX2_begin_91 ?_
      refine g_putJ fpX2_80 dX2_begin_94 (fun σ3 => ?_)
      exact g_return rfl dX2_begin_97
    · refine g_aload_n 3 1 dX2_begin_62 rfl rfl ?_
      refine g_iload 3 dX2_begin_63 rfl ?_
      refine g_aaload 4 rfl dX2_begin_65 ?_
      refine g_nmA (fun y4 => ?_)
      refine g_astore dX2_begin_66 (by decide) rfl ?_
      refine g_aload 0 dX2_begin_68 rfl ?_
      refine g_iconst (v := 0) dX2_begin_70 (by decide) ?_
      refine g_callV (fc := fun sς => Row_cut sς y4 (0 : Int32)) (ci := 3) (as := [iv (0 : Int32)]) rfl rfl rfl q1281 q1282 mdX2_67 (ctX3_cut y4 (0 : Int32)) rfl (Nat.le_of_ble_eq_true rfl) (Nat.le_of_ble_eq_true rfl) (Nat.le_of_ble_eq_true rfl) pu_V dX2_begin_71 (fun _ σ5 => ?_)
      refine g_iincB (w := 1) 4 dX2_begin_74 rfl (by decide) (by decide) (fun _ => rfl) (fun y6 => ?_)
      refine g_goto 55 dX2_begin_77 (by decide) ?_
      refine G.sub [2, 3, 4, 0] rfl ?_
      exact gX2_begin_p55 n _ _ _ _ _
def V.Mod_begin_p18  : Nat → HS → Nat → Nat → Int32 → Int32 → Option (Unit × HS)
  | 0, _, _, _, _, _ => none
  | n + 1, σ, x0, x1, x2, x3 =>
    if x2 ≤ x3 then (
      ck (tg σ x0 = 3) <| bn (sI σ x0 18 x2) fun σ1 =>
      ck (tg σ1 x0 = 3) <|
      bn (gR σ1 x0 15) fun y2 =>
      ck (tg σ1 y2 = 104) <|
      bn (nI (ln σ1 y2)) fun y3 =>
      Mod_begin_p55 FU σ1 x0 y2 y3 (0 : Int32))
    else (
      ck (tg σ x0 = 3) <|
      ck (tg σ x1 = 102 ∧ inb x3 (ln σ x1)) <|
      ck (tg σ (gR σ x0 0) = 102 ∧ inb x3 (ln σ (gR σ x0 0))) <| bn (sI σ (gR σ x0 0) (ix x3) (i2b (gI σ x1 (ix x3)))) fun σ4 =>
      bn (x3 + (1 : Int32)) fun y5 =>
      Mod_begin_p18 n σ4 x0 x1 x2 y5)
theorem V.gX2_begin_p18 {X : CX}  : ∀ (n : Nat) (σ : HS) (x0 : Nat) (x1 : Nat) (x2 : Int32) (x3 : Int32), G X RX2 "begin" cX2_begin 7 none 1 21 enV 18 [(0, av x0), (1, av x1), (2, iv x2), (3, iv x3)] [] σ (Mod_begin_p18 n σ x0 x1 x2 x3)
  | 0, σ, x0, x1, x2, x3 => by rw [Mod_begin_p18]; exact G.nul
  | n + 1, σ, x0, x1, x2, x3 => by
    rw [Mod_begin_p18]
    refine g_iload_n 3 3 dX2_begin_18 rfl rfl ?_
    refine g_iload_n 2 2 dX2_begin_19 rfl rfl ?_
    refine g_icmp_ge 38 dX2_begin_20 (by decide) ?_ ?_
    · refine g_aload_n 0 0 dX2_begin_38 rfl rfl ?_
      refine g_iload_n 2 2 dX2_begin_39 rfl rfl ?_
      refine g_putI fpX2_63 dX2_begin_40 (fun σ1 => ?_)
      refine g_aload_n 0 0 dX2_begin_43 rfl rfl ?_
      refine g_getR fdX2_59 dX2_begin_44 ?_
      refine g_nmA (fun y2 => ?_)
      refine g_astore_n 3 dX2_begin_47 rfl (by decide) rfl ?_
      refine g_aload_n 3 0 dX2_begin_48 rfl rfl ?_
      refine g_alen 4 rfl dX2_begin_49 ?_
      refine g_nmI (fun y3 => ?_)
      refine g_istore dX2_begin_50 (by decide) rfl ?_
      refine g_iconst (v := 0) dX2_begin_52 (by decide) ?_
      refine g_istore dX2_begin_53 (by decide) rfl ?_
      refine G.sub [3, 2, 1, 0] rfl ?_
      exact gX2_begin_p55 FU _ _ _ _ _
    · refine g_aload_n 0 0 dX2_begin_23 rfl rfl ?_
      refine g_getR fdX2_7 dX2_begin_24 ?_
      refine g_iload_n 3 3 dX2_begin_27 rfl rfl ?_
      refine g_aload_n 1 1 dX2_begin_28 rfl rfl ?_
      refine g_iload_n 3 3 dX2_begin_29 rfl rfl ?_
      refine g_baload dX2_begin_30 ?_
      refine g_bastore dX2_begin_31 (fun σ4 => ?_)
      refine g_iincB (w := 1) 3 dX2_begin_32 rfl (by decide) (by decide) (fun _ => rfl) (fun y5 => ?_)
      refine g_goto 18 dX2_begin_35 (by decide) ?_
      refine G.sub [1, 2, 3, 0] rfl ?_
      exact gX2_begin_p18 n _ _ _ _ _
def V.Mod_begin_p16  (σ : HS) (x0 : Nat) (x1 : Nat) (x2 : Int32) : Option (Unit × HS) :=
  Mod_begin_p18 FU σ x0 x1 x2 (0 : Int32)
theorem V.gX2_begin_p16 {X : CX}  (σ : HS) (x0 : Nat) (x1 : Nat) (x2 : Int32) : G X RX2 "begin" cX2_begin 7 none 1 21 enV 16 [(0, av x0), (1, av x1), (2, iv x2)] [] σ (Mod_begin_p16 σ x0 x1 x2) := by
  unfold Mod_begin_p16
  refine g_iconst (v := 0) dX2_begin_16 (by decide) ?_
  refine g_istore_n 3 dX2_begin_17 rfl (by decide) rfl ?_
  refine G.sub [1, 2, 3, 0] rfl ?_
  exact gX2_begin_p18 FU _ _ _ _ _
def V.Mod_begin (σ : HS) (x0 : Nat) (x1 : Nat) (x2 : Int32) : Option (Unit × HS) :=
  ck (tg σ x0 = 3) <|
  ck (tg σ (gR σ x0 0) = 102) <|
  if x2 ≤ (nI (ln σ (gR σ x0 0))) then (
    Mod_begin_p16 σ x0 x1 x2)
  else (
    ck (lenok x2) <| newa σ 102 x2 fun a1 σ2 =>
    ck (tg σ2 x0 = 3) <| bn (sR σ2 x0 0 a1) fun σ3 =>
    Mod_begin_p16 σ3 x0 x1 x2)
theorem V.ctX2_begin (x0 : Nat) (x1 : Nat) (x2 : Int32) : Ct yX2_begin  cX2_begin 7 none 1 21 eV [av x0, av x1, iv x2] (fun σ => Mod_begin σ x0 x1 x2) := by
  refine Ct.of (own := RX2) (nm := "begin") (desc := "([BI)V") rfl (by decide) (Nat.le_of_ble_eq_true rfl) (by decide) (fun X σ => ?_)
  show G X RX2 "begin" cX2_begin 7 none 1 21 enV 0 [(0, av x0), (1, av x1), (2, iv x2)] [] σ (Mod_begin σ x0 x1 x2)
  unfold Mod_begin
  refine g_aload_n 0 0 dX2_begin_0 rfl rfl ?_
  refine g_getR fdX2_7 dX2_begin_1 ?_
  refine g_alen 2 rfl dX2_begin_4 ?_
  refine g_iload_n 2 2 dX2_begin_5 rfl rfl ?_
  refine g_icmp_ge 16 dX2_begin_6 (by decide) ?_ ?_
  · exact gX2_begin_p16 _ _ _ _
  · refine g_aload_n 0 0 dX2_begin_9 rfl rfl ?_
    refine g_iload_n 2 2 dX2_begin_10 rfl rfl ?_
    refine g_na_byte dX2_begin_11 (fun a1 σ2 => ?_)
    refine g_putR fpX2_7 rfl dX2_begin_13 (fun σ3 => ?_)
    exact gX2_begin_p16 _ _ _ _
theorem V.dX2_wide_0 : decode cX2_wide 0 = .ok (.iload_n 0, 1) := by decide +kernel
theorem V.dX2_wide_1 : decode cX2_wide 1 = .ok (.i2l, 1) := by decide +kernel
theorem V.dX2_wide_2 : decode cX2_wide 2 = .ok (.ldc2_w 84, 3) := by decide +kernel
theorem V.dX2_wide_5 : decode cX2_wide 5 = .ok (.land, 1) := by decide +kernel
theorem V.dX2_wide_6 : decode cX2_wide 6 = .ok (.lreturn, 1) := by decide +kernel
/-! ModuleEngine$Module.wide(I)J -/
def V.Mod_wide (σ : HS) (x0 : Int32) : Option (Int64 × HS) :=
  some (x0.toInt64 &&& (4294967295 : Int64), σ)
theorem V.ctX2_wide (x0 : Int32) : Ct yX2_wide  cX2_wide 1 (some .long) 0 0 eJ [iv x0] (fun σ => Mod_wide σ x0) := by
  refine Ct.of (own := RX2) (nm := "wide") (desc := "(I)J") rfl (by decide) (Nat.le_of_ble_eq_true rfl) (by decide) (fun X σ => ?_)
  show G X RX2 "wide" cX2_wide 1 (some .long) 0 0 enJ 0 [(0, iv x0)] [] σ (Mod_wide σ x0)
  unfold Mod_wide
  refine g_iload_n 0 0 dX2_wide_0 rfl rfl ?_
  refine g_i2l dX2_wide_1 ?_
  refine g_ldc2 q1378 dX2_wide_2 ?_
  refine g_land dX2_wide_5 ?_
  exact g_lreturn rfl dX2_wide_6
theorem V.dX2_typeCount_0 : decode cX2_typeCount 0 = .ok (.aload_n 0, 1) := by decide +kernel
theorem V.dX2_typeCount_1 : decode cX2_typeCount 1 = .ok (.getfield 16, 3) := by decide +kernel
theorem V.dX2_typeCount_4 : decode cX2_typeCount 4 = .ok (.invokevirtual 86, 3) := by decide +kernel
theorem V.dX2_typeCount_7 : decode cX2_typeCount 7 = .ok (.ireturn, 1) := by decide +kernel
theorem V.mdX2_86 : MD RX2 86 yX3_size cX3_size 1 (some .int) 0 := ⟨Or.inl q1552, q363, q1423, by decide, by decide, by decide +kernel⟩
/-! ModuleEngine$Module.typeCount()I -/
def V.Mod_typeCount (σ : HS) (x0 : Nat) : Option (Int32 × HS) :=
  ck (tg σ x0 = 3) <|
  ck (tg σ (gR σ x0 1) = 4) <| cl (Row_size σ (gR σ x0 1) ) fun r2 σ1 =>
  some (r2, σ1)
theorem V.ctX2_typeCount (x0 : Nat) : Ct yX2_typeCount  cX2_typeCount 1 (some .int) 1 20 eI [av x0] (fun σ => Mod_typeCount σ x0) := by
  refine Ct.of (own := RX2) (nm := "typeCount") (desc := "()I") rfl (by decide) (Nat.le_of_ble_eq_true rfl) (by decide) (fun X σ => ?_)
  show G X RX2 "typeCount" cX2_typeCount 1 (some .int) 1 20 enI 0 [(0, av x0)] [] σ (Mod_typeCount σ x0)
  unfold Mod_typeCount
  refine g_aload_n 0 0 dX2_typeCount_0 rfl rfl ?_
  refine g_getR fdX2_16 dX2_typeCount_1 ?_
  refine g_callV (fc := fun sς => Row_size sς (gR σ x0 1) ) (ci := 3) (as := []) rfl rfl rfl q1421 q1422 mdX2_86 (ctX3_size (gR σ x0 1) ) rfl (Nat.le_of_ble_eq_true rfl) (Nat.le_of_ble_eq_true rfl) (Nat.le_of_ble_eq_true rfl) pu_I dX2_typeCount_4 (fun r2 σ1 => ?_)
  exact g_ireturn rfl dX2_typeCount_7
theorem V.dX2_parameters_0 : decode cX2_parameters 0 = .ok (.aload_n 0, 1) := by decide +kernel
theorem V.dX2_parameters_1 : decode cX2_parameters 1 = .ok (.getfield 20, 3) := by decide +kernel
theorem V.dX2_parameters_4 : decode cX2_parameters 4 = .ok (.aload_n 0, 1) := by decide +kernel
theorem V.dX2_parameters_5 : decode cX2_parameters 5 = .ok (.getfield 16, 3) := by decide +kernel
theorem V.dX2_parameters_8 : decode cX2_parameters 8 = .ok (.iload_n 1, 1) := by decide +kernel
theorem V.dX2_parameters_9 : decode cX2_parameters 9 = .ok (.invokevirtual 89, 3) := by decide +kernel
theorem V.dX2_parameters_12 : decode cX2_parameters 12 = .ok (.invokevirtual 89, 3) := by decide +kernel
theorem V.dX2_parameters_15 : decode cX2_parameters 15 = .ok (.ireturn, 1) := by decide +kernel
theorem V.mdX2_89 : MD RX2 89 yX3_at cX3_at 2 (some .int) 1 := ⟨Or.inl q1561, q363, q1411, by decide, by decide, by decide +kernel⟩
/-! ModuleEngine$Module.parameters(I)I -/
def V.Mod_parameters (σ : HS) (x0 : Nat) (x1 : Int32) : Option (Int32 × HS) :=
  ck (tg σ x0 = 3) <|
  ck (tg σ x0 = 3) <|
  ck (tg σ (gR σ x0 1) = 4) <| cl (Row_at σ (gR σ x0 1) x1) fun r2 σ1 =>
  ck (tg σ1 (gR σ x0 2) = 4) <| cl (Row_at σ1 (gR σ x0 2) r2) fun r4 σ3 =>
  some (r4, σ3)
theorem V.ctX2_parameters (x0 : Nat) (x1 : Int32) : Ct yX2_parameters  cX2_parameters 2 (some .int) 1 21 eI [av x0, iv x1] (fun σ => Mod_parameters σ x0 x1) := by
  refine Ct.of (own := RX2) (nm := "parameters") (desc := "(I)I") rfl (by decide) (Nat.le_of_ble_eq_true rfl) (by decide) (fun X σ => ?_)
  show G X RX2 "parameters" cX2_parameters 2 (some .int) 1 21 enI 0 [(0, av x0), (1, iv x1)] [] σ (Mod_parameters σ x0 x1)
  unfold Mod_parameters
  refine g_aload_n 0 0 dX2_parameters_0 rfl rfl ?_
  refine g_getR fdX2_20 dX2_parameters_1 ?_
  refine g_aload_n 0 0 dX2_parameters_4 rfl rfl ?_
  refine g_getR fdX2_16 dX2_parameters_5 ?_
  refine g_iload_n 1 1 dX2_parameters_8 rfl rfl ?_
  refine g_callV (fc := fun sς => Row_at sς (gR σ x0 1) x1) (ci := 3) (as := [iv x1]) rfl rfl rfl q1409 q1410 mdX2_89 (ctX3_at (gR σ x0 1) x1) rfl (Nat.le_of_ble_eq_true rfl) (Nat.le_of_ble_eq_true rfl) (Nat.le_of_ble_eq_true rfl) pu_I dX2_parameters_9 (fun r2 σ1 => ?_)
  refine g_callV (fc := fun sς => Row_at sς (gR σ x0 2) r2) (ci := 3) (as := [iv r2]) rfl rfl rfl q1409 q1410 mdX2_89 (ctX3_at (gR σ x0 2) r2) rfl (Nat.le_of_ble_eq_true rfl) (Nat.le_of_ble_eq_true rfl) (Nat.le_of_ble_eq_true rfl) pu_I dX2_parameters_12 (fun r4 σ3 => ?_)
  exact g_ireturn rfl dX2_parameters_15
theorem V.dX2_results_0 : decode cX2_results 0 = .ok (.aload_n 0, 1) := by decide +kernel
theorem V.dX2_results_1 : decode cX2_results 1 = .ok (.getfield 20, 3) := by decide +kernel
theorem V.dX2_results_4 : decode cX2_results 4 = .ok (.aload_n 0, 1) := by decide +kernel
theorem V.dX2_results_5 : decode cX2_results 5 = .ok (.getfield 16, 3) := by decide +kernel
theorem V.dX2_results_8 : decode cX2_results 8 = .ok (.iload_n 1, 1) := by decide +kernel
theorem V.dX2_results_9 : decode cX2_results 9 = .ok (.invokevirtual 89, 3) := by decide +kernel
theorem V.dX2_results_12 : decode cX2_results 12 = .ok (.iconst 1, 1) := by decide +kernel
theorem V.dX2_results_13 : decode cX2_results 13 = .ok (.iadd, 1) := by decide +kernel
theorem V.dX2_results_14 : decode cX2_results 14 = .ok (.aload_n 0, 1) := by decide +kernel
theorem V.dX2_results_15 : decode cX2_results 15 = .ok (.iload_n 1, 1) := by decide +kernel
theorem V.dX2_results_16 : decode cX2_results 16 = .ok (.invokevirtual 93, 3) := by decide +kernel
theorem V.dX2_results_19 : decode cX2_results 19 = .ok (.iadd, 1) := by decide +kernel
theorem V.dX2_results_20 : decode cX2_results 20 = .ok (.invokevirtual 89, 3) := by decide +kernel
theorem V.dX2_results_23 : decode cX2_results 23 = .ok (.ireturn, 1) := by decide +kernel
theorem V.mdX2_93 : MD RX2 93 yX2_parameters cX2_parameters 2 (some .int) 1 := ⟨Or.inl q1566, q362, q1560, by decide, by decide, by decide +kernel⟩
/-! ModuleEngine$Module.results(I)I -/
def V.Mod_results (σ : HS) (x0 : Nat) (x1 : Int32) : Option (Int32 × HS) :=
  ck (tg σ x0 = 3) <|
  ck (tg σ x0 = 3) <|
  ck (tg σ (gR σ x0 1) = 4) <| cl (Row_at σ (gR σ x0 1) x1) fun r2 σ1 =>
  ck (tg σ1 x0 = 3) <| cl (Mod_parameters σ1 x0 x1) fun r4 σ3 =>
  ck (tg σ3 (gR σ x0 2) = 4) <| cl (Row_at σ3 (gR σ x0 2) ((r2 + (1 : Int32)) + r4)) fun r6 σ5 =>
  some (r6, σ5)
theorem V.ctX2_results (x0 : Nat) (x1 : Int32) : Ct yX2_results  cX2_results 2 (some .int) 2 42 eI [av x0, iv x1] (fun σ => Mod_results σ x0 x1) := by
  refine Ct.of (own := RX2) (nm := "results") (desc := "(I)I") rfl (by decide) (Nat.le_of_ble_eq_true rfl) (by decide) (fun X σ => ?_)
  show G X RX2 "results" cX2_results 2 (some .int) 2 42 enI 0 [(0, av x0), (1, iv x1)] [] σ (Mod_results σ x0 x1)
  unfold Mod_results
  refine g_aload_n 0 0 dX2_results_0 rfl rfl ?_
  refine g_getR fdX2_20 dX2_results_1 ?_
  refine g_aload_n 0 0 dX2_results_4 rfl rfl ?_
  refine g_getR fdX2_16 dX2_results_5 ?_
  refine g_iload_n 1 1 dX2_results_8 rfl rfl ?_
  refine g_callV (fc := fun sς => Row_at sς (gR σ x0 1) x1) (ci := 3) (as := [iv x1]) rfl rfl rfl q1409 q1410 mdX2_89 (ctX3_at (gR σ x0 1) x1) rfl (Nat.le_of_ble_eq_true rfl) (Nat.le_of_ble_eq_true rfl) (Nat.le_of_ble_eq_true rfl) pu_I dX2_results_9 (fun r2 σ1 => ?_)
  refine g_iconst (v := 1) dX2_results_12 (by decide) ?_
  refine g_iadd dX2_results_13 ?_
  refine g_aload_n 0 0 dX2_results_14 rfl rfl ?_
  refine g_iload_n 1 1 dX2_results_15 rfl rfl ?_
  refine g_callV (fc := fun sς => Mod_parameters sς x0 x1) (ci := 2) (as := [iv x1]) rfl rfl rfl q1558 q1559 mdX2_93 (ctX2_parameters x0 x1) rfl (Nat.le_of_ble_eq_true rfl) (Nat.le_of_ble_eq_true rfl) (Nat.le_of_ble_eq_true rfl) pu_I dX2_results_16 (fun r4 σ3 => ?_)
  refine g_iadd dX2_results_19 ?_
  refine g_callV (fc := fun sς => Row_at sς (gR σ x0 2) ((r2 + (1 : Int32)) + r4)) (ci := 3) (as := [iv ((r2 + (1 : Int32)) + r4)]) rfl rfl rfl q1409 q1410 mdX2_89 (ctX3_at (gR σ x0 2) ((r2 + (1 : Int32)) + r4)) rfl (Nat.le_of_ble_eq_true rfl) (Nat.le_of_ble_eq_true rfl) (Nat.le_of_ble_eq_true rfl) pu_I dX2_results_20 (fun r6 σ5 => ?_)
  exact g_ireturn rfl dX2_results_23
theorem V.dX2_parameter_0 : decode cX2_parameter 0 = .ok (.aload_n 0, 1) := by decide +kernel
theorem V.dX2_parameter_1 : decode cX2_parameter 1 = .ok (.getfield 20, 3) := by decide +kernel
theorem V.dX2_parameter_4 : decode cX2_parameter 4 = .ok (.aload_n 0, 1) := by decide +kernel
theorem V.dX2_parameter_5 : decode cX2_parameter 5 = .ok (.getfield 16, 3) := by decide +kernel
theorem V.dX2_parameter_8 : decode cX2_parameter 8 = .ok (.iload_n 1, 1) := by decide +kernel
theorem V.dX2_parameter_9 : decode cX2_parameter 9 = .ok (.invokevirtual 89, 3) := by decide +kernel
theorem V.dX2_parameter_12 : decode cX2_parameter 12 = .ok (.iconst 1, 1) := by decide +kernel
theorem V.dX2_parameter_13 : decode cX2_parameter 13 = .ok (.iadd, 1) := by decide +kernel
theorem V.dX2_parameter_14 : decode cX2_parameter 14 = .ok (.iload_n 2, 1) := by decide +kernel
theorem V.dX2_parameter_15 : decode cX2_parameter 15 = .ok (.iadd, 1) := by decide +kernel
theorem V.dX2_parameter_16 : decode cX2_parameter 16 = .ok (.invokevirtual 89, 3) := by decide +kernel
theorem V.dX2_parameter_19 : decode cX2_parameter 19 = .ok (.ireturn, 1) := by decide +kernel
/-! ModuleEngine$Module.parameter(II)I -/
def V.Mod_parameter (σ : HS) (x0 : Nat) (x1 : Int32) (x2 : Int32) : Option (Int32 × HS) :=
  ck (tg σ x0 = 3) <|
  ck (tg σ x0 = 3) <|
  ck (tg σ (gR σ x0 1) = 4) <| cl (Row_at σ (gR σ x0 1) x1) fun r2 σ1 =>
  ck (tg σ1 (gR σ x0 2) = 4) <| cl (Row_at σ1 (gR σ x0 2) ((r2 + (1 : Int32)) + x2)) fun r4 σ3 =>
  some (r4, σ3)
theorem V.ctX2_parameter (x0 : Nat) (x1 : Int32) (x2 : Int32) : Ct yX2_parameter  cX2_parameter 3 (some .int) 1 21 eI [av x0, iv x1, iv x2] (fun σ => Mod_parameter σ x0 x1 x2) := by
  refine Ct.of (own := RX2) (nm := "parameter") (desc := "(II)I") rfl (by decide) (Nat.le_of_ble_eq_true rfl) (by decide) (fun X σ => ?_)
  show G X RX2 "parameter" cX2_parameter 3 (some .int) 1 21 enI 0 [(0, av x0), (1, iv x1), (2, iv x2)] [] σ (Mod_parameter σ x0 x1 x2)
  unfold Mod_parameter
  refine g_aload_n 0 0 dX2_parameter_0 rfl rfl ?_
  refine g_getR fdX2_20 dX2_parameter_1 ?_
  refine g_aload_n 0 0 dX2_parameter_4 rfl rfl ?_
  refine g_getR fdX2_16 dX2_parameter_5 ?_
  refine g_iload_n 1 1 dX2_parameter_8 rfl rfl ?_
  refine g_callV (fc := fun sς => Row_at sς (gR σ x0 1) x1) (ci := 3) (as := [iv x1]) rfl rfl rfl q1409 q1410 mdX2_89 (ctX3_at (gR σ x0 1) x1) rfl (Nat.le_of_ble_eq_true rfl) (Nat.le_of_ble_eq_true rfl) (Nat.le_of_ble_eq_true rfl) pu_I dX2_parameter_9 (fun r2 σ1 => ?_)
  refine g_iconst (v := 1) dX2_parameter_12 (by decide) ?_
  refine g_iadd dX2_parameter_13 ?_
  refine g_iload_n 2 2 dX2_parameter_14 rfl rfl ?_
  refine g_iadd dX2_parameter_15 ?_
  refine g_callV (fc := fun sς => Row_at sς (gR σ x0 2) ((r2 + (1 : Int32)) + x2)) (ci := 3) (as := [iv ((r2 + (1 : Int32)) + x2)]) rfl rfl rfl q1409 q1410 mdX2_89 (ctX3_at (gR σ x0 2) ((r2 + (1 : Int32)) + x2)) rfl (Nat.le_of_ble_eq_true rfl) (Nat.le_of_ble_eq_true rfl) (Nat.le_of_ble_eq_true rfl) pu_I dX2_parameter_16 (fun r4 σ3 => ?_)
  exact g_ireturn rfl dX2_parameter_19
theorem V.dX2_result_0 : decode cX2_result 0 = .ok (.aload_n 0, 1) := by decide +kernel
theorem V.dX2_result_1 : decode cX2_result 1 = .ok (.getfield 20, 3) := by decide +kernel
theorem V.dX2_result_4 : decode cX2_result 4 = .ok (.aload_n 0, 1) := by decide +kernel
theorem V.dX2_result_5 : decode cX2_result 5 = .ok (.getfield 16, 3) := by decide +kernel
theorem V.dX2_result_8 : decode cX2_result 8 = .ok (.iload_n 1, 1) := by decide +kernel
theorem V.dX2_result_9 : decode cX2_result 9 = .ok (.invokevirtual 89, 3) := by decide +kernel
theorem V.dX2_result_12 : decode cX2_result 12 = .ok (.iconst 2, 1) := by decide +kernel
theorem V.dX2_result_13 : decode cX2_result 13 = .ok (.iadd, 1) := by decide +kernel
theorem V.dX2_result_14 : decode cX2_result 14 = .ok (.aload_n 0, 1) := by decide +kernel
theorem V.dX2_result_15 : decode cX2_result 15 = .ok (.iload_n 1, 1) := by decide +kernel
theorem V.dX2_result_16 : decode cX2_result 16 = .ok (.invokevirtual 93, 3) := by decide +kernel
theorem V.dX2_result_19 : decode cX2_result 19 = .ok (.iadd, 1) := by decide +kernel
theorem V.dX2_result_20 : decode cX2_result 20 = .ok (.iload_n 2, 1) := by decide +kernel
theorem V.dX2_result_21 : decode cX2_result 21 = .ok (.iadd, 1) := by decide +kernel
theorem V.dX2_result_22 : decode cX2_result 22 = .ok (.invokevirtual 89, 3) := by decide +kernel
theorem V.dX2_result_25 : decode cX2_result 25 = .ok (.ireturn, 1) := by decide +kernel
/-! ModuleEngine$Module.result(II)I -/
def V.Mod_result (σ : HS) (x0 : Nat) (x1 : Int32) (x2 : Int32) : Option (Int32 × HS) :=
  ck (tg σ x0 = 3) <|
  ck (tg σ x0 = 3) <|
  ck (tg σ (gR σ x0 1) = 4) <| cl (Row_at σ (gR σ x0 1) x1) fun r2 σ1 =>
  ck (tg σ1 x0 = 3) <| cl (Mod_parameters σ1 x0 x1) fun r4 σ3 =>
  ck (tg σ3 (gR σ x0 2) = 4) <| cl (Row_at σ3 (gR σ x0 2) (((r2 + (2 : Int32)) + r4) + x2)) fun r6 σ5 =>
  some (r6, σ5)
theorem V.ctX2_result (x0 : Nat) (x1 : Int32) (x2 : Int32) : Ct yX2_result  cX2_result 3 (some .int) 2 42 eI [av x0, iv x1, iv x2] (fun σ => Mod_result σ x0 x1 x2) := by
  refine Ct.of (own := RX2) (nm := "result") (desc := "(II)I") rfl (by decide) (Nat.le_of_ble_eq_true rfl) (by decide) (fun X σ => ?_)
  show G X RX2 "result" cX2_result 3 (some .int) 2 42 enI 0 [(0, av x0), (1, iv x1), (2, iv x2)] [] σ (Mod_result σ x0 x1 x2)
  unfold Mod_result
  refine g_aload_n 0 0 dX2_result_0 rfl rfl ?_
  refine g_getR fdX2_20 dX2_result_1 ?_
  refine g_aload_n 0 0 dX2_result_4 rfl rfl ?_
  refine g_getR fdX2_16 dX2_result_5 ?_
  refine g_iload_n 1 1 dX2_result_8 rfl rfl ?_
  refine g_callV (fc := fun sς => Row_at sς (gR σ x0 1) x1) (ci := 3) (as := [iv x1]) rfl rfl rfl q1409 q1410 mdX2_89 (ctX3_at (gR σ x0 1) x1) rfl (Nat.le_of_ble_eq_true rfl) (Nat.le_of_ble_eq_true rfl) (Nat.le_of_ble_eq_true rfl) pu_I dX2_result_9 (fun r2 σ1 => ?_)
  refine g_iconst (v := 2) dX2_result_12 (by decide) ?_
  refine g_iadd dX2_result_13 ?_
  refine g_aload_n 0 0 dX2_result_14 rfl rfl ?_
  refine g_iload_n 1 1 dX2_result_15 rfl rfl ?_
  refine g_callV (fc := fun sς => Mod_parameters sς x0 x1) (ci := 2) (as := [iv x1]) rfl rfl rfl q1558 q1559 mdX2_93 (ctX2_parameters x0 x1) rfl (Nat.le_of_ble_eq_true rfl) (Nat.le_of_ble_eq_true rfl) (Nat.le_of_ble_eq_true rfl) pu_I dX2_result_16 (fun r4 σ3 => ?_)
  refine g_iadd dX2_result_19 ?_
  refine g_iload_n 2 2 dX2_result_20 rfl rfl ?_
  refine g_iadd dX2_result_21 ?_
  refine g_callV (fc := fun sς => Row_at sς (gR σ x0 2) (((r2 + (2 : Int32)) + r4) + x2)) (ci := 3) (as := [iv (((r2 + (2 : Int32)) + r4) + x2)]) rfl rfl rfl q1409 q1410 mdX2_89 (ctX3_at (gR σ x0 2) (((r2 + (2 : Int32)) + r4) + x2)) rfl (Nat.le_of_ble_eq_true rfl) (Nat.le_of_ble_eq_true rfl) (Nat.le_of_ble_eq_true rfl) pu_I dX2_result_22 (fun r6 σ5 => ?_)
  exact g_ireturn rfl dX2_result_25
theorem V.dX12_init_0 : decode cX12_init 0 = .ok (.aload_n 0, 1) := by decide +kernel
theorem V.dX12_init_1 : decode cX12_init 1 = .ok (.invokespecial 1, 3) := by decide +kernel
theorem V.dX12_init_4 : decode cX12_init 4 = .ok (.aload_n 0, 1) := by decide +kernel
theorem V.dX12_init_5 : decode cX12_init 5 = .ok (.new 7, 3) := by decide +kernel
theorem V.dX12_init_8 : decode cX12_init 8 = .ok (.dup, 1) := by decide +kernel
theorem V.dX12_init_9 : decode cX12_init 9 = .ok (.invokespecial 9, 3) := by decide +kernel
theorem V.dX12_init_12 : decode cX12_init 12 = .ok (.putfield 10, 3) := by decide +kernel
theorem V.dX12_init_15 : decode cX12_init 15 = .ok (.return_, 1) := by decide +kernel
theorem V.ndX12_7 : ND RX12 7 3 2 := ⟨(RX3, TX3, 2), tyX3, rfl, rfl, in_X3, tyX3_ok, by decide, q877, q409, q363⟩
theorem V.mdX12_9 : MD RX12 9 yX3_init cX3_init 1 none 0 := ⟨Or.inr ⟨_, q878⟩, q363, q412, by decide, by decide, by decide +kernel⟩
theorem V.fpX12_10 : FP RX12 "<init>" 10 12 7 (.object "ModuleEngine$Row") := ⟨(RX12, TX12, 8), tyX12, rfl, rfl, in_X12, by decide, tyX12_ok, nmX12, rfl, Or.inr ⟨rfl, rfl, rfl, q895⟩⟩
/-! ModuleEngine$Walker.<init>()V -/
def V.Wlk_init (σ : HS) (x0 : Nat) : Option (Unit × HS) :=
  ck (¬ x0 = 0) <|
  newr σ fun a1 σ2 =>
  ck (tg σ2 x0 = 13) <| bn (sR σ2 x0 7 a1) fun σ3 =>
  some ((), σ3)
theorem V.ctX12_init (x0 : Nat) : Ct yX12_init  cX12_init 1 none 2 44 eV [av x0] (fun σ => Wlk_init σ x0) := by
  refine Ct.of (own := RX12) (nm := "<init>") (desc := "()V") rfl (by decide) (Nat.le_of_ble_eq_true rfl) (by decide) (fun X σ => ?_)
  show G X RX12 "<init>" cX12_init 1 none 2 44 enV 0 [(0, av x0)] [] σ (Wlk_init σ x0)
  unfold Wlk_init
  refine g_aload_n 0 0 dX12_init_0 rfl rfl ?_
  refine g_objInit q876 (Nat.le_of_ble_eq_true rfl) (Nat.le_of_ble_eq_true rfl) dX12_init_1 ?_
  refine g_aload_n 0 0 dX12_init_4 rfl rfl ?_
  refine g_newr ndX12_7 q411 mdX12_9 (Nat.le_of_ble_eq_true rfl) (Nat.le_of_ble_eq_true rfl) (Nat.le_of_ble_eq_true rfl) dX12_init_5 dX12_init_8 dX12_init_9 (fun a1 σ2 => ?_)
  refine g_putR fpX12_10 rfl dX12_init_12 (fun σ3 => ?_)
  exact g_return rfl dX12_init_15
theorem V.dX12_over_0 : decode cX12_over 0 = .ok (.aload_n 0, 1) := by decide +kernel
theorem V.dX12_over_1 : decode cX12_over 1 = .ok (.aload_n 1, 1) := by decide +kernel
theorem V.dX12_over_2 : decode cX12_over 2 = .ok (.putfield 16, 3) := by decide +kernel
theorem V.dX12_over_5 : decode cX12_over 5 = .ok (.return_, 1) := by decide +kernel
theorem V.fpX12_16 {nm : String} : FP RX12 nm 16 12 0 (.array .byte) := ⟨(RX12, TX12, 8), tyX12, rfl, rfl, in_X12, by decide, tyX12_ok, nmX12, rfl, Or.inl ⟨rfl, Or.inl q879⟩⟩
/-! ModuleEngine$Walker.over([B)V -/
def V.Wlk_over (σ : HS) (x0 : Nat) (x1 : Nat) : Option (Unit × HS) :=
  ck (tg σ x0 = 13) <| bn (sR σ x0 0 x1) fun σ1 =>
  some ((), σ1)
theorem V.ctX12_over (x0 : Nat) (x1 : Nat) : Ct yX12_over  cX12_over 2 none 0 0 eV [av x0, av x1] (fun σ => Wlk_over σ x0 x1) := by
  refine Ct.of (own := RX12) (nm := "over") (desc := "([B)V") rfl (by decide) (Nat.le_of_ble_eq_true rfl) (by decide) (fun X σ => ?_)
  show G X RX12 "over" cX12_over 2 none 0 0 enV 0 [(0, av x0), (1, av x1)] [] σ (Wlk_over σ x0 x1)
  unfold Wlk_over
  refine g_aload_n 0 0 dX12_over_0 rfl rfl ?_
  refine g_aload_n 1 1 dX12_over_1 rfl rfl ?_
  refine g_putR fpX12_16 rfl dX12_over_2 (fun σ1 => ?_)
  exact g_return rfl dX12_over_5
theorem V.dX12_go_0 : decode cX12_go 0 = .ok (.aload_n 0, 1) := by decide +kernel
theorem V.dX12_go_1 : decode cX12_go 1 = .ok (.iload_n 1, 1) := by decide +kernel
theorem V.dX12_go_2 : decode cX12_go 2 = .ok (.putfield 20, 3) := by decide +kernel
theorem V.dX12_go_5 : decode cX12_go 5 = .ok (.return_, 1) := by decide +kernel
theorem V.fpX12_20 {nm : String} : FP RX12 nm 20 12 1 (.int) := ⟨(RX12, TX12, 8), tyX12, rfl, rfl, in_X12, by decide, tyX12_ok, nmX12, rfl, Or.inl ⟨rfl, Or.inl q880⟩⟩
/-! ModuleEngine$Walker.go(I)V -/
def V.Wlk_go (σ : HS) (x0 : Nat) (x1 : Int32) : Option (Unit × HS) :=
  ck (tg σ x0 = 13) <| bn (sI σ x0 1 x1) fun σ1 =>
  some ((), σ1)
theorem V.ctX12_go (x0 : Nat) (x1 : Int32) : Ct yX12_go  cX12_go 2 none 0 0 eV [av x0, iv x1] (fun σ => Wlk_go σ x0 x1) := by
  refine Ct.of (own := RX12) (nm := "go") (desc := "(I)V") rfl (by decide) (Nat.le_of_ble_eq_true rfl) (by decide) (fun X σ => ?_)
  show G X RX12 "go" cX12_go 2 none 0 0 enV 0 [(0, av x0), (1, iv x1)] [] σ (Wlk_go σ x0 x1)
  unfold Wlk_go
  refine g_aload_n 0 0 dX12_go_0 rfl rfl ?_
  refine g_iload_n 1 1 dX12_go_1 rfl rfl ?_
  refine g_putI fpX12_20 dX12_go_2 (fun σ1 => ?_)
  exact g_return rfl dX12_go_5
theorem V.dX12_take_0 : decode cX12_take 0 = .ok (.aload_n 0, 1) := by decide +kernel
theorem V.dX12_take_1 : decode cX12_take 1 = .ok (.dup, 1) := by decide +kernel
theorem V.dX12_take_2 : decode cX12_take 2 = .ok (.getfield 20, 3) := by decide +kernel
theorem V.dX12_take_5 : decode cX12_take 5 = .ok (.iconst 1, 1) := by decide +kernel
theorem V.dX12_take_6 : decode cX12_take 6 = .ok (.iadd, 1) := by decide +kernel
theorem V.dX12_take_7 : decode cX12_take 7 = .ok (.putfield 20, 3) := by decide +kernel
theorem V.dX12_take_10 : decode cX12_take 10 = .ok (.aload_n 0, 1) := by decide +kernel
theorem V.dX12_take_11 : decode cX12_take 11 = .ok (.getfield 16, 3) := by decide +kernel
theorem V.dX12_take_14 : decode cX12_take 14 = .ok (.aload_n 0, 1) := by decide +kernel
theorem V.dX12_take_15 : decode cX12_take 15 = .ok (.getfield 20, 3) := by decide +kernel
theorem V.dX12_take_18 : decode cX12_take 18 = .ok (.iconst 1, 1) := by decide +kernel
theorem V.dX12_take_19 : decode cX12_take 19 = .ok (.isub, 1) := by decide +kernel
theorem V.dX12_take_20 : decode cX12_take 20 = .ok (.baload, 1) := by decide +kernel
theorem V.dX12_take_21 : decode cX12_take 21 = .ok (.sipush 255, 3) := by decide +kernel
theorem V.dX12_take_24 : decode cX12_take 24 = .ok (.iand, 1) := by decide +kernel
theorem V.dX12_take_25 : decode cX12_take 25 = .ok (.ireturn, 1) := by decide +kernel
theorem V.fdX12_20 : FD RX12 20 12 1 0 := ⟨(RX12, TX12, 8), tyX12, rfl, rfl, in_X12, by decide, Or.inl q880, rfl⟩
theorem V.fdX12_16 : FD RX12 16 12 0 2 := ⟨(RX12, TX12, 8), tyX12, rfl, rfl, in_X12, by decide, Or.inl q879, rfl⟩
/-! ModuleEngine$Walker.take()I -/
def V.Wlk_take (σ : HS) (x0 : Nat) : Option (Int32 × HS) :=
  ck (tg σ x0 = 13) <|
  ck (tg σ x0 = 13) <| bn (sI σ x0 1 ((gI σ x0 1) + (1 : Int32))) fun σ1 =>
  ck (tg σ1 x0 = 13) <|
  ck (tg σ1 x0 = 13) <|
  ck (tg σ1 (gR σ1 x0 0) = 102 ∧ inb ((gI σ1 x0 1) - (1 : Int32)) (ln σ1 (gR σ1 x0 0))) <|
  some ((gI σ1 (gR σ1 x0 0) (ix ((gI σ1 x0 1) - (1 : Int32)))) &&& (255 : Int32), σ1)
theorem V.ctX12_take (x0 : Nat) : Ct yX12_take  cX12_take 1 (some .int) 0 0 eI [av x0] (fun σ => Wlk_take σ x0) := by
  refine Ct.of (own := RX12) (nm := "take") (desc := "()I") rfl (by decide) (Nat.le_of_ble_eq_true rfl) (by decide) (fun X σ => ?_)
  show G X RX12 "take" cX12_take 1 (some .int) 0 0 enI 0 [(0, av x0)] [] σ (Wlk_take σ x0)
  unfold Wlk_take
  refine g_aload_n 0 0 dX12_take_0 rfl rfl ?_
  refine g_dup dX12_take_1 rfl ?_
  refine g_getI fdX12_20 dX12_take_2 ?_
  refine g_iconst (v := 1) dX12_take_5 (by decide) ?_
  refine g_iadd dX12_take_6 ?_
  refine g_putI fpX12_20 dX12_take_7 (fun σ1 => ?_)
  refine g_aload_n 0 0 dX12_take_10 rfl rfl ?_
  refine g_getR fdX12_16 dX12_take_11 ?_
  refine g_aload_n 0 0 dX12_take_14 rfl rfl ?_
  refine g_getI fdX12_20 dX12_take_15 ?_
  refine g_iconst (v := 1) dX12_take_18 (by decide) ?_
  refine g_isub dX12_take_19 ?_
  refine g_baload dX12_take_20 ?_
  refine g_sipush (v := 255) dX12_take_21 (by decide) ?_
  refine g_iand dX12_take_24 ?_
  exact g_ireturn rfl dX12_take_25
theorem V.dX12_number_0 : decode cX12_number 0 = .ok (.lconst 0, 1) := by decide +kernel
theorem V.dX12_number_1 : decode cX12_number 1 = .ok (.lstore_n 2, 1) := by decide +kernel
theorem V.dX12_number_2 : decode cX12_number 2 = .ok (.iconst 0, 1) := by decide +kernel
theorem V.dX12_number_3 : decode cX12_number 3 = .ok (.istore 4, 2) := by decide +kernel
theorem V.dX12_number_5 : decode cX12_number 5 = .ok (.sipush 128, 3) := by decide +kernel
theorem V.dX12_number_8 : decode cX12_number 8 = .ok (.istore 5, 2) := by decide +kernel
theorem V.dX12_number_10 : decode cX12_number 10 = .ok (.iload 5, 2) := by decide +kernel
theorem V.dX12_number_12 : decode cX12_number 12 = .ok (.bipush 127, 2) := by decide +kernel
theorem V.dX12_number_14 : decode cX12_number 14 = .ok (.if_icmp .le 27, 3) := by decide +kernel
theorem V.dX12_number_17 : decode cX12_number 17 = .ok (.aload_n 0, 1) := by decide +kernel
theorem V.dX12_number_18 : decode cX12_number 18 = .ok (.invokevirtual 24, 3) := by decide +kernel
theorem V.dX12_number_21 : decode cX12_number 21 = .ok (.istore 5, 2) := by decide +kernel
theorem V.dX12_number_23 : decode cX12_number 23 = .ok (.lload_n 2, 1) := by decide +kernel
theorem V.dX12_number_24 : decode cX12_number 24 = .ok (.iload 5, 2) := by decide +kernel
theorem V.dX12_number_26 : decode cX12_number 26 = .ok (.bipush 127, 2) := by decide +kernel
theorem V.dX12_number_28 : decode cX12_number 28 = .ok (.iand, 1) := by decide +kernel
theorem V.dX12_number_29 : decode cX12_number 29 = .ok (.i2l, 1) := by decide +kernel
theorem V.dX12_number_30 : decode cX12_number 30 = .ok (.iload 4, 2) := by decide +kernel
theorem V.dX12_number_32 : decode cX12_number 32 = .ok (.lshl, 1) := by decide +kernel
theorem V.dX12_number_33 : decode cX12_number 33 = .ok (.lor, 1) := by decide +kernel
theorem V.dX12_number_34 : decode cX12_number 34 = .ok (.lstore_n 2, 1) := by decide +kernel
theorem V.dX12_number_35 : decode cX12_number 35 = .ok (.iinc 4 7, 3) := by decide +kernel
theorem V.dX12_number_38 : decode cX12_number 38 = .ok (.goto (-28), 3) := by decide +kernel
theorem V.dX12_number_41 : decode cX12_number 41 = .ok (.iload_n 1, 1) := by decide +kernel
theorem V.dX12_number_42 : decode cX12_number 42 = .ok (.ifCond .eq 29, 3) := by decide +kernel
theorem V.dX12_number_45 : decode cX12_number 45 = .ok (.iload 4, 2) := by decide +kernel
theorem V.dX12_number_47 : decode cX12_number 47 = .ok (.bipush 64, 2) := by decide +kernel
theorem V.dX12_number_49 : decode cX12_number 49 = .ok (.if_icmp .ge 22, 3) := by decide +kernel
theorem V.dX12_number_52 : decode cX12_number 52 = .ok (.iload 5, 2) := by decide +kernel
theorem V.dX12_number_54 : decode cX12_number 54 = .ok (.bipush 64, 2) := by decide +kernel
theorem V.dX12_number_56 : decode cX12_number 56 = .ok (.iand, 1) := by decide +kernel
theorem V.dX12_number_57 : decode cX12_number 57 = .ok (.ifCond .eq 14, 3) := by decide +kernel
theorem V.dX12_number_60 : decode cX12_number 60 = .ok (.lload_n 2, 1) := by decide +kernel
theorem V.dX12_number_61 : decode cX12_number 61 = .ok (.ldc2_w 28, 3) := by decide +kernel
theorem V.dX12_number_64 : decode cX12_number 64 = .ok (.iload 4, 2) := by decide +kernel
theorem V.dX12_number_66 : decode cX12_number 66 = .ok (.lshl, 1) := by decide +kernel
theorem V.dX12_number_67 : decode cX12_number 67 = .ok (.lor, 1) := by decide +kernel
theorem V.dX12_number_68 : decode cX12_number 68 = .ok (.goto 4, 3) := by decide +kernel
theorem V.dX12_number_71 : decode cX12_number 71 = .ok (.lload_n 2, 1) := by decide +kernel
theorem V.dX12_number_72 : decode cX12_number 72 = .ok (.lreturn, 1) := by decide +kernel
theorem V.mdX12_24 : MD RX12 24 yX12_take cX12_take 1 (some .int) 0 := ⟨Or.inl q1583, q372, q1586, by decide, by decide, by decide +kernel⟩
/-! ModuleEngine$Walker.number(Z)J -/
def V.Wlk_number_p10  : Nat → HS → Nat → Int32 → Int64 → Int32 → Int32 → Option (Int64 × HS)
  | 0, _, _, _, _, _, _ => none
  | n + 1, σ, x0, x1, x2, x4, x5 =>
    if x5 ≤ (127 : Int32) then (
      if x1 = 0 then (
        some (x2, σ))
      else (
        if (64 : Int32) ≤ x4 then (
          some (x2, σ))
        else (
          if (x5 &&& (64 : Int32)) = 0 then (
            some (x2, σ))
          else (
            some (x2 ||| (lshl (-1 : Int64) x4), σ)))))
    else (
      ck (tg σ x0 = 13) <| cl (Wlk_take σ x0 ) fun r2 σ1 =>
      bn (x2 ||| (lshl ((r2 &&& (127 : Int32)).toInt64) x4)) fun y3 =>
      bn (x4 + (7 : Int32)) fun y4 =>
      Wlk_number_p10 n σ1 x0 x1 y3 y4 r2)
theorem V.gX12_number_p10 {X : CX}  : ∀ (n : Nat) (σ : HS) (x0 : Nat) (x1 : Int32) (x2 : Int64) (x4 : Int32) (x5 : Int32), G X RX12 "number" cX12_number 6 (some .long) 1 20 enJ 10 [(0, av x0), (1, iv x1), (2, jv x2), (4, iv x4), (5, iv x5)] [] σ (Wlk_number_p10 n σ x0 x1 x2 x4 x5)
  | 0, σ, x0, x1, x2, x4, x5 => by rw [Wlk_number_p10]; exact G.nul
  | n + 1, σ, x0, x1, x2, x4, x5 => by
    rw [Wlk_number_p10]
    refine g_iload 4 dX12_number_10 rfl ?_
    refine g_bipush (v := 127) dX12_number_12 (by decide) ?_
    refine g_icmp_le 41 dX12_number_14 (by decide) ?_ ?_
    · refine g_iload_n 1 1 dX12_number_41 rfl rfl ?_
      refine g_if_eq 71 dX12_number_42 (by decide) ?_ ?_
      · refine g_lload_n 2 2 dX12_number_71 rfl rfl ?_
        exact g_lreturn rfl dX12_number_72
      · refine g_iload 3 dX12_number_45 rfl ?_
        refine g_bipush (v := 64) dX12_number_47 (by decide) ?_
        refine g_icmp_ge 71 dX12_number_49 (by decide) ?_ ?_
        · refine g_lload_n 2 2 dX12_number_71 rfl rfl ?_
          exact g_lreturn rfl dX12_number_72
        · refine g_iload 4 dX12_number_52 rfl ?_
          refine g_bipush (v := 64) dX12_number_54 (by decide) ?_
          refine g_iand dX12_number_56 ?_
          refine g_if_eq 71 dX12_number_57 (by decide) ?_ ?_
          · refine g_lload_n 2 2 dX12_number_71 rfl rfl ?_
            exact g_lreturn rfl dX12_number_72
          · refine g_lload_n 2 2 dX12_number_60 rfl rfl ?_
            refine g_ldc2 q1587 dX12_number_61 ?_
            refine g_iload 3 dX12_number_64 rfl ?_
            refine g_lshl dX12_number_66 ?_
            refine g_lor dX12_number_67 ?_
            refine g_goto 72 dX12_number_68 (by decide) ?_
            exact g_lreturn rfl dX12_number_72
    · refine g_aload_n 0 0 dX12_number_17 rfl rfl ?_
      refine g_callV (fc := fun sς => Wlk_take sς x0 ) (ci := 12) (as := []) rfl rfl rfl q1585 qs41 mdX12_24 (ctX12_take x0 ) rfl (Nat.le_of_ble_eq_true rfl) (Nat.le_of_ble_eq_true rfl) (Nat.le_of_ble_eq_true rfl) pu_I dX12_number_18 (fun r2 σ1 => ?_)
      refine g_istore dX12_number_21 (by decide) rfl ?_
      refine g_lload_n 2 3 dX12_number_23 rfl rfl ?_
      refine g_iload 0 dX12_number_24 rfl ?_
      refine g_bipush (v := 127) dX12_number_26 (by decide) ?_
      refine g_iand dX12_number_28 ?_
      refine g_i2l dX12_number_29 ?_
      refine g_iload 4 dX12_number_30 rfl ?_
      refine g_lshl dX12_number_32 ?_
      refine g_lor dX12_number_33 ?_
      refine g_nmJ (fun y3 => ?_)
      refine g_lstore_n 2 dX12_number_34 rfl (by decide) rfl ?_
      refine g_iincB (w := 7) 4 dX12_number_35 rfl (by decide) (by decide) (fun _ => rfl) (fun y4 => ?_)
      refine g_goto 10 dX12_number_38 (by decide) ?_
      refine G.sub [3, 4, 1, 0, 2] rfl ?_
      exact gX12_number_p10 n _ _ _ _ _ _
def V.Wlk_number (σ : HS) (x0 : Nat) (x1 : Int32) : Option (Int64 × HS) :=
  Wlk_number_p10 FU σ x0 x1 (0 : Int64) (0 : Int32) (128 : Int32)
theorem V.ctX12_number (x0 : Nat) (x1 : Int32) : Ct yX12_number  cX12_number 6 (some .long) 1 20 eJ [av x0, iv x1] (fun σ => Wlk_number σ x0 x1) := by
  refine Ct.of (own := RX12) (nm := "number") (desc := "(Z)J") rfl (by decide) (Nat.le_of_ble_eq_true rfl) (by decide) (fun X σ => ?_)
  show G X RX12 "number" cX12_number 6 (some .long) 1 20 enJ 0 [(0, av x0), (1, iv x1)] [] σ (Wlk_number σ x0 x1)
  unfold Wlk_number
  refine g_lconst (v := 0) dX12_number_0 (by decide) ?_
  refine g_lstore_n 2 dX12_number_1 rfl (by decide) rfl ?_
  refine g_iconst (v := 0) dX12_number_2 (by decide) ?_
  refine g_istore dX12_number_3 (by decide) rfl ?_
  refine g_sipush (v := 128) dX12_number_5 (by decide) ?_
  refine g_istore dX12_number_8 (by decide) rfl ?_
  refine G.sub [3, 4, 2, 1, 0] rfl ?_
  exact gX12_number_p10 FU _ _ _ _ _ _
theorem V.dX12_whole_0 : decode cX12_whole 0 = .ok (.aload_n 0, 1) := by decide +kernel
theorem V.dX12_whole_1 : decode cX12_whole 1 = .ok (.iconst 0, 1) := by decide +kernel
theorem V.dX12_whole_2 : decode cX12_whole 2 = .ok (.invokevirtual 30, 3) := by decide +kernel
theorem V.dX12_whole_5 : decode cX12_whole 5 = .ok (.l2i, 1) := by decide +kernel
theorem V.dX12_whole_6 : decode cX12_whole 6 = .ok (.ireturn, 1) := by decide +kernel
theorem V.mdX12_30 : MD RX12 30 yX12_number cX12_number 6 (some .long) 1 := ⟨Or.inl q1579, q372, q1582, by decide, by decide, by decide +kernel⟩
/-! ModuleEngine$Walker.whole()I -/
def V.Wlk_whole (σ : HS) (x0 : Nat) : Option (Int32 × HS) :=
  ck (tg σ x0 = 13) <| cl (Wlk_number σ x0 (0 : Int32)) fun r2 σ1 =>
  some (r2.toInt32, σ1)
theorem V.ctX12_whole (x0 : Nat) : Ct yX12_whole  cX12_whole 1 (some .int) 2 45 eI [av x0] (fun σ => Wlk_whole σ x0) := by
  refine Ct.of (own := RX12) (nm := "whole") (desc := "()I") rfl (by decide) (Nat.le_of_ble_eq_true rfl) (by decide) (fun X σ => ?_)
  show G X RX12 "whole" cX12_whole 1 (some .int) 2 45 enI 0 [(0, av x0)] [] σ (Wlk_whole σ x0)
  unfold Wlk_whole
  refine g_aload_n 0 0 dX12_whole_0 rfl rfl ?_
  refine g_iconst (v := 0) dX12_whole_1 (by decide) ?_
  refine g_callV (fc := fun sς => Wlk_number sς x0 (0 : Int32)) (ci := 12) (as := [iv (0 : Int32)]) rfl rfl rfl q1581 qs40 mdX12_30 (ctX12_number x0 (0 : Int32)) rfl (Nat.le_of_ble_eq_true rfl) (Nat.le_of_ble_eq_true rfl) (Nat.le_of_ble_eq_true rfl) pu_J dX12_whole_2 (fun r2 σ1 => ?_)
  refine g_l2i dX12_whole_5 ?_
  exact g_ireturn rfl dX12_whole_6
theorem V.dX12_wholes_0 : decode cX12_wholes 0 = .ok (.aload_n 0, 1) := by decide +kernel
theorem V.dX12_wholes_1 : decode cX12_wholes 1 = .ok (.getfield 10, 3) := by decide +kernel
theorem V.dX12_wholes_4 : decode cX12_wholes 4 = .ok (.iconst 0, 1) := by decide +kernel
theorem V.dX12_wholes_5 : decode cX12_wholes 5 = .ok (.invokevirtual 55, 3) := by decide +kernel
theorem V.dX12_wholes_8 : decode cX12_wholes 8 = .ok (.aload_n 0, 1) := by decide +kernel
theorem V.dX12_wholes_9 : decode cX12_wholes 9 = .ok (.invokevirtual 49, 3) := by decide +kernel
theorem V.dX12_wholes_12 : decode cX12_wholes 12 = .ok (.istore_n 1, 1) := by decide +kernel
theorem V.dX12_wholes_13 : decode cX12_wholes 13 = .ok (.iload_n 1, 1) := by decide +kernel
theorem V.dX12_wholes_14 : decode cX12_wholes 14 = .ok (.ifCond .eq 20, 3) := by decide +kernel
theorem V.dX12_wholes_17 : decode cX12_wholes 17 = .ok (.aload_n 0, 1) := by decide +kernel
theorem V.dX12_wholes_18 : decode cX12_wholes 18 = .ok (.getfield 10, 3) := by decide +kernel
theorem V.dX12_wholes_21 : decode cX12_wholes 21 = .ok (.aload_n 0, 1) := by decide +kernel
theorem V.dX12_wholes_22 : decode cX12_wholes 22 = .ok (.invokevirtual 49, 3) := by decide +kernel
theorem V.dX12_wholes_25 : decode cX12_wholes 25 = .ok (.invokevirtual 59, 3) := by decide +kernel
theorem V.dX12_wholes_28 : decode cX12_wholes 28 = .ok (.iinc 1 (-1), 3) := by decide +kernel
theorem V.dX12_wholes_31 : decode cX12_wholes 31 = .ok (.goto (-18), 3) := by decide +kernel
theorem V.dX12_wholes_34 : decode cX12_wholes 34 = .ok (.return_, 1) := by decide +kernel
theorem V.fdX12_10 : FD RX12 10 12 7 2 := ⟨(RX12, TX12, 8), tyX12, rfl, rfl, in_X12, by decide, Or.inl q895, rfl⟩
theorem V.mdX12_55 : MD RX12 55 yX3_cut cX3_cut 2 none 1 := ⟨Or.inl q1619, q363, q1283, by decide, by decide, by decide +kernel⟩
theorem V.mdX12_49 : MD RX12 49 yX12_whole cX12_whole 1 (some .int) 0 := ⟨Or.inl q1614, q372, q1578, by decide, by decide, by decide +kernel⟩
theorem V.mdX12_59 : MD RX12 59 yX3_add cX3_add 4 none 1 := ⟨Or.inl q1620, q363, q1407, by decide, by decide, by decide +kernel⟩
/-! ModuleEngine$Walker.wholes()V -/
def V.Wlk_wholes_p13  : Nat → HS → Nat → Int32 → Option (Unit × HS)
  | 0, _, _, _ => none
  | n + 1, σ, x0, x1 =>
    if x1 = 0 then (
      some ((), σ))
    else (
      ck (tg σ x0 = 13) <|
      ck (tg σ x0 = 13) <| cl (Wlk_whole σ x0 ) fun r2 σ1 =>
      ck (tg σ1 (gR σ x0 7) = 4) <| cl (Row_add σ1 (gR σ x0 7) r2) fun _ σ3 =>
      bn (x1 + (-1 : Int32)) fun y4 =>
      Wlk_wholes_p13 n σ3 x0 y4)
theorem V.gX12_wholes_p13 {X : CX}  : ∀ (n : Nat) (σ : HS) (x0 : Nat) (x1 : Int32), G X RX12 "wholes" cX12_wholes 2 none 3 65 enV 13 [(0, av x0), (1, iv x1)] [] σ (Wlk_wholes_p13 n σ x0 x1)
  | 0, σ, x0, x1 => by rw [Wlk_wholes_p13]; exact G.nul
  | n + 1, σ, x0, x1 => by
    rw [Wlk_wholes_p13]
    refine g_iload_n 1 1 dX12_wholes_13 rfl rfl ?_
    refine g_if_eq 34 dX12_wholes_14 (by decide) ?_ ?_
    · exact g_return rfl dX12_wholes_34
    · refine g_aload_n 0 0 dX12_wholes_17 rfl rfl ?_
      refine g_getR fdX12_10 dX12_wholes_18 ?_
      refine g_aload_n 0 0 dX12_wholes_21 rfl rfl ?_
      refine g_callV (fc := fun sς => Wlk_whole sς x0 ) (ci := 12) (as := []) rfl rfl rfl q1577 qs39 mdX12_49 (ctX12_whole x0 ) rfl (Nat.le_of_ble_eq_true rfl) (Nat.le_of_ble_eq_true rfl) (Nat.le_of_ble_eq_true rfl) pu_I dX12_wholes_22 (fun r2 σ1 => ?_)
      refine g_callV (fc := fun sς => Row_add sς (gR σ x0 7) r2) (ci := 3) (as := [iv r2]) rfl rfl rfl q1405 q1406 mdX12_59 (ctX3_add (gR σ x0 7) r2) rfl (Nat.le_of_ble_eq_true rfl) (Nat.le_of_ble_eq_true rfl) (Nat.le_of_ble_eq_true rfl) pu_V dX12_wholes_25 (fun _ σ3 => ?_)
      refine g_iincB (w := (-1)) 1 dX12_wholes_28 rfl (by decide) (by decide) (fun _ => rfl) (fun y4 => ?_)
      refine g_goto 13 dX12_wholes_31 (by decide) ?_
      refine G.sub [1, 0] rfl ?_
      exact gX12_wholes_p13 n _ _ _
def V.Wlk_wholes (σ : HS) (x0 : Nat) : Option (Unit × HS) :=
  ck (tg σ x0 = 13) <|
  ck (tg σ (gR σ x0 7) = 4) <| cl (Row_cut σ (gR σ x0 7) (0 : Int32)) fun _ σ1 =>
  ck (tg σ1 x0 = 13) <| cl (Wlk_whole σ1 x0 ) fun r3 σ2 =>
  Wlk_wholes_p13 FU σ2 x0 r3
theorem V.ctX12_wholes (x0 : Nat) : Ct yX12_wholes  cX12_wholes 2 none 3 65 eV [av x0] (fun σ => Wlk_wholes σ x0) := by
  refine Ct.of (own := RX12) (nm := "wholes") (desc := "()V") rfl (by decide) (Nat.le_of_ble_eq_true rfl) (by decide) (fun X σ => ?_)
  show G X RX12 "wholes" cX12_wholes 2 none 3 65 enV 0 [(0, av x0)] [] σ (Wlk_wholes σ x0)
  unfold Wlk_wholes
  refine g_aload_n 0 0 dX12_wholes_0 rfl rfl ?_
  refine g_getR fdX12_10 dX12_wholes_1 ?_
  refine g_iconst (v := 0) dX12_wholes_4 (by decide) ?_
  refine g_callV (fc := fun sς => Row_cut sς (gR σ x0 7) (0 : Int32)) (ci := 3) (as := [iv (0 : Int32)]) rfl rfl rfl q1281 q1282 mdX12_55 (ctX3_cut (gR σ x0 7) (0 : Int32)) rfl (Nat.le_of_ble_eq_true rfl) (Nat.le_of_ble_eq_true rfl) (Nat.le_of_ble_eq_true rfl) pu_V dX12_wholes_5 (fun _ σ1 => ?_)
  refine g_aload_n 0 0 dX12_wholes_8 rfl rfl ?_
  refine g_callV (fc := fun sς => Wlk_whole sς x0 ) (ci := 12) (as := []) rfl rfl rfl q1577 qs39 mdX12_49 (ctX12_whole x0 ) rfl (Nat.le_of_ble_eq_true rfl) (Nat.le_of_ble_eq_true rfl) (Nat.le_of_ble_eq_true rfl) pu_I dX12_wholes_9 (fun r3 σ2 => ?_)
  refine g_istore_n 1 dX12_wholes_12 rfl (by decide) rfl ?_
  refine G.sub [1, 0] rfl ?_
  exact gX12_wholes_p13 FU _ _ _
theorem V.dX12_bits_0 : decode cX12_bits 0 = .ok (.lconst 0, 1) := by decide +kernel
theorem V.dX12_bits_1 : decode cX12_bits 1 = .ok (.lstore_n 2, 1) := by decide +kernel
theorem V.dX12_bits_2 : decode cX12_bits 2 = .ok (.iconst 0, 1) := by decide +kernel
theorem V.dX12_bits_3 : decode cX12_bits 3 = .ok (.istore 4, 2) := by decide +kernel
theorem V.dX12_bits_5 : decode cX12_bits 5 = .ok (.iload 4, 2) := by decide +kernel
theorem V.dX12_bits_7 : decode cX12_bits 7 = .ok (.iload_n 1, 1) := by decide +kernel
theorem V.dX12_bits_8 : decode cX12_bits 8 = .ok (.if_icmp .ge 23, 3) := by decide +kernel
theorem V.dX12_bits_11 : decode cX12_bits 11 = .ok (.lload_n 2, 1) := by decide +kernel
theorem V.dX12_bits_12 : decode cX12_bits 12 = .ok (.aload_n 0, 1) := by decide +kernel
theorem V.dX12_bits_13 : decode cX12_bits 13 = .ok (.invokevirtual 24, 3) := by decide +kernel
theorem V.dX12_bits_16 : decode cX12_bits 16 = .ok (.i2l, 1) := by decide +kernel
theorem V.dX12_bits_17 : decode cX12_bits 17 = .ok (.bipush 8, 2) := by decide +kernel
theorem V.dX12_bits_19 : decode cX12_bits 19 = .ok (.iload 4, 2) := by decide +kernel
theorem V.dX12_bits_21 : decode cX12_bits 21 = .ok (.imul, 1) := by decide +kernel
theorem V.dX12_bits_22 : decode cX12_bits 22 = .ok (.lshl, 1) := by decide +kernel
theorem V.dX12_bits_23 : decode cX12_bits 23 = .ok (.lor, 1) := by decide +kernel
theorem V.dX12_bits_24 : decode cX12_bits 24 = .ok (.lstore_n 2, 1) := by decide +kernel
theorem V.dX12_bits_25 : decode cX12_bits 25 = .ok (.iinc 4 1, 3) := by decide +kernel
theorem V.dX12_bits_28 : decode cX12_bits 28 = .ok (.goto (-23), 3) := by decide +kernel
theorem V.dX12_bits_31 : decode cX12_bits 31 = .ok (.lload_n 2, 1) := by decide +kernel
theorem V.dX12_bits_32 : decode cX12_bits 32 = .ok (.lreturn, 1) := by decide +kernel
/-! ModuleEngine$Walker.bits(I)J -/
def V.Wlk_bits_p5  : Nat → HS → Nat → Int32 → Int64 → Int32 → Option (Int64 × HS)
  | 0, _, _, _, _, _ => none
  | n + 1, σ, x0, x1, x2, x4 =>
    if x1 ≤ x4 then (
      some (x2, σ))
    else (
      ck (tg σ x0 = 13) <| cl (Wlk_take σ x0 ) fun r2 σ1 =>
      bn (x2 ||| (lshl r2.toInt64 ((8 : Int32) * x4))) fun y3 =>
      bn (x4 + (1 : Int32)) fun y4 =>
      Wlk_bits_p5 n σ1 x0 x1 y3 y4)
theorem V.gX12_bits_p5 {X : CX}  : ∀ (n : Nat) (σ : HS) (x0 : Nat) (x1 : Int32) (x2 : Int64) (x4 : Int32), G X RX12 "bits" cX12_bits 5 (some .long) 1 20 enJ 5 [(0, av x0), (1, iv x1), (2, jv x2), (4, iv x4)] [] σ (Wlk_bits_p5 n σ x0 x1 x2 x4)
  | 0, σ, x0, x1, x2, x4 => by rw [Wlk_bits_p5]; exact G.nul
  | n + 1, σ, x0, x1, x2, x4 => by
    rw [Wlk_bits_p5]
    refine g_iload 3 dX12_bits_5 rfl ?_
    refine g_iload_n 1 1 dX12_bits_7 rfl rfl ?_
    refine g_icmp_ge 31 dX12_bits_8 (by decide) ?_ ?_
    · refine g_lload_n 2 2 dX12_bits_31 rfl rfl ?_
      exact g_lreturn rfl dX12_bits_32
    · refine g_lload_n 2 2 dX12_bits_11 rfl rfl ?_
      refine g_aload_n 0 0 dX12_bits_12 rfl rfl ?_
      refine g_callV (fc := fun sς => Wlk_take sς x0 ) (ci := 12) (as := []) rfl rfl rfl q1585 qs41 mdX12_24 (ctX12_take x0 ) rfl (Nat.le_of_ble_eq_true rfl) (Nat.le_of_ble_eq_true rfl) (Nat.le_of_ble_eq_true rfl) pu_I dX12_bits_13 (fun r2 σ1 => ?_)
      refine g_i2l dX12_bits_16 ?_
      refine g_bipush (v := 8) dX12_bits_17 (by decide) ?_
      refine g_iload 3 dX12_bits_19 rfl ?_
      refine g_imul dX12_bits_21 ?_
      refine g_lshl dX12_bits_22 ?_
      refine g_lor dX12_bits_23 ?_
      refine g_nmJ (fun y3 => ?_)
      refine g_lstore_n 2 dX12_bits_24 rfl (by decide) rfl ?_
      refine g_iincB (w := 1) 3 dX12_bits_25 rfl (by decide) (by decide) (fun _ => rfl) (fun y4 => ?_)
      refine g_goto 5 dX12_bits_28 (by decide) ?_
      refine G.sub [2, 3, 1, 0] rfl ?_
      exact gX12_bits_p5 n _ _ _ _ _
def V.Wlk_bits (σ : HS) (x0 : Nat) (x1 : Int32) : Option (Int64 × HS) :=
  Wlk_bits_p5 FU σ x0 x1 (0 : Int64) (0 : Int32)
theorem V.ctX12_bits (x0 : Nat) (x1 : Int32) : Ct yX12_bits  cX12_bits 5 (some .long) 1 20 eJ [av x0, iv x1] (fun σ => Wlk_bits σ x0 x1) := by
  refine Ct.of (own := RX12) (nm := "bits") (desc := "(I)J") rfl (by decide) (Nat.le_of_ble_eq_true rfl) (by decide) (fun X σ => ?_)
  show G X RX12 "bits" cX12_bits 5 (some .long) 1 20 enJ 0 [(0, av x0), (1, iv x1)] [] σ (Wlk_bits σ x0 x1)
  unfold Wlk_bits
  refine g_lconst (v := 0) dX12_bits_0 (by decide) ?_
  refine g_lstore_n 2 dX12_bits_1 rfl (by decide) rfl ?_
  refine g_iconst (v := 0) dX12_bits_2 (by decide) ?_
  refine g_istore dX12_bits_3 (by decide) rfl ?_
  refine G.sub [2, 3, 1, 0] rfl ?_
  exact gX12_bits_p5 FU _ _ _ _ _
theorem V.dX12_prefixed_0 : decode cX12_prefixed 0 = .ok (.aload_n 0, 1) := by decide +kernel
theorem V.dX12_prefixed_1 : decode cX12_prefixed 1 = .ok (.invokevirtual 49, 3) := by decide +kernel
theorem V.dX12_prefixed_4 : decode cX12_prefixed 4 = .ok (.istore_n 1, 1) := by decide +kernel
theorem V.dX12_prefixed_5 : decode cX12_prefixed 5 = .ok (.aload_n 0, 1) := by decide +kernel
theorem V.dX12_prefixed_6 : decode cX12_prefixed 6 = .ok (.sipush 256, 3) := by decide +kernel
theorem V.dX12_prefixed_9 : decode cX12_prefixed 9 = .ok (.iload_n 1, 1) := by decide +kernel
theorem V.dX12_prefixed_10 : decode cX12_prefixed 10 = .ok (.iadd, 1) := by decide +kernel
theorem V.dX12_prefixed_11 : decode cX12_prefixed 11 = .ok (.putfield 37, 3) := by decide +kernel
theorem V.dX12_prefixed_14 : decode cX12_prefixed 14 = .ok (.iload_n 1, 1) := by decide +kernel
theorem V.dX12_prefixed_15 : decode cX12_prefixed 15 = .ok (.bipush 7, 2) := by decide +kernel
theorem V.dX12_prefixed_17 : decode cX12_prefixed 17 = .ok (.if_icmp .le 23, 3) := by decide +kernel
theorem V.dX12_prefixed_20 : decode cX12_prefixed 20 = .ok (.iload_n 1, 1) := by decide +kernel
theorem V.dX12_prefixed_21 : decode cX12_prefixed 21 = .ok (.bipush 10, 2) := by decide +kernel
theorem V.dX12_prefixed_23 : decode cX12_prefixed 23 = .ok (.if_icmp .eq 17, 3) := by decide +kernel
theorem V.dX12_prefixed_26 : decode cX12_prefixed 26 = .ok (.iload_n 1, 1) := by decide +kernel
theorem V.dX12_prefixed_27 : decode cX12_prefixed 27 = .ok (.bipush 11, 2) := by decide +kernel
theorem V.dX12_prefixed_29 : decode cX12_prefixed 29 = .ok (.if_icmp .eq 11, 3) := by decide +kernel
theorem V.dX12_prefixed_32 : decode cX12_prefixed 32 = .ok (.aload_n 0, 1) := by decide +kernel
theorem V.dX12_prefixed_33 : decode cX12_prefixed 33 = .ok (.aload_n 0, 1) := by decide +kernel
theorem V.dX12_prefixed_34 : decode cX12_prefixed 34 = .ok (.invokevirtual 49, 3) := by decide +kernel
theorem V.dX12_prefixed_37 : decode cX12_prefixed 37 = .ok (.putfield 40, 3) := by decide +kernel
theorem V.dX12_prefixed_40 : decode cX12_prefixed 40 = .ok (.iload_n 1, 1) := by decide +kernel
theorem V.dX12_prefixed_41 : decode cX12_prefixed 41 = .ok (.bipush 12, 2) := by decide +kernel
theorem V.dX12_prefixed_43 : decode cX12_prefixed 43 = .ok (.if_icmp .eq 9, 3) := by decide +kernel
theorem V.dX12_prefixed_46 : decode cX12_prefixed 46 = .ok (.iload_n 1, 1) := by decide +kernel
theorem V.dX12_prefixed_47 : decode cX12_prefixed 47 = .ok (.bipush 14, 2) := by decide +kernel
theorem V.dX12_prefixed_49 : decode cX12_prefixed 49 = .ok (.if_icmp .ne 11, 3) := by decide +kernel
theorem V.dX12_prefixed_52 : decode cX12_prefixed 52 = .ok (.aload_n 0, 1) := by decide +kernel
theorem V.dX12_prefixed_53 : decode cX12_prefixed 53 = .ok (.aload_n 0, 1) := by decide +kernel
theorem V.dX12_prefixed_54 : decode cX12_prefixed 54 = .ok (.invokevirtual 49, 3) := by decide +kernel
theorem V.dX12_prefixed_57 : decode cX12_prefixed 57 = .ok (.putfield 43, 3) := by decide +kernel
theorem V.dX12_prefixed_60 : decode cX12_prefixed 60 = .ok (.iload_n 1, 1) := by decide +kernel
theorem V.dX12_prefixed_61 : decode cX12_prefixed 61 = .ok (.bipush 8, 2) := by decide +kernel
theorem V.dX12_prefixed_63 : decode cX12_prefixed 63 = .ok (.if_icmp .eq 9, 3) := by decide +kernel
theorem V.dX12_prefixed_66 : decode cX12_prefixed 66 = .ok (.iload_n 1, 1) := by decide +kernel
theorem V.dX12_prefixed_67 : decode cX12_prefixed 67 = .ok (.bipush 11, 2) := by decide +kernel
theorem V.dX12_prefixed_69 : decode cX12_prefixed 69 = .ok (.if_icmp .ne 8, 3) := by decide +kernel
theorem V.dX12_prefixed_72 : decode cX12_prefixed 72 = .ok (.aload_n 0, 1) := by decide +kernel
theorem V.dX12_prefixed_73 : decode cX12_prefixed 73 = .ok (.invokevirtual 24, 3) := by decide +kernel
theorem V.dX12_prefixed_76 : decode cX12_prefixed 76 = .ok (.pop, 1) := by decide +kernel
theorem V.dX12_prefixed_77 : decode cX12_prefixed 77 = .ok (.iload_n 1, 1) := by decide +kernel
theorem V.dX12_prefixed_78 : decode cX12_prefixed 78 = .ok (.bipush 10, 2) := by decide +kernel
theorem V.dX12_prefixed_80 : decode cX12_prefixed 80 = .ok (.if_icmp .ne 13, 3) := by decide +kernel
theorem V.dX12_prefixed_83 : decode cX12_prefixed 83 = .ok (.aload_n 0, 1) := by decide +kernel
theorem V.dX12_prefixed_84 : decode cX12_prefixed 84 = .ok (.invokevirtual 24, 3) := by decide +kernel
theorem V.dX12_prefixed_87 : decode cX12_prefixed 87 = .ok (.pop, 1) := by decide +kernel
theorem V.dX12_prefixed_88 : decode cX12_prefixed 88 = .ok (.aload_n 0, 1) := by decide +kernel
theorem V.dX12_prefixed_89 : decode cX12_prefixed 89 = .ok (.invokevirtual 24, 3) := by decide +kernel
theorem V.dX12_prefixed_92 : decode cX12_prefixed 92 = .ok (.pop, 1) := by decide +kernel
theorem V.dX12_prefixed_93 : decode cX12_prefixed 93 = .ok (.return_, 1) := by decide +kernel
theorem V.fpX12_37 {nm : String} : FP RX12 nm 37 12 3 (.int) := ⟨(RX12, TX12, 8), tyX12, rfl, rfl, in_X12, by decide, tyX12_ok, nmX12, rfl, Or.inl ⟨rfl, Or.inl q884⟩⟩
theorem V.fpX12_40 {nm : String} : FP RX12 nm 40 12 4 (.int) := ⟨(RX12, TX12, 8), tyX12, rfl, rfl, in_X12, by decide, tyX12_ok, nmX12, rfl, Or.inl ⟨rfl, Or.inl q887⟩⟩
theorem V.fpX12_43 {nm : String} : FP RX12 nm 43 12 5 (.int) := ⟨(RX12, TX12, 8), tyX12, rfl, rfl, in_X12, by decide, tyX12_ok, nmX12, rfl, Or.inl ⟨rfl, Or.inl q890⟩⟩
/-! ModuleEngine$Walker.prefixed()V -/
def V.Wlk_prefixed_p77  (σ : HS) (x0 : Nat) (x1 : Int32) : Option (Unit × HS) :=
  if x1 = (10 : Int32) then (
    ck (tg σ x0 = 13) <| cl (Wlk_take σ x0 ) fun r2 σ1 =>
    ck (tg σ1 x0 = 13) <| cl (Wlk_take σ1 x0 ) fun r4 σ3 =>
    some ((), σ3))
  else (
    some ((), σ))
theorem V.gX12_prefixed_p77 {X : CX}  (σ : HS) (x0 : Nat) (x1 : Int32) : G X RX12 "prefixed" cX12_prefixed 2 none 3 65 enV 77 [(0, av x0), (1, iv x1)] [] σ (Wlk_prefixed_p77 σ x0 x1) := by
  unfold Wlk_prefixed_p77
  refine g_iload_n 1 1 dX12_prefixed_77 rfl rfl ?_
  refine g_bipush (v := 10) dX12_prefixed_78 (by decide) ?_
  refine g_icmp_ne 93 dX12_prefixed_80 (by decide) ?_ ?_
  · exact g_return rfl dX12_prefixed_93
  · refine g_aload_n 0 0 dX12_prefixed_83 rfl rfl ?_
    refine g_callV (fc := fun sς => Wlk_take sς x0 ) (ci := 12) (as := []) rfl rfl rfl q1585 qs41 mdX12_24 (ctX12_take x0 ) rfl (Nat.le_of_ble_eq_true rfl) (Nat.le_of_ble_eq_true rfl) (Nat.le_of_ble_eq_true rfl) pu_I dX12_prefixed_84 (fun r2 σ1 => ?_)
    refine g_pop dX12_prefixed_87 rfl ?_
    refine g_aload_n 0 0 dX12_prefixed_88 rfl rfl ?_
    refine g_callV (fc := fun sς => Wlk_take sς x0 ) (ci := 12) (as := []) rfl rfl rfl q1585 qs41 mdX12_24 (ctX12_take x0 ) rfl (Nat.le_of_ble_eq_true rfl) (Nat.le_of_ble_eq_true rfl) (Nat.le_of_ble_eq_true rfl) pu_I dX12_prefixed_89 (fun r4 σ3 => ?_)
    refine g_pop dX12_prefixed_92 rfl ?_
    exact g_return rfl dX12_prefixed_93
def V.Wlk_prefixed_p72  (σ : HS) (x0 : Nat) (x1 : Int32) : Option (Unit × HS) :=
  ck (tg σ x0 = 13) <| cl (Wlk_take σ x0 ) fun r2 σ1 =>
  Wlk_prefixed_p77 σ1 x0 x1
theorem V.gX12_prefixed_p72 {X : CX}  (σ : HS) (x0 : Nat) (x1 : Int32) : G X RX12 "prefixed" cX12_prefixed 2 none 3 65 enV 72 [(0, av x0), (1, iv x1)] [] σ (Wlk_prefixed_p72 σ x0 x1) := by
  unfold Wlk_prefixed_p72
  refine g_aload_n 0 0 dX12_prefixed_72 rfl rfl ?_
  refine g_callV (fc := fun sς => Wlk_take sς x0 ) (ci := 12) (as := []) rfl rfl rfl q1585 qs41 mdX12_24 (ctX12_take x0 ) rfl (Nat.le_of_ble_eq_true rfl) (Nat.le_of_ble_eq_true rfl) (Nat.le_of_ble_eq_true rfl) pu_I dX12_prefixed_73 (fun r2 σ1 => ?_)
  refine g_pop dX12_prefixed_76 rfl ?_
  exact gX12_prefixed_p77 _ _ _
def V.Wlk_prefixed_p60  (σ : HS) (x0 : Nat) (x1 : Int32) : Option (Unit × HS) :=
  if x1 = (8 : Int32) then (
    Wlk_prefixed_p72 σ x0 x1)
  else (
    if x1 = (11 : Int32) then (
      Wlk_prefixed_p72 σ x0 x1)
    else (
      Wlk_prefixed_p77 σ x0 x1))
theorem V.gX12_prefixed_p60 {X : CX}  (σ : HS) (x0 : Nat) (x1 : Int32) : G X RX12 "prefixed" cX12_prefixed 2 none 3 65 enV 60 [(0, av x0), (1, iv x1)] [] σ (Wlk_prefixed_p60 σ x0 x1) := by
  unfold Wlk_prefixed_p60
  refine g_iload_n 1 1 dX12_prefixed_60 rfl rfl ?_
  refine g_bipush (v := 8) dX12_prefixed_61 (by decide) ?_
  refine g_icmp_eq 72 dX12_prefixed_63 (by decide) ?_ ?_
  · exact gX12_prefixed_p72 _ _ _
  · refine g_iload_n 1 1 dX12_prefixed_66 rfl rfl ?_
    refine g_bipush (v := 11) dX12_prefixed_67 (by decide) ?_
    refine g_icmp_ne 77 dX12_prefixed_69 (by decide) ?_ ?_
    · exact gX12_prefixed_p77 _ _ _
    · exact gX12_prefixed_p72 _ _ _
def V.Wlk_prefixed_p52  (σ : HS) (x0 : Nat) (x1 : Int32) : Option (Unit × HS) :=
  ck (tg σ x0 = 13) <| cl (Wlk_whole σ x0 ) fun r2 σ1 =>
  ck (tg σ1 x0 = 13) <| bn (sI σ1 x0 5 r2) fun σ3 =>
  Wlk_prefixed_p60 σ3 x0 x1
theorem V.gX12_prefixed_p52 {X : CX}  (σ : HS) (x0 : Nat) (x1 : Int32) : G X RX12 "prefixed" cX12_prefixed 2 none 3 65 enV 52 [(0, av x0), (1, iv x1)] [] σ (Wlk_prefixed_p52 σ x0 x1) := by
  unfold Wlk_prefixed_p52
  refine g_aload_n 0 0 dX12_prefixed_52 rfl rfl ?_
  refine g_aload_n 0 0 dX12_prefixed_53 rfl rfl ?_
  refine g_callV (fc := fun sς => Wlk_whole sς x0 ) (ci := 12) (as := []) rfl rfl rfl q1577 qs39 mdX12_49 (ctX12_whole x0 ) rfl (Nat.le_of_ble_eq_true rfl) (Nat.le_of_ble_eq_true rfl) (Nat.le_of_ble_eq_true rfl) pu_I dX12_prefixed_54 (fun r2 σ1 => ?_)
  refine g_putI fpX12_43 dX12_prefixed_57 (fun σ3 => ?_)
  exact gX12_prefixed_p60 _ _ _
def V.Wlk_prefixed_p40  (σ : HS) (x0 : Nat) (x1 : Int32) : Option (Unit × HS) :=
  if x1 = (12 : Int32) then (
    Wlk_prefixed_p52 σ x0 x1)
  else (
    if x1 = (14 : Int32) then (
      Wlk_prefixed_p52 σ x0 x1)
    else (
      Wlk_prefixed_p60 σ x0 x1))
theorem V.gX12_prefixed_p40 {X : CX}  (σ : HS) (x0 : Nat) (x1 : Int32) : G X RX12 "prefixed" cX12_prefixed 2 none 3 65 enV 40 [(0, av x0), (1, iv x1)] [] σ (Wlk_prefixed_p40 σ x0 x1) := by
  unfold Wlk_prefixed_p40
  refine g_iload_n 1 1 dX12_prefixed_40 rfl rfl ?_
  refine g_bipush (v := 12) dX12_prefixed_41 (by decide) ?_
  refine g_icmp_eq 52 dX12_prefixed_43 (by decide) ?_ ?_
  · exact gX12_prefixed_p52 _ _ _
  · refine g_iload_n 1 1 dX12_prefixed_46 rfl rfl ?_
    refine g_bipush (v := 14) dX12_prefixed_47 (by decide) ?_
    refine g_icmp_ne 60 dX12_prefixed_49 (by decide) ?_ ?_
    · exact gX12_prefixed_p60 _ _ _
    · exact gX12_prefixed_p52 _ _ _
def V.Wlk_prefixed (σ : HS) (x0 : Nat) : Option (Unit × HS) :=
  ck (tg σ x0 = 13) <| cl (Wlk_whole σ x0 ) fun r2 σ1 =>
  ck (tg σ1 x0 = 13) <| bn (sI σ1 x0 3 ((256 : Int32) + r2)) fun σ3 =>
  if r2 ≤ (7 : Int32) then (
    Wlk_prefixed_p40 σ3 x0 r2)
  else (
    if r2 = (10 : Int32) then (
      Wlk_prefixed_p40 σ3 x0 r2)
    else (
      if r2 = (11 : Int32) then (
        Wlk_prefixed_p40 σ3 x0 r2)
      else (
        ck (tg σ3 x0 = 13) <| cl (Wlk_whole σ3 x0 ) fun r5 σ4 =>
        ck (tg σ4 x0 = 13) <| bn (sI σ4 x0 4 r5) fun σ6 =>
        Wlk_prefixed_p40 σ6 x0 r2)))
theorem V.ctX12_prefixed (x0 : Nat) : Ct yX12_prefixed  cX12_prefixed 2 none 3 65 eV [av x0] (fun σ => Wlk_prefixed σ x0) := by
  refine Ct.of (own := RX12) (nm := "prefixed") (desc := "()V") rfl (by decide) (Nat.le_of_ble_eq_true rfl) (by decide) (fun X σ => ?_)
  show G X RX12 "prefixed" cX12_prefixed 2 none 3 65 enV 0 [(0, av x0)] [] σ (Wlk_prefixed σ x0)
  unfold Wlk_prefixed
  refine g_aload_n 0 0 dX12_prefixed_0 rfl rfl ?_
  refine g_callV (fc := fun sς => Wlk_whole sς x0 ) (ci := 12) (as := []) rfl rfl rfl q1577 qs39 mdX12_49 (ctX12_whole x0 ) rfl (Nat.le_of_ble_eq_true rfl) (Nat.le_of_ble_eq_true rfl) (Nat.le_of_ble_eq_true rfl) pu_I dX12_prefixed_1 (fun r2 σ1 => ?_)
  refine g_istore_n 1 dX12_prefixed_4 rfl (by decide) rfl ?_
  refine g_aload_n 0 1 dX12_prefixed_5 rfl rfl ?_
  refine g_sipush (v := 256) dX12_prefixed_6 (by decide) ?_
  refine g_iload_n 1 0 dX12_prefixed_9 rfl rfl ?_
  refine g_iadd dX12_prefixed_10 ?_
  refine g_putI fpX12_37 dX12_prefixed_11 (fun σ3 => ?_)
  refine g_iload_n 1 0 dX12_prefixed_14 rfl rfl ?_
  refine g_bipush (v := 7) dX12_prefixed_15 (by decide) ?_
  refine g_icmp_le 40 dX12_prefixed_17 (by decide) ?_ ?_
  · refine G.sub [1, 0] rfl ?_
    exact gX12_prefixed_p40 _ _ _
  · refine g_iload_n 1 0 dX12_prefixed_20 rfl rfl ?_
    refine g_bipush (v := 10) dX12_prefixed_21 (by decide) ?_
    refine g_icmp_eq 40 dX12_prefixed_23 (by decide) ?_ ?_
    · refine G.sub [1, 0] rfl ?_
      exact gX12_prefixed_p40 _ _ _
    · refine g_iload_n 1 0 dX12_prefixed_26 rfl rfl ?_
      refine g_bipush (v := 11) dX12_prefixed_27 (by decide) ?_
      refine g_icmp_eq 40 dX12_prefixed_29 (by decide) ?_ ?_
      · refine G.sub [1, 0] rfl ?_
        exact gX12_prefixed_p40 _ _ _
      · refine g_aload_n 0 1 dX12_prefixed_32 rfl rfl ?_
        refine g_aload_n 0 1 dX12_prefixed_33 rfl rfl ?_
        refine g_callV (fc := fun sς => Wlk_whole sς x0 ) (ci := 12) (as := []) rfl rfl rfl q1577 qs39 mdX12_49 (ctX12_whole x0 ) rfl (Nat.le_of_ble_eq_true rfl) (Nat.le_of_ble_eq_true rfl) (Nat.le_of_ble_eq_true rfl) pu_I dX12_prefixed_34 (fun r5 σ4 => ?_)
        refine g_putI fpX12_40 dX12_prefixed_37 (fun σ6 => ?_)
        refine G.sub [1, 0] rfl ?_
        exact gX12_prefixed_p40 _ _ _
theorem V.dX12_next_0 : decode cX12_next 0 = .ok (.aload_n 0, 1) := by decide +kernel
theorem V.dX12_next_1 : decode cX12_next 1 = .ok (.aload_n 0, 1) := by decide +kernel
theorem V.dX12_next_2 : decode cX12_next 2 = .ok (.getfield 20, 3) := by decide +kernel
theorem V.dX12_next_5 : decode cX12_next 5 = .ok (.putfield 34, 3) := by decide +kernel
theorem V.dX12_next_8 : decode cX12_next 8 = .ok (.aload_n 0, 1) := by decide +kernel
theorem V.dX12_next_9 : decode cX12_next 9 = .ok (.aload_n 0, 1) := by decide +kernel
theorem V.dX12_next_10 : decode cX12_next 10 = .ok (.invokevirtual 24, 3) := by decide +kernel
theorem V.dX12_next_13 : decode cX12_next 13 = .ok (.putfield 37, 3) := by decide +kernel
theorem V.dX12_next_16 : decode cX12_next 16 = .ok (.aload_n 0, 1) := by decide +kernel
theorem V.dX12_next_17 : decode cX12_next 17 = .ok (.iconst 0, 1) := by decide +kernel
theorem V.dX12_next_18 : decode cX12_next 18 = .ok (.putfield 40, 3) := by decide +kernel
theorem V.dX12_next_21 : decode cX12_next 21 = .ok (.aload_n 0, 1) := by decide +kernel
theorem V.dX12_next_22 : decode cX12_next 22 = .ok (.iconst 0, 1) := by decide +kernel
theorem V.dX12_next_23 : decode cX12_next 23 = .ok (.putfield 43, 3) := by decide +kernel
theorem V.dX12_next_26 : decode cX12_next 26 = .ok (.aload_n 0, 1) := by decide +kernel
theorem V.dX12_next_27 : decode cX12_next 27 = .ok (.getfield 37, 3) := by decide +kernel
theorem V.dX12_next_30 : decode cX12_next 30 = .ok (.lookupswitch 422 #[(2, 210), (3, 210), (4, 210), (12, 238), (13, 238), (14, 249), (16, 238), (17, 264), (28, 283), (32, 238), (33, 238), (34, 238), (35, 238), (36, 238), (37, 238), (38, 238), (63, 347), (64, 347), (65, 355), (66, 367), (67, 379), (68, 391), (208, 404), (210, 238), (252, 415)], 210) := by decide +kernel
theorem V.dX12_next_240 : decode cX12_next 240 = .ok (.aload_n 0, 1) := by decide +kernel
theorem V.dX12_next_241 : decode cX12_next 241 = .ok (.iconst 1, 1) := by decide +kernel
theorem V.dX12_next_242 : decode cX12_next 242 = .ok (.invokevirtual 30, 3) := by decide +kernel
theorem V.dX12_next_245 : decode cX12_next 245 = .ok (.lstore_n 1, 1) := by decide +kernel
theorem V.dX12_next_246 : decode cX12_next 246 = .ok (.aload_n 0, 1) := by decide +kernel
theorem V.dX12_next_247 : decode cX12_next 247 = .ok (.lload_n 1, 1) := by decide +kernel
theorem V.dX12_next_248 : decode cX12_next 248 = .ok (.ldc2_w 46, 3) := by decide +kernel
theorem V.dX12_next_251 : decode cX12_next 251 = .ok (.lcmp, 1) := by decide +kernel
theorem V.dX12_next_252 : decode cX12_next 252 = .ok (.ifCond .le 8, 3) := by decide +kernel
theorem V.dX12_next_255 : decode cX12_next 255 = .ok (.ldc 48, 2) := by decide +kernel
theorem V.dX12_next_257 : decode cX12_next 257 = .ok (.goto 5, 3) := by decide +kernel
theorem V.dX12_next_260 : decode cX12_next 260 = .ok (.lload_n 1, 1) := by decide +kernel
theorem V.dX12_next_261 : decode cX12_next 261 = .ok (.l2i, 1) := by decide +kernel
theorem V.dX12_next_262 : decode cX12_next 262 = .ok (.putfield 40, 3) := by decide +kernel
theorem V.dX12_next_265 : decode cX12_next 265 = .ok (.goto 221, 3) := by decide +kernel
theorem V.dX12_next_268 : decode cX12_next 268 = .ok (.aload_n 0, 1) := by decide +kernel
theorem V.dX12_next_269 : decode cX12_next 269 = .ok (.aload_n 0, 1) := by decide +kernel
theorem V.dX12_next_270 : decode cX12_next 270 = .ok (.invokevirtual 49, 3) := by decide +kernel
theorem V.dX12_next_273 : decode cX12_next 273 = .ok (.putfield 40, 3) := by decide +kernel
theorem V.dX12_next_276 : decode cX12_next 276 = .ok (.goto 210, 3) := by decide +kernel
theorem V.dX12_next_279 : decode cX12_next 279 = .ok (.aload_n 0, 1) := by decide +kernel
theorem V.dX12_next_280 : decode cX12_next 280 = .ok (.invokevirtual 52, 3) := by decide +kernel
theorem V.dX12_next_283 : decode cX12_next 283 = .ok (.aload_n 0, 1) := by decide +kernel
theorem V.dX12_next_284 : decode cX12_next 284 = .ok (.aload_n 0, 1) := by decide +kernel
theorem V.dX12_next_285 : decode cX12_next 285 = .ok (.invokevirtual 49, 3) := by decide +kernel
theorem V.dX12_next_288 : decode cX12_next 288 = .ok (.putfield 40, 3) := by decide +kernel
theorem V.dX12_next_291 : decode cX12_next 291 = .ok (.goto 195, 3) := by decide +kernel
theorem V.dX12_next_294 : decode cX12_next 294 = .ok (.aload_n 0, 1) := by decide +kernel
theorem V.dX12_next_295 : decode cX12_next 295 = .ok (.aload_n 0, 1) := by decide +kernel
theorem V.dX12_next_296 : decode cX12_next 296 = .ok (.invokevirtual 49, 3) := by decide +kernel
theorem V.dX12_next_299 : decode cX12_next 299 = .ok (.putfield 40, 3) := by decide +kernel
theorem V.dX12_next_302 : decode cX12_next 302 = .ok (.aload_n 0, 1) := by decide +kernel
theorem V.dX12_next_303 : decode cX12_next 303 = .ok (.aload_n 0, 1) := by decide +kernel
theorem V.dX12_next_304 : decode cX12_next 304 = .ok (.invokevirtual 49, 3) := by decide +kernel
theorem V.dX12_next_307 : decode cX12_next 307 = .ok (.putfield 43, 3) := by decide +kernel
theorem V.dX12_next_310 : decode cX12_next 310 = .ok (.goto 176, 3) := by decide +kernel
theorem V.dX12_next_313 : decode cX12_next 313 = .ok (.aload_n 0, 1) := by decide +kernel
theorem V.dX12_next_314 : decode cX12_next 314 = .ok (.getfield 10, 3) := by decide +kernel
theorem V.dX12_next_317 : decode cX12_next 317 = .ok (.iconst 0, 1) := by decide +kernel
theorem V.dX12_next_318 : decode cX12_next 318 = .ok (.invokevirtual 55, 3) := by decide +kernel
theorem V.dX12_next_321 : decode cX12_next 321 = .ok (.aload_n 0, 1) := by decide +kernel
theorem V.dX12_next_322 : decode cX12_next 322 = .ok (.invokevirtual 49, 3) := by decide +kernel
theorem V.dX12_next_325 : decode cX12_next 325 = .ok (.istore_n 3, 1) := by decide +kernel
theorem V.dX12_next_326 : decode cX12_next 326 = .ok (.iload_n 3, 1) := by decide +kernel
theorem V.dX12_next_327 : decode cX12_next 327 = .ok (.ifCond .eq 20, 3) := by decide +kernel
theorem V.dX12_next_330 : decode cX12_next 330 = .ok (.aload_n 0, 1) := by decide +kernel
theorem V.dX12_next_331 : decode cX12_next 331 = .ok (.getfield 10, 3) := by decide +kernel
theorem V.dX12_next_334 : decode cX12_next 334 = .ok (.aload_n 0, 1) := by decide +kernel
theorem V.dX12_next_335 : decode cX12_next 335 = .ok (.invokevirtual 24, 3) := by decide +kernel
theorem V.dX12_next_338 : decode cX12_next 338 = .ok (.invokevirtual 59, 3) := by decide +kernel
theorem V.dX12_next_341 : decode cX12_next 341 = .ok (.iinc 3 (-1), 3) := by decide +kernel
theorem V.dX12_next_344 : decode cX12_next 344 = .ok (.goto (-18), 3) := by decide +kernel
theorem V.dX12_next_347 : decode cX12_next 347 = .ok (.aload_n 0, 1) := by decide +kernel
theorem V.dX12_next_348 : decode cX12_next 348 = .ok (.aload_n 0, 1) := by decide +kernel
theorem V.dX12_next_349 : decode cX12_next 349 = .ok (.getfield 10, 3) := by decide +kernel
theorem V.dX12_next_352 : decode cX12_next 352 = .ok (.invokevirtual 62, 3) := by decide +kernel
theorem V.dX12_next_355 : decode cX12_next 355 = .ok (.iconst 1, 1) := by decide +kernel
theorem V.dX12_next_356 : decode cX12_next 356 = .ok (.if_icmp .ne 14, 3) := by decide +kernel
theorem V.dX12_next_359 : decode cX12_next 359 = .ok (.aload_n 0, 1) := by decide +kernel
theorem V.dX12_next_360 : decode cX12_next 360 = .ok (.getfield 10, 3) := by decide +kernel
theorem V.dX12_next_363 : decode cX12_next 363 = .ok (.iconst 0, 1) := by decide +kernel
theorem V.dX12_next_364 : decode cX12_next 364 = .ok (.invokevirtual 65, 3) := by decide +kernel
theorem V.dX12_next_367 : decode cX12_next 367 = .ok (.goto 4, 3) := by decide +kernel
theorem V.dX12_next_370 : decode cX12_next 370 = .ok (.iconst 0, 1) := by decide +kernel
theorem V.dX12_next_371 : decode cX12_next 371 = .ok (.putfield 40, 3) := by decide +kernel
theorem V.dX12_next_374 : decode cX12_next 374 = .ok (.goto 112, 3) := by decide +kernel
theorem V.dX12_next_377 : decode cX12_next 377 = .ok (.aload_n 0, 1) := by decide +kernel
theorem V.dX12_next_378 : decode cX12_next 378 = .ok (.invokevirtual 24, 3) := by decide +kernel
theorem V.dX12_next_381 : decode cX12_next 381 = .ok (.pop, 1) := by decide +kernel
theorem V.dX12_next_382 : decode cX12_next 382 = .ok (.goto 104, 3) := by decide +kernel
theorem V.dX12_next_385 : decode cX12_next 385 = .ok (.aload_n 0, 1) := by decide +kernel
theorem V.dX12_next_386 : decode cX12_next 386 = .ok (.aload_n 0, 1) := by decide +kernel
theorem V.dX12_next_387 : decode cX12_next 387 = .ok (.iconst 1, 1) := by decide +kernel
theorem V.dX12_next_388 : decode cX12_next 388 = .ok (.invokevirtual 30, 3) := by decide +kernel
theorem V.dX12_next_391 : decode cX12_next 391 = .ok (.putfield 68, 3) := by decide +kernel
theorem V.dX12_next_394 : decode cX12_next 394 = .ok (.goto 92, 3) := by decide +kernel
theorem V.dX12_next_397 : decode cX12_next 397 = .ok (.aload_n 0, 1) := by decide +kernel
theorem V.dX12_next_398 : decode cX12_next 398 = .ok (.aload_n 0, 1) := by decide +kernel
theorem V.dX12_next_399 : decode cX12_next 399 = .ok (.iconst 1, 1) := by decide +kernel
theorem V.dX12_next_400 : decode cX12_next 400 = .ok (.invokevirtual 30, 3) := by decide +kernel
theorem V.dX12_next_403 : decode cX12_next 403 = .ok (.putfield 68, 3) := by decide +kernel
theorem V.dX12_next_406 : decode cX12_next 406 = .ok (.goto 80, 3) := by decide +kernel
theorem V.dX12_next_409 : decode cX12_next 409 = .ok (.aload_n 0, 1) := by decide +kernel
theorem V.dX12_next_410 : decode cX12_next 410 = .ok (.aload_n 0, 1) := by decide +kernel
theorem V.dX12_next_411 : decode cX12_next 411 = .ok (.iconst 4, 1) := by decide +kernel
theorem V.dX12_next_412 : decode cX12_next 412 = .ok (.invokevirtual 72, 3) := by decide +kernel
theorem V.dX12_next_415 : decode cX12_next 415 = .ok (.putfield 68, 3) := by decide +kernel
theorem V.dX12_next_418 : decode cX12_next 418 = .ok (.goto 68, 3) := by decide +kernel
theorem V.dX12_next_421 : decode cX12_next 421 = .ok (.aload_n 0, 1) := by decide +kernel
theorem V.dX12_next_422 : decode cX12_next 422 = .ok (.aload_n 0, 1) := by decide +kernel
theorem V.dX12_next_423 : decode cX12_next 423 = .ok (.bipush 8, 2) := by decide +kernel
theorem V.dX12_next_425 : decode cX12_next 425 = .ok (.invokevirtual 72, 3) := by decide +kernel
theorem V.dX12_next_428 : decode cX12_next 428 = .ok (.putfield 68, 3) := by decide +kernel
theorem V.dX12_next_431 : decode cX12_next 431 = .ok (.goto 55, 3) := by decide +kernel
theorem V.dX12_next_434 : decode cX12_next 434 = .ok (.aload_n 0, 1) := by decide +kernel
theorem V.dX12_next_435 : decode cX12_next 435 = .ok (.aload_n 0, 1) := by decide +kernel
theorem V.dX12_next_436 : decode cX12_next 436 = .ok (.invokevirtual 24, 3) := by decide +kernel
theorem V.dX12_next_439 : decode cX12_next 439 = .ok (.putfield 40, 3) := by decide +kernel
theorem V.dX12_next_442 : decode cX12_next 442 = .ok (.goto 44, 3) := by decide +kernel
theorem V.dX12_next_445 : decode cX12_next 445 = .ok (.aload_n 0, 1) := by decide +kernel
theorem V.dX12_next_446 : decode cX12_next 446 = .ok (.invokevirtual 76, 3) := by decide +kernel
theorem V.dX12_next_449 : decode cX12_next 449 = .ok (.goto 37, 3) := by decide +kernel
theorem V.dX12_next_452 : decode cX12_next 452 = .ok (.aload_n 0, 1) := by decide +kernel
theorem V.dX12_next_453 : decode cX12_next 453 = .ok (.getfield 37, 3) := by decide +kernel
theorem V.dX12_next_456 : decode cX12_next 456 = .ok (.bipush 39, 2) := by decide +kernel
theorem V.dX12_next_458 : decode cX12_next 458 = .ok (.if_icmp .le 28, 3) := by decide +kernel
theorem V.dX12_next_461 : decode cX12_next 461 = .ok (.aload_n 0, 1) := by decide +kernel
theorem V.dX12_next_462 : decode cX12_next 462 = .ok (.getfield 37, 3) := by decide +kernel
theorem V.dX12_next_465 : decode cX12_next 465 = .ok (.bipush 63, 2) := by decide +kernel
theorem V.dX12_next_467 : decode cX12_next 467 = .ok (.if_icmp .ge 19, 3) := by decide +kernel
theorem V.dX12_next_470 : decode cX12_next 470 = .ok (.aload_n 0, 1) := by decide +kernel
theorem V.dX12_next_471 : decode cX12_next 471 = .ok (.aload_n 0, 1) := by decide +kernel
theorem V.dX12_next_472 : decode cX12_next 472 = .ok (.invokevirtual 49, 3) := by decide +kernel
theorem V.dX12_next_475 : decode cX12_next 475 = .ok (.putfield 40, 3) := by decide +kernel
theorem V.dX12_next_478 : decode cX12_next 478 = .ok (.aload_n 0, 1) := by decide +kernel
theorem V.dX12_next_479 : decode cX12_next 479 = .ok (.aload_n 0, 1) := by decide +kernel
theorem V.dX12_next_480 : decode cX12_next 480 = .ok (.invokevirtual 49, 3) := by decide +kernel
theorem V.dX12_next_483 : decode cX12_next 483 = .ok (.putfield 43, 3) := by decide +kernel
theorem V.dX12_next_486 : decode cX12_next 486 = .ok (.return_, 1) := by decide +kernel
theorem V.fpX12_34 {nm : String} : FP RX12 nm 34 12 2 (.int) := ⟨(RX12, TX12, 8), tyX12, rfl, rfl, in_X12, by decide, tyX12_ok, nmX12, rfl, Or.inl ⟨rfl, Or.inl q882⟩⟩
theorem V.fdX12_37 : FD RX12 37 12 3 0 := ⟨(RX12, TX12, 8), tyX12, rfl, rfl, in_X12, by decide, Or.inl q884, rfl⟩
theorem V.mdX12_52 : MD RX12 52 yX12_wholes cX12_wholes 2 none 0 := ⟨Or.inl q1615, q372, q1618, by decide, by decide, by decide +kernel⟩
theorem V.fpX12_68 {nm : String} : FP RX12 nm 68 12 6 (.long) := ⟨(RX12, TX12, 8), tyX12, rfl, rfl, in_X12, by decide, tyX12_ok, nmX12, rfl, Or.inl ⟨rfl, Or.inl q892⟩⟩
theorem V.mdX12_72 : MD RX12 72 yX12_bits cX12_bits 5 (some .long) 1 := ⟨Or.inl q1623, q372, q1626, by decide, by decide, by decide +kernel⟩
theorem V.mdX12_76 : MD RX12 76 yX12_prefixed cX12_prefixed 2 none 0 := ⟨Or.inl q1627, q372, q1630, by decide, by decide, by decide +kernel⟩
theorem V.mdX12_62 : MD RX12 62 yX3_size cX3_size 1 (some .int) 0 := ⟨Or.inl q1621, q363, q1423, by decide, by decide, by decide +kernel⟩
theorem V.mdX12_65 : MD RX12 65 yX3_at cX3_at 2 (some .int) 1 := ⟨Or.inl q1622, q363, q1411, by decide, by decide, by decide +kernel⟩
/-! ModuleEngine$Walker.next()V -/
def V.Wlk_next_p262  (σ : HS) (s0 : Int32) (s1 : Nat) : Option (Unit × HS) :=
  ck (tg σ s1 = 13) <| bn (sI σ s1 4 s0) fun σ1 =>
  some ((), σ1)
theorem V.gX12_next_p262 {X : CX}  (σ : HS) (s0 : Int32) (s1 : Nat) : G X RX12 "next" cX12_next 4 none 4 86 enV 262 [] [iv s0, av s1] σ (Wlk_next_p262 σ s0 s1) := by
  unfold Wlk_next_p262
  refine g_putI fpX12_40 dX12_next_262 (fun σ1 => ?_)
  refine g_goto 486 dX12_next_265 (by decide) ?_
  exact g_return rfl dX12_next_486
def V.Wlk_next_p240  (σ : HS) (x0 : Nat) : Option (Unit × HS) :=
  ck (tg σ x0 = 13) <| cl (Wlk_number σ x0 (1 : Int32)) fun r2 σ1 =>
  if r2 ≤ (2147483647 : Int64) then (
    Wlk_next_p262 σ1 r2.toInt32 x0)
  else (
    Wlk_next_p262 σ1 (2147483647 : Int32) x0)
theorem V.gX12_next_p240 {X : CX}  (σ : HS) (x0 : Nat) : G X RX12 "next" cX12_next 4 none 4 86 enV 240 [(0, av x0)] [] σ (Wlk_next_p240 σ x0) := by
  unfold Wlk_next_p240
  refine g_aload_n 0 0 dX12_next_240 rfl rfl ?_
  refine g_iconst (v := 1) dX12_next_241 (by decide) ?_
  refine g_callV (fc := fun sς => Wlk_number sς x0 (1 : Int32)) (ci := 12) (as := [iv (1 : Int32)]) rfl rfl rfl q1581 qs40 mdX12_30 (ctX12_number x0 (1 : Int32)) rfl (Nat.le_of_ble_eq_true rfl) (Nat.le_of_ble_eq_true rfl) (Nat.le_of_ble_eq_true rfl) pu_J dX12_next_242 (fun r2 σ1 => ?_)
  refine g_lstore_n 1 dX12_next_245 rfl (by decide) rfl ?_
  refine g_aload_n 0 1 dX12_next_246 rfl rfl ?_
  refine g_lload_n 1 0 dX12_next_247 rfl rfl ?_
  refine g_ldc2 q1612 dX12_next_248 ?_
  refine g_lcmp_le 260 dX12_next_251 dX12_next_252 (by decide) ?_ ?_
  · refine g_lload_n 1 0 dX12_next_260 rfl rfl ?_
    refine g_l2i dX12_next_261 ?_
    refine G.sub [] rfl ?_
    exact gX12_next_p262 _ _ _
  · refine g_ldc q1613 dX12_next_255 ?_
    refine g_goto 262 dX12_next_257 (by decide) ?_
    refine G.sub [] rfl ?_
    exact gX12_next_p262 _ _ _
def V.Wlk_next_p268  (σ : HS) (x0 : Nat) : Option (Unit × HS) :=
  ck (tg σ x0 = 13) <| cl (Wlk_whole σ x0 ) fun r2 σ1 =>
  ck (tg σ1 x0 = 13) <| bn (sI σ1 x0 4 r2) fun σ3 =>
  some ((), σ3)
theorem V.gX12_next_p268 {X : CX}  (σ : HS) (x0 : Nat) : G X RX12 "next" cX12_next 4 none 4 86 enV 268 [(0, av x0)] [] σ (Wlk_next_p268 σ x0) := by
  unfold Wlk_next_p268
  refine g_aload_n 0 0 dX12_next_268 rfl rfl ?_
  refine g_aload_n 0 0 dX12_next_269 rfl rfl ?_
  refine g_callV (fc := fun sς => Wlk_whole sς x0 ) (ci := 12) (as := []) rfl rfl rfl q1577 qs39 mdX12_49 (ctX12_whole x0 ) rfl (Nat.le_of_ble_eq_true rfl) (Nat.le_of_ble_eq_true rfl) (Nat.le_of_ble_eq_true rfl) pu_I dX12_next_270 (fun r2 σ1 => ?_)
  refine g_putI fpX12_40 dX12_next_273 (fun σ3 => ?_)
  refine g_goto 486 dX12_next_276 (by decide) ?_
  exact g_return rfl dX12_next_486
def V.Wlk_next_p371  (σ : HS) (s0 : Int32) (s1 : Nat) : Option (Unit × HS) :=
  ck (tg σ s1 = 13) <| bn (sI σ s1 4 s0) fun σ1 =>
  some ((), σ1)
theorem V.gX12_next_p371 {X : CX}  (σ : HS) (s0 : Int32) (s1 : Nat) : G X RX12 "next" cX12_next 4 none 4 86 enV 371 [] [iv s0, av s1] σ (Wlk_next_p371 σ s0 s1) := by
  unfold Wlk_next_p371
  refine g_putI fpX12_40 dX12_next_371 (fun σ1 => ?_)
  refine g_goto 486 dX12_next_374 (by decide) ?_
  exact g_return rfl dX12_next_486
def V.Wlk_next_p326  : Nat → HS → Nat → Int32 → Option (Unit × HS)
  | 0, _, _, _ => none
  | n + 1, σ, x0, x3 =>
    if x3 = 0 then (
      ck (tg σ x0 = 13) <|
      ck (tg σ (gR σ x0 7) = 4) <| cl (Row_size σ (gR σ x0 7) ) fun r2 σ1 =>
      if r2 = (1 : Int32) then (
        ck (tg σ1 x0 = 13) <|
        ck (tg σ1 (gR σ1 x0 7) = 4) <| cl (Row_at σ1 (gR σ1 x0 7) (0 : Int32)) fun r4 σ3 =>
        Wlk_next_p371 σ3 r4 x0)
      else (
        Wlk_next_p371 σ1 (0 : Int32) x0))
    else (
      ck (tg σ x0 = 13) <|
      ck (tg σ x0 = 13) <| cl (Wlk_take σ x0 ) fun r6 σ5 =>
      ck (tg σ5 (gR σ x0 7) = 4) <| cl (Row_add σ5 (gR σ x0 7) r6) fun _ σ7 =>
      bn (x3 + (-1 : Int32)) fun y8 =>
      Wlk_next_p326 n σ7 x0 y8)
theorem V.gX12_next_p326 {X : CX}  : ∀ (n : Nat) (σ : HS) (x0 : Nat) (x3 : Int32), G X RX12 "next" cX12_next 4 none 4 86 enV 326 [(0, av x0), (3, iv x3)] [] σ (Wlk_next_p326 n σ x0 x3)
  | 0, σ, x0, x3 => by rw [Wlk_next_p326]; exact G.nul
  | n + 1, σ, x0, x3 => by
    rw [Wlk_next_p326]
    refine g_iload_n 3 1 dX12_next_326 rfl rfl ?_
    refine g_if_eq 347 dX12_next_327 (by decide) ?_ ?_
    · refine g_aload_n 0 0 dX12_next_347 rfl rfl ?_
      refine g_aload_n 0 0 dX12_next_348 rfl rfl ?_
      refine g_getR fdX12_10 dX12_next_349 ?_
      refine g_callV (fc := fun sς => Row_size sς (gR σ x0 7) ) (ci := 3) (as := []) rfl rfl rfl q1421 q1422 mdX12_62 (ctX3_size (gR σ x0 7) ) rfl (Nat.le_of_ble_eq_true rfl) (Nat.le_of_ble_eq_true rfl) (Nat.le_of_ble_eq_true rfl) pu_I dX12_next_352 (fun r2 σ1 => ?_)
      refine g_iconst (v := 1) dX12_next_355 (by decide) ?_
      refine g_icmp_ne 370 dX12_next_356 (by decide) ?_ ?_
      · refine g_iconst (v := 0) dX12_next_370 (by decide) ?_
        refine G.sub [] rfl ?_
        exact gX12_next_p371 _ _ _
      · refine g_aload_n 0 0 dX12_next_359 rfl rfl ?_
        refine g_getR fdX12_10 dX12_next_360 ?_
        refine g_iconst (v := 0) dX12_next_363 (by decide) ?_
        refine g_callV (fc := fun sς => Row_at sς (gR σ1 x0 7) (0 : Int32)) (ci := 3) (as := [iv (0 : Int32)]) rfl rfl rfl q1409 q1410 mdX12_65 (ctX3_at (gR σ1 x0 7) (0 : Int32)) rfl (Nat.le_of_ble_eq_true rfl) (Nat.le_of_ble_eq_true rfl) (Nat.le_of_ble_eq_true rfl) pu_I dX12_next_364 (fun r4 σ3 => ?_)
        refine g_goto 371 dX12_next_367 (by decide) ?_
        refine G.sub [] rfl ?_
        exact gX12_next_p371 _ _ _
    · refine g_aload_n 0 0 dX12_next_330 rfl rfl ?_
      refine g_getR fdX12_10 dX12_next_331 ?_
      refine g_aload_n 0 0 dX12_next_334 rfl rfl ?_
      refine g_callV (fc := fun sς => Wlk_take sς x0 ) (ci := 12) (as := []) rfl rfl rfl q1585 qs41 mdX12_24 (ctX12_take x0 ) rfl (Nat.le_of_ble_eq_true rfl) (Nat.le_of_ble_eq_true rfl) (Nat.le_of_ble_eq_true rfl) pu_I dX12_next_335 (fun r6 σ5 => ?_)
      refine g_callV (fc := fun sς => Row_add sς (gR σ x0 7) r6) (ci := 3) (as := [iv r6]) rfl rfl rfl q1405 q1406 mdX12_59 (ctX3_add (gR σ x0 7) r6) rfl (Nat.le_of_ble_eq_true rfl) (Nat.le_of_ble_eq_true rfl) (Nat.le_of_ble_eq_true rfl) pu_V dX12_next_338 (fun _ σ7 => ?_)
      refine g_iincB (w := (-1)) 1 dX12_next_341 rfl (by decide) (by decide) (fun _ => rfl) (fun y8 => ?_)
      refine g_goto 326 dX12_next_344 (by decide) ?_
      refine G.sub [1, 0] rfl ?_
      exact gX12_next_p326 n _ _ _
def V.Wlk_next_p377  (σ : HS) (x0 : Nat) : Option (Unit × HS) :=
  ck (tg σ x0 = 13) <| cl (Wlk_take σ x0 ) fun r2 σ1 =>
  some ((), σ1)
theorem V.gX12_next_p377 {X : CX}  (σ : HS) (x0 : Nat) : G X RX12 "next" cX12_next 4 none 4 86 enV 377 [(0, av x0)] [] σ (Wlk_next_p377 σ x0) := by
  unfold Wlk_next_p377
  refine g_aload_n 0 0 dX12_next_377 rfl rfl ?_
  refine g_callV (fc := fun sς => Wlk_take sς x0 ) (ci := 12) (as := []) rfl rfl rfl q1585 qs41 mdX12_24 (ctX12_take x0 ) rfl (Nat.le_of_ble_eq_true rfl) (Nat.le_of_ble_eq_true rfl) (Nat.le_of_ble_eq_true rfl) pu_I dX12_next_378 (fun r2 σ1 => ?_)
  refine g_pop dX12_next_381 rfl ?_
  refine g_goto 486 dX12_next_382 (by decide) ?_
  exact g_return rfl dX12_next_486
def V.Wlk_next (σ : HS) (x0 : Nat) : Option (Unit × HS) :=
  ck (tg σ x0 = 13) <|
  ck (tg σ x0 = 13) <| bn (sI σ x0 2 (gI σ x0 1)) fun σ1 =>
  ck (tg σ1 x0 = 13) <| cl (Wlk_take σ1 x0 ) fun r3 σ2 =>
  ck (tg σ2 x0 = 13) <| bn (sI σ2 x0 3 r3) fun σ4 =>
  ck (tg σ4 x0 = 13) <| bn (sI σ4 x0 4 (0 : Int32)) fun σ5 =>
  ck (tg σ5 x0 = 13) <| bn (sI σ5 x0 5 (0 : Int32)) fun σ6 =>
  ck (tg σ6 x0 = 13) <|
  bn (gI σ6 x0 3) fun y7 =>
  swx y7 [
    (2, (
      Wlk_next_p240 σ6 x0)),
    (3, (
      Wlk_next_p240 σ6 x0)),
    (4, (
      Wlk_next_p240 σ6 x0)),
    (12, (
      Wlk_next_p268 σ6 x0)),
    (13, (
      Wlk_next_p268 σ6 x0)),
    (14, (
      ck (tg σ6 x0 = 13) <| cl (Wlk_wholes σ6 x0 ) fun _ σ8 =>
      ck (tg σ8 x0 = 13) <| cl (Wlk_whole σ8 x0 ) fun r10 σ9 =>
      ck (tg σ9 x0 = 13) <| bn (sI σ9 x0 4 r10) fun σ11 =>
      some ((), σ11))),
    (16, (
      Wlk_next_p268 σ6 x0)),
    (17, (
      ck (tg σ6 x0 = 13) <| cl (Wlk_whole σ6 x0 ) fun r13 σ12 =>
      ck (tg σ12 x0 = 13) <| bn (sI σ12 x0 4 r13) fun σ14 =>
      ck (tg σ14 x0 = 13) <| cl (Wlk_whole σ14 x0 ) fun r16 σ15 =>
      ck (tg σ15 x0 = 13) <| bn (sI σ15 x0 5 r16) fun σ17 =>
      some ((), σ17))),
    (28, (
      ck (tg σ6 x0 = 13) <|
      ck (tg σ6 (gR σ6 x0 7) = 4) <| cl (Row_cut σ6 (gR σ6 x0 7) (0 : Int32)) fun _ σ18 =>
      ck (tg σ18 x0 = 13) <| cl (Wlk_whole σ18 x0 ) fun r20 σ19 =>
      Wlk_next_p326 FU σ19 x0 r20)),
    (32, (
      Wlk_next_p268 σ6 x0)),
    (33, (
      Wlk_next_p268 σ6 x0)),
    (34, (
      Wlk_next_p268 σ6 x0)),
    (35, (
      Wlk_next_p268 σ6 x0)),
    (36, (
      Wlk_next_p268 σ6 x0)),
    (37, (
      Wlk_next_p268 σ6 x0)),
    (38, (
      Wlk_next_p268 σ6 x0)),
    (63, (
      Wlk_next_p377 σ6 x0)),
    (64, (
      Wlk_next_p377 σ6 x0)),
    (65, (
      ck (tg σ6 x0 = 13) <| cl (Wlk_number σ6 x0 (1 : Int32)) fun r22 σ21 =>
      ck (tg σ21 x0 = 13) <| bn (sJ σ21 x0 6 r22) fun σ23 =>
      some ((), σ23))),
    (66, (
      ck (tg σ6 x0 = 13) <| cl (Wlk_number σ6 x0 (1 : Int32)) fun r25 σ24 =>
      ck (tg σ24 x0 = 13) <| bn (sJ σ24 x0 6 r25) fun σ26 =>
      some ((), σ26))),
    (67, (
      ck (tg σ6 x0 = 13) <| cl (Wlk_bits σ6 x0 (4 : Int32)) fun r28 σ27 =>
      ck (tg σ27 x0 = 13) <| bn (sJ σ27 x0 6 r28) fun σ29 =>
      some ((), σ29))),
    (68, (
      ck (tg σ6 x0 = 13) <| cl (Wlk_bits σ6 x0 (8 : Int32)) fun r31 σ30 =>
      ck (tg σ30 x0 = 13) <| bn (sJ σ30 x0 6 r31) fun σ32 =>
      some ((), σ32))),
    (208, (
      ck (tg σ6 x0 = 13) <| cl (Wlk_take σ6 x0 ) fun r34 σ33 =>
      ck (tg σ33 x0 = 13) <| bn (sI σ33 x0 4 r34) fun σ35 =>
      some ((), σ35))),
    (210, (
      Wlk_next_p268 σ6 x0)),
    (252, (
      ck (tg σ6 x0 = 13) <| cl (Wlk_prefixed σ6 x0 ) fun _ σ36 =>
      some ((), σ36)))
    ] (
    ck (tg σ6 x0 = 13) <|
    if (gI σ6 x0 3) ≤ (39 : Int32) then (
      some ((), σ6))
    else (
      ck (tg σ6 x0 = 13) <|
      if (63 : Int32) ≤ (gI σ6 x0 3) then (
        some ((), σ6))
      else (
        ck (tg σ6 x0 = 13) <| cl (Wlk_whole σ6 x0 ) fun r38 σ37 =>
        ck (tg σ37 x0 = 13) <| bn (sI σ37 x0 4 r38) fun σ39 =>
        ck (tg σ39 x0 = 13) <| cl (Wlk_whole σ39 x0 ) fun r41 σ40 =>
        ck (tg σ40 x0 = 13) <| bn (sI σ40 x0 5 r41) fun σ42 =>
        some ((), σ42))))
theorem V.ctX12_next (x0 : Nat) : Ct yX12_next  cX12_next 4 none 4 86 eV [av x0] (fun σ => Wlk_next σ x0) := by
  refine Ct.of (own := RX12) (nm := "next") (desc := "()V") rfl (by decide) (Nat.le_of_ble_eq_true rfl) (by decide) (fun X σ => ?_)
  show G X RX12 "next" cX12_next 4 none 4 86 enV 0 [(0, av x0)] [] σ (Wlk_next σ x0)
  unfold Wlk_next
  refine g_aload_n 0 0 dX12_next_0 rfl rfl ?_
  refine g_aload_n 0 0 dX12_next_1 rfl rfl ?_
  refine g_getI fdX12_20 dX12_next_2 ?_
  refine g_putI fpX12_34 dX12_next_5 (fun σ1 => ?_)
  refine g_aload_n 0 0 dX12_next_8 rfl rfl ?_
  refine g_aload_n 0 0 dX12_next_9 rfl rfl ?_
  refine g_callV (fc := fun sς => Wlk_take sς x0 ) (ci := 12) (as := []) rfl rfl rfl q1585 qs41 mdX12_24 (ctX12_take x0 ) rfl (Nat.le_of_ble_eq_true rfl) (Nat.le_of_ble_eq_true rfl) (Nat.le_of_ble_eq_true rfl) pu_I dX12_next_10 (fun r3 σ2 => ?_)
  refine g_putI fpX12_37 dX12_next_13 (fun σ4 => ?_)
  refine g_aload_n 0 0 dX12_next_16 rfl rfl ?_
  refine g_iconst (v := 0) dX12_next_17 (by decide) ?_
  refine g_putI fpX12_40 dX12_next_18 (fun σ5 => ?_)
  refine g_aload_n 0 0 dX12_next_21 rfl rfl ?_
  refine g_iconst (v := 0) dX12_next_22 (by decide) ?_
  refine g_putI fpX12_43 dX12_next_23 (fun σ6 => ?_)
  refine g_aload_n 0 0 dX12_next_26 rfl rfl ?_
  refine g_getI fdX12_37 dX12_next_27 ?_
  refine g_nmI (fun y7 => ?_)
  refine g_lsw dX12_next_30 (by decide +kernel) ?_
  refine g_case ex0 (t := 240) (by decide +kernel) ?_ (fun hx => ?_)
  · exact gX12_next_p240 _ _
  refine g_case hx (t := 240) (by decide +kernel) ?_ (fun hx => ?_)
  · exact gX12_next_p240 _ _
  refine g_case hx (t := 240) (by decide +kernel) ?_ (fun hx => ?_)
  · exact gX12_next_p240 _ _
  refine g_case hx (t := 268) (by decide +kernel) ?_ (fun hx => ?_)
  · exact gX12_next_p268 _ _
  refine g_case hx (t := 268) (by decide +kernel) ?_ (fun hx => ?_)
  · exact gX12_next_p268 _ _
  refine g_case hx (t := 279) (by decide +kernel) ?_ (fun hx => ?_)
  · refine g_aload_n 0 0 dX12_next_279 rfl rfl ?_
    refine g_callV (fc := fun sς => Wlk_wholes sς x0 ) (ci := 12) (as := []) rfl rfl rfl q1617 qs45 mdX12_52 (ctX12_wholes x0 ) rfl (Nat.le_of_ble_eq_true rfl) (Nat.le_of_ble_eq_true rfl) (Nat.le_of_ble_eq_true rfl) pu_V dX12_next_280 (fun _ σ8 => ?_)
    refine g_aload_n 0 0 dX12_next_283 rfl rfl ?_
    refine g_aload_n 0 0 dX12_next_284 rfl rfl ?_
    refine g_callV (fc := fun sς => Wlk_whole sς x0 ) (ci := 12) (as := []) rfl rfl rfl q1577 qs39 mdX12_49 (ctX12_whole x0 ) rfl (Nat.le_of_ble_eq_true rfl) (Nat.le_of_ble_eq_true rfl) (Nat.le_of_ble_eq_true rfl) pu_I dX12_next_285 (fun r10 σ9 => ?_)
    refine g_putI fpX12_40 dX12_next_288 (fun σ11 => ?_)
    refine g_goto 486 dX12_next_291 (by decide) ?_
    exact g_return rfl dX12_next_486
  refine g_case hx (t := 268) (by decide +kernel) ?_ (fun hx => ?_)
  · exact gX12_next_p268 _ _
  refine g_case hx (t := 294) (by decide +kernel) ?_ (fun hx => ?_)
  · refine g_aload_n 0 0 dX12_next_294 rfl rfl ?_
    refine g_aload_n 0 0 dX12_next_295 rfl rfl ?_
    refine g_callV (fc := fun sς => Wlk_whole sς x0 ) (ci := 12) (as := []) rfl rfl rfl q1577 qs39 mdX12_49 (ctX12_whole x0 ) rfl (Nat.le_of_ble_eq_true rfl) (Nat.le_of_ble_eq_true rfl) (Nat.le_of_ble_eq_true rfl) pu_I dX12_next_296 (fun r13 σ12 => ?_)
    refine g_putI fpX12_40 dX12_next_299 (fun σ14 => ?_)
    refine g_aload_n 0 0 dX12_next_302 rfl rfl ?_
    refine g_aload_n 0 0 dX12_next_303 rfl rfl ?_
    refine g_callV (fc := fun sς => Wlk_whole sς x0 ) (ci := 12) (as := []) rfl rfl rfl q1577 qs39 mdX12_49 (ctX12_whole x0 ) rfl (Nat.le_of_ble_eq_true rfl) (Nat.le_of_ble_eq_true rfl) (Nat.le_of_ble_eq_true rfl) pu_I dX12_next_304 (fun r16 σ15 => ?_)
    refine g_putI fpX12_43 dX12_next_307 (fun σ17 => ?_)
    refine g_goto 486 dX12_next_310 (by decide) ?_
    exact g_return rfl dX12_next_486
  refine g_case hx (t := 313) (by decide +kernel) ?_ (fun hx => ?_)
  · refine g_aload_n 0 0 dX12_next_313 rfl rfl ?_
    refine g_getR fdX12_10 dX12_next_314 ?_
    refine g_iconst (v := 0) dX12_next_317 (by decide) ?_
    refine g_callV (fc := fun sς => Row_cut sς (gR σ6 x0 7) (0 : Int32)) (ci := 3) (as := [iv (0 : Int32)]) rfl rfl rfl q1281 q1282 mdX12_55 (ctX3_cut (gR σ6 x0 7) (0 : Int32)) rfl (Nat.le_of_ble_eq_true rfl) (Nat.le_of_ble_eq_true rfl) (Nat.le_of_ble_eq_true rfl) pu_V dX12_next_318 (fun _ σ18 => ?_)
    refine g_aload_n 0 0 dX12_next_321 rfl rfl ?_
    refine g_callV (fc := fun sς => Wlk_whole sς x0 ) (ci := 12) (as := []) rfl rfl rfl q1577 qs39 mdX12_49 (ctX12_whole x0 ) rfl (Nat.le_of_ble_eq_true rfl) (Nat.le_of_ble_eq_true rfl) (Nat.le_of_ble_eq_true rfl) pu_I dX12_next_322 (fun r20 σ19 => ?_)
    refine g_istore_n 3 dX12_next_325 rfl (by decide) rfl ?_
    refine G.sub [1, 0] rfl ?_
    exact gX12_next_p326 FU _ _ _
  refine g_case hx (t := 268) (by decide +kernel) ?_ (fun hx => ?_)
  · exact gX12_next_p268 _ _
  refine g_case hx (t := 268) (by decide +kernel) ?_ (fun hx => ?_)
  · exact gX12_next_p268 _ _
  refine g_case hx (t := 268) (by decide +kernel) ?_ (fun hx => ?_)
  · exact gX12_next_p268 _ _
  refine g_case hx (t := 268) (by decide +kernel) ?_ (fun hx => ?_)
  · exact gX12_next_p268 _ _
  refine g_case hx (t := 268) (by decide +kernel) ?_ (fun hx => ?_)
  · exact gX12_next_p268 _ _
  refine g_case hx (t := 268) (by decide +kernel) ?_ (fun hx => ?_)
  · exact gX12_next_p268 _ _
  refine g_case hx (t := 268) (by decide +kernel) ?_ (fun hx => ?_)
  · exact gX12_next_p268 _ _
  refine g_case hx (t := 377) (by decide +kernel) ?_ (fun hx => ?_)
  · exact gX12_next_p377 _ _
  refine g_case hx (t := 377) (by decide +kernel) ?_ (fun hx => ?_)
  · exact gX12_next_p377 _ _
  refine g_case hx (t := 385) (by decide +kernel) ?_ (fun hx => ?_)
  · refine g_aload_n 0 0 dX12_next_385 rfl rfl ?_
    refine g_aload_n 0 0 dX12_next_386 rfl rfl ?_
    refine g_iconst (v := 1) dX12_next_387 (by decide) ?_
    refine g_callV (fc := fun sς => Wlk_number sς x0 (1 : Int32)) (ci := 12) (as := [iv (1 : Int32)]) rfl rfl rfl q1581 qs40 mdX12_30 (ctX12_number x0 (1 : Int32)) rfl (Nat.le_of_ble_eq_true rfl) (Nat.le_of_ble_eq_true rfl) (Nat.le_of_ble_eq_true rfl) pu_J dX12_next_388 (fun r22 σ21 => ?_)
    refine g_putJ fpX12_68 dX12_next_391 (fun σ23 => ?_)
    refine g_goto 486 dX12_next_394 (by decide) ?_
    exact g_return rfl dX12_next_486
  refine g_case hx (t := 397) (by decide +kernel) ?_ (fun hx => ?_)
  · refine g_aload_n 0 0 dX12_next_397 rfl rfl ?_
    refine g_aload_n 0 0 dX12_next_398 rfl rfl ?_
    refine g_iconst (v := 1) dX12_next_399 (by decide) ?_
    refine g_callV (fc := fun sς => Wlk_number sς x0 (1 : Int32)) (ci := 12) (as := [iv (1 : Int32)]) rfl rfl rfl q1581 qs40 mdX12_30 (ctX12_number x0 (1 : Int32)) rfl (Nat.le_of_ble_eq_true rfl) (Nat.le_of_ble_eq_true rfl) (Nat.le_of_ble_eq_true rfl) pu_J dX12_next_400 (fun r25 σ24 => ?_)
    refine g_putJ fpX12_68 dX12_next_403 (fun σ26 => ?_)
    refine g_goto 486 dX12_next_406 (by decide) ?_
    exact g_return rfl dX12_next_486
  refine g_case hx (t := 409) (by decide +kernel) ?_ (fun hx => ?_)
  · refine g_aload_n 0 0 dX12_next_409 rfl rfl ?_
    refine g_aload_n 0 0 dX12_next_410 rfl rfl ?_
    refine g_iconst (v := 4) dX12_next_411 (by decide) ?_
    refine g_callV (fc := fun sς => Wlk_bits sς x0 (4 : Int32)) (ci := 12) (as := [iv (4 : Int32)]) rfl rfl rfl q1625 qs46 mdX12_72 (ctX12_bits x0 (4 : Int32)) rfl (Nat.le_of_ble_eq_true rfl) (Nat.le_of_ble_eq_true rfl) (Nat.le_of_ble_eq_true rfl) pu_J dX12_next_412 (fun r28 σ27 => ?_)
    refine g_putJ fpX12_68 dX12_next_415 (fun σ29 => ?_)
    refine g_goto 486 dX12_next_418 (by decide) ?_
    exact g_return rfl dX12_next_486
  refine g_case hx (t := 421) (by decide +kernel) ?_ (fun hx => ?_)
  · refine g_aload_n 0 0 dX12_next_421 rfl rfl ?_
    refine g_aload_n 0 0 dX12_next_422 rfl rfl ?_
    refine g_bipush (v := 8) dX12_next_423 (by decide) ?_
    refine g_callV (fc := fun sς => Wlk_bits sς x0 (8 : Int32)) (ci := 12) (as := [iv (8 : Int32)]) rfl rfl rfl q1625 qs46 mdX12_72 (ctX12_bits x0 (8 : Int32)) rfl (Nat.le_of_ble_eq_true rfl) (Nat.le_of_ble_eq_true rfl) (Nat.le_of_ble_eq_true rfl) pu_J dX12_next_425 (fun r31 σ30 => ?_)
    refine g_putJ fpX12_68 dX12_next_428 (fun σ32 => ?_)
    refine g_goto 486 dX12_next_431 (by decide) ?_
    exact g_return rfl dX12_next_486
  refine g_case hx (t := 434) (by decide +kernel) ?_ (fun hx => ?_)
  · refine g_aload_n 0 0 dX12_next_434 rfl rfl ?_
    refine g_aload_n 0 0 dX12_next_435 rfl rfl ?_
    refine g_callV (fc := fun sς => Wlk_take sς x0 ) (ci := 12) (as := []) rfl rfl rfl q1585 qs41 mdX12_24 (ctX12_take x0 ) rfl (Nat.le_of_ble_eq_true rfl) (Nat.le_of_ble_eq_true rfl) (Nat.le_of_ble_eq_true rfl) pu_I dX12_next_436 (fun r34 σ33 => ?_)
    refine g_putI fpX12_40 dX12_next_439 (fun σ35 => ?_)
    refine g_goto 486 dX12_next_442 (by decide) ?_
    exact g_return rfl dX12_next_486
  refine g_case hx (t := 268) (by decide +kernel) ?_ (fun hx => ?_)
  · exact gX12_next_p268 _ _
  refine g_case hx (t := 445) (by decide +kernel) ?_ (fun hx => ?_)
  · refine g_aload_n 0 0 dX12_next_445 rfl rfl ?_
    refine g_callV (fc := fun sς => Wlk_prefixed sς x0 ) (ci := 12) (as := []) rfl rfl rfl q1629 qs47 mdX12_76 (ctX12_prefixed x0 ) rfl (Nat.le_of_ble_eq_true rfl) (Nat.le_of_ble_eq_true rfl) (Nat.le_of_ble_eq_true rfl) pu_V dX12_next_446 (fun _ σ36 => ?_)
    refine g_goto 486 dX12_next_449 (by decide) ?_
    exact g_return rfl dX12_next_486
  refine g_dflt (t := 452) (lswT_d (by decide +kernel) hx) ?_
  refine g_aload_n 0 0 dX12_next_452 rfl rfl ?_
  refine g_getI fdX12_37 dX12_next_453 ?_
  refine g_bipush (v := 39) dX12_next_456 (by decide) ?_
  refine g_icmp_le 486 dX12_next_458 (by decide) ?_ ?_
  · exact g_return rfl dX12_next_486
  · refine g_aload_n 0 0 dX12_next_461 rfl rfl ?_
    refine g_getI fdX12_37 dX12_next_462 ?_
    refine g_bipush (v := 63) dX12_next_465 (by decide) ?_
    refine g_icmp_ge 486 dX12_next_467 (by decide) ?_ ?_
    · exact g_return rfl dX12_next_486
    · refine g_aload_n 0 0 dX12_next_470 rfl rfl ?_
      refine g_aload_n 0 0 dX12_next_471 rfl rfl ?_
      refine g_callV (fc := fun sς => Wlk_whole sς x0 ) (ci := 12) (as := []) rfl rfl rfl q1577 qs39 mdX12_49 (ctX12_whole x0 ) rfl (Nat.le_of_ble_eq_true rfl) (Nat.le_of_ble_eq_true rfl) (Nat.le_of_ble_eq_true rfl) pu_I dX12_next_472 (fun r38 σ37 => ?_)
      refine g_putI fpX12_40 dX12_next_475 (fun σ39 => ?_)
      refine g_aload_n 0 0 dX12_next_478 rfl rfl ?_
      refine g_aload_n 0 0 dX12_next_479 rfl rfl ?_
      refine g_callV (fc := fun sς => Wlk_whole sς x0 ) (ci := 12) (as := []) rfl rfl rfl q1577 qs39 mdX12_49 (ctX12_whole x0 ) rfl (Nat.le_of_ble_eq_true rfl) (Nat.le_of_ble_eq_true rfl) (Nat.le_of_ble_eq_true rfl) pu_I dX12_next_480 (fun r41 σ40 => ?_)
      refine g_putI fpX12_43 dX12_next_483 (fun σ42 => ?_)
      exact g_return rfl dX12_next_486
