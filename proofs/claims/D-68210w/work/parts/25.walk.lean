set_option maxRecDepth 100000
theorem V.dX13_initTable_0 : decode cX13_initTable 0 = .ok (.aload_n 0, 1) := by decide +kernel
theorem V.dX13_initTable_1 : decode cX13_initTable 1 = .ok (.getfield 77, 3) := by decide +kernel
theorem V.dX13_initTable_4 : decode cX13_initTable 4 = .ok (.iload_n 1, 1) := by decide +kernel
theorem V.dX13_initTable_5 : decode cX13_initTable 5 = .ok (.aaload, 1) := by decide +kernel
theorem V.dX13_initTable_6 : decode cX13_initTable 6 = .ok (.iload_n 3, 1) := by decide +kernel
theorem V.dX13_initTable_7 : decode cX13_initTable 7 = .ok (.invokevirtual 111, 3) := by decide +kernel
theorem V.dX13_initTable_10 : decode cX13_initTable 10 = .ok (.istore 10, 2) := by decide +kernel
theorem V.dX13_initTable_12 : decode cX13_initTable 12 = .ok (.lload 4, 2) := by decide +kernel
theorem V.dX13_initTable_14 : decode cX13_initTable 14 = .ok (.lload 8, 2) := by decide +kernel
theorem V.dX13_initTable_16 : decode cX13_initTable 16 = .ok (.ladd, 1) := by decide +kernel
theorem V.dX13_initTable_17 : decode cX13_initTable 17 = .ok (.aload_n 0, 1) := by decide +kernel
theorem V.dX13_initTable_18 : decode cX13_initTable 18 = .ok (.getfield 40, 3) := by decide +kernel
theorem V.dX13_initTable_21 : decode cX13_initTable 21 = .ok (.iload 10, 2) := by decide +kernel
theorem V.dX13_initTable_23 : decode cX13_initTable 23 = .ok (.invokevirtual 189, 3) := by decide +kernel
theorem V.dX13_initTable_26 : decode cX13_initTable 26 = .ok (.i2l, 1) := by decide +kernel
theorem V.dX13_initTable_27 : decode cX13_initTable 27 = .ok (.lcmp, 1) := by decide +kernel
theorem V.dX13_initTable_28 : decode cX13_initTable 28 = .ok (.ifCond .gt 23, 3) := by decide +kernel
theorem V.dX13_initTable_31 : decode cX13_initTable 31 = .ok (.lload 6, 2) := by decide +kernel
theorem V.dX13_initTable_33 : decode cX13_initTable 33 = .ok (.lload 8, 2) := by decide +kernel
theorem V.dX13_initTable_35 : decode cX13_initTable 35 = .ok (.ladd, 1) := by decide +kernel
theorem V.dX13_initTable_36 : decode cX13_initTable 36 = .ok (.aload_n 0, 1) := by decide +kernel
theorem V.dX13_initTable_37 : decode cX13_initTable 37 = .ok (.getfield 89, 3) := by decide +kernel
theorem V.dX13_initTable_40 : decode cX13_initTable 40 = .ok (.iload_n 1, 1) := by decide +kernel
theorem V.dX13_initTable_41 : decode cX13_initTable 41 = .ok (.aaload, 1) := by decide +kernel
theorem V.dX13_initTable_42 : decode cX13_initTable 42 = .ok (.iload_n 2, 1) := by decide +kernel
theorem V.dX13_initTable_43 : decode cX13_initTable 43 = .ok (.invokevirtual 111, 3) := by decide +kernel
theorem V.dX13_initTable_46 : decode cX13_initTable 46 = .ok (.i2l, 1) := by decide +kernel
theorem V.dX13_initTable_47 : decode cX13_initTable 47 = .ok (.lcmp, 1) := by decide +kernel
theorem V.dX13_initTable_48 : decode cX13_initTable 48 = .ok (.ifCond .le 5, 3) := by decide +kernel
theorem V.dX13_initTable_51 : decode cX13_initTable 51 = .ok (.iconst 0, 1) := by decide +kernel
theorem V.dX13_initTable_52 : decode cX13_initTable 52 = .ok (.ireturn, 1) := by decide +kernel
theorem V.dX13_initTable_53 : decode cX13_initTable 53 = .ok (.lconst 0, 1) := by decide +kernel
theorem V.dX13_initTable_54 : decode cX13_initTable 54 = .ok (.lstore 11, 2) := by decide +kernel
theorem V.dX13_initTable_56 : decode cX13_initTable 56 = .ok (.lload 11, 2) := by decide +kernel
theorem V.dX13_initTable_58 : decode cX13_initTable 58 = .ok (.lload 8, 2) := by decide +kernel
theorem V.dX13_initTable_60 : decode cX13_initTable 60 = .ok (.lcmp, 1) := by decide +kernel
theorem V.dX13_initTable_61 : decode cX13_initTable 61 = .ok (.ifCond .ge 48, 3) := by decide +kernel
theorem V.dX13_initTable_64 : decode cX13_initTable 64 = .ok (.aload_n 0, 1) := by decide +kernel
theorem V.dX13_initTable_65 : decode cX13_initTable 65 = .ok (.getfield 40, 3) := by decide +kernel
theorem V.dX13_initTable_68 : decode cX13_initTable 68 = .ok (.iload 10, 2) := by decide +kernel
theorem V.dX13_initTable_70 : decode cX13_initTable 70 = .ok (.lload 4, 2) := by decide +kernel
theorem V.dX13_initTable_72 : decode cX13_initTable 72 = .ok (.lload 11, 2) := by decide +kernel
theorem V.dX13_initTable_74 : decode cX13_initTable 74 = .ok (.ladd, 1) := by decide +kernel
theorem V.dX13_initTable_75 : decode cX13_initTable 75 = .ok (.aload_n 0, 1) := by decide +kernel
theorem V.dX13_initTable_76 : decode cX13_initTable 76 = .ok (.getfield 95, 3) := by decide +kernel
theorem V.dX13_initTable_79 : decode cX13_initTable 79 = .ok (.aload_n 0, 1) := by decide +kernel
theorem V.dX13_initTable_80 : decode cX13_initTable 80 = .ok (.getfield 86, 3) := by decide +kernel
theorem V.dX13_initTable_83 : decode cX13_initTable 83 = .ok (.iload_n 1, 1) := by decide +kernel
theorem V.dX13_initTable_84 : decode cX13_initTable 84 = .ok (.aaload, 1) := by decide +kernel
theorem V.dX13_initTable_85 : decode cX13_initTable 85 = .ok (.iload_n 2, 1) := by decide +kernel
theorem V.dX13_initTable_86 : decode cX13_initTable 86 = .ok (.invokevirtual 111, 3) := by decide +kernel
theorem V.dX13_initTable_89 : decode cX13_initTable 89 = .ok (.lload 6, 2) := by decide +kernel
theorem V.dX13_initTable_91 : decode cX13_initTable 91 = .ok (.lload 11, 2) := by decide +kernel
theorem V.dX13_initTable_93 : decode cX13_initTable 93 = .ok (.ladd, 1) := by decide +kernel
theorem V.dX13_initTable_94 : decode cX13_initTable 94 = .ok (.l2i, 1) := by decide +kernel
theorem V.dX13_initTable_95 : decode cX13_initTable 95 = .ok (.iadd, 1) := by decide +kernel
theorem V.dX13_initTable_96 : decode cX13_initTable 96 = .ok (.iaload, 1) := by decide +kernel
theorem V.dX13_initTable_97 : decode cX13_initTable 97 = .ok (.invokevirtual 307, 3) := by decide +kernel
theorem V.dX13_initTable_100 : decode cX13_initTable 100 = .ok (.lload 11, 2) := by decide +kernel
theorem V.dX13_initTable_102 : decode cX13_initTable 102 = .ok (.lconst 1, 1) := by decide +kernel
theorem V.dX13_initTable_103 : decode cX13_initTable 103 = .ok (.ladd, 1) := by decide +kernel
theorem V.dX13_initTable_104 : decode cX13_initTable 104 = .ok (.lstore 11, 2) := by decide +kernel
theorem V.dX13_initTable_106 : decode cX13_initTable 106 = .ok (.goto (-50), 3) := by decide +kernel
theorem V.dX13_initTable_109 : decode cX13_initTable 109 = .ok (.iconst 1, 1) := by decide +kernel
theorem V.dX13_initTable_110 : decode cX13_initTable 110 = .ok (.ireturn, 1) := by decide +kernel
theorem V.mdX13_307 : MD RX13 307 yX14_put cX14_put 5 none 3 := ⟨Or.inl q2326, q374, q2329, by decide, by decide, by decide +kernel⟩
/-! ModuleEngine$Store.initTable(IIIJJJ)Z -/
def V.Sto_initTable_p56  : Nat → HS → Nat → Int32 → Int32 → Int64 → Int64 → Int64 → Int32 → Int64 → Option (Int32 × HS)
  | 0, _, _, _, _, _, _, _, _, _ => none
  | n + 1, σ, x0, x1, x2, x4, x6, x8, x10, x11 =>
    if x8 ≤ x11 then (
      some ((1 : Int32), σ))
    else (
      ck (tg σ x0 = 14) <|
      ck (tg σ x0 = 14) <|
      ck (tg σ x0 = 14) <|
      ck (tg σ (gR σ x0 19) = 104 ∧ inb x1 (ln σ (gR σ x0 19))) <|
      ck (tg σ (gR σ (gR σ x0 19) (ix x1)) = 4) <| cl (Row_at σ (gR σ (gR σ x0 19) (ix x1)) x2) fun r2 σ1 =>
      ck (tg σ1 (gR σ x0 23) = 100 ∧ inb (r2 + ((x6 + x11).toInt32)) (ln σ1 (gR σ x0 23))) <|
      ck (tg σ1 (gR σ x0 7) = 15) <| cl (Tab_put σ1 (gR σ x0 7) x10 (x4 + x11) (gI σ1 (gR σ x0 23) (ix (r2 + ((x6 + x11).toInt32))))) fun _ σ3 =>
      bn (x11 + (1 : Int64)) fun y4 =>
      Sto_initTable_p56 n σ3 x0 x1 x2 x4 x6 x8 x10 y4)
theorem V.gX13_initTable_p56 {X : CX}  : ∀ (n : Nat) (σ : HS) (x0 : Nat) (x1 : Int32) (x2 : Int32) (x4 : Int64) (x6 : Int64) (x8 : Int64) (x10 : Int32) (x11 : Int64), G X RX13 "initTable" cX13_initTable 13 (some .boolean) 1 24 enI 56 [(0, av x0), (1, iv x1), (2, iv x2), (4, jv x4), (6, jv x6), (8, jv x8), (10, iv x10), (11, jv x11)] [] σ (Sto_initTable_p56 n σ x0 x1 x2 x4 x6 x8 x10 x11)
  | 0, σ, x0, x1, x2, x4, x6, x8, x10, x11 => by rw [Sto_initTable_p56]; exact G.nul
  | n + 1, σ, x0, x1, x2, x4, x6, x8, x10, x11 => by
    rw [Sto_initTable_p56]
    refine g_lload 7 dX13_initTable_56 rfl ?_
    refine g_lload 5 dX13_initTable_58 rfl ?_
    refine g_lcmp_ge 109 dX13_initTable_60 dX13_initTable_61 (by decide) ?_ ?_
    · refine g_iconst (v := 1) dX13_initTable_109 (by decide) ?_
      exact g_zreturn rfl (by decide +kernel) dX13_initTable_110
    · refine g_aload_n 0 0 dX13_initTable_64 rfl rfl ?_
      refine g_getR fdX13_40 dX13_initTable_65 ?_
      refine g_iload 6 dX13_initTable_68 rfl ?_
      refine g_lload 3 dX13_initTable_70 rfl ?_
      refine g_lload 7 dX13_initTable_72 rfl ?_
      refine g_ladd dX13_initTable_74 ?_
      refine g_aload_n 0 0 dX13_initTable_75 rfl rfl ?_
      refine g_getR fdX13_95 dX13_initTable_76 ?_
      refine g_aload_n 0 0 dX13_initTable_79 rfl rfl ?_
      refine g_getR fdX13_86 dX13_initTable_80 ?_
      refine g_iload_n 1 1 dX13_initTable_83 rfl rfl ?_
      refine g_aaload 4 rfl dX13_initTable_84 ?_
      refine g_iload_n 2 2 dX13_initTable_85 rfl rfl ?_
      refine g_callV (fc := fun sς => Row_at sς (gR σ (gR σ x0 19) (ix x1)) x2) (ci := 3) (as := [iv x2]) rfl rfl rfl q1409 q1410 mdX13_111 (ctX3_at (gR σ (gR σ x0 19) (ix x1)) x2) rfl (Nat.le_of_ble_eq_true rfl) (Nat.le_of_ble_eq_true rfl) (Nat.le_of_ble_eq_true rfl) pu_I dX13_initTable_86 (fun r2 σ1 => ?_)
      refine g_lload 4 dX13_initTable_89 rfl ?_
      refine g_lload 7 dX13_initTable_91 rfl ?_
      refine g_ladd dX13_initTable_93 ?_
      refine g_l2i dX13_initTable_94 ?_
      refine g_iadd dX13_initTable_95 ?_
      refine g_iaload dX13_initTable_96 ?_
      refine g_callV (fc := fun sς => Tab_put sς (gR σ x0 7) x10 (x4 + x11) (gI σ1 (gR σ x0 23) (ix (r2 + ((x6 + x11).toInt32))))) (ci := 14) (as := [iv x10, jv (x4 + x11), iv (gI σ1 (gR σ x0 23) (ix (r2 + ((x6 + x11).toInt32))))]) rfl rfl rfl q2327 q2328 mdX13_307 (ctX14_put (gR σ x0 7) x10 (x4 + x11) (gI σ1 (gR σ x0 23) (ix (r2 + ((x6 + x11).toInt32))))) rfl (Nat.le_of_ble_eq_true rfl) (Nat.le_of_ble_eq_true rfl) (Nat.le_of_ble_eq_true rfl) pu_V dX13_initTable_97 (fun _ σ3 => ?_)
      refine g_lload 7 dX13_initTable_100 rfl ?_
      refine g_lconst (v := 1) dX13_initTable_102 (by decide) ?_
      refine g_ladd dX13_initTable_103 ?_
      refine g_nmJ (fun y4 => ?_)
      refine g_lstore dX13_initTable_104 (by decide) rfl ?_
      refine g_goto 56 dX13_initTable_106 (by decide) ?_
      refine G.sub [1, 2, 3, 4, 5, 6, 7, 0] rfl ?_
      exact gX13_initTable_p56 n _ _ _ _ _ _ _ _ _
def V.Sto_initTable (σ : HS) (x0 : Nat) (x1 : Int32) (x2 : Int32) (x3 : Int32) (x4 : Int64) (x6 : Int64) (x8 : Int64) : Option (Int32 × HS) :=
  ck (tg σ x0 = 14) <|
  ck (tg σ (gR σ x0 16) = 104 ∧ inb x1 (ln σ (gR σ x0 16))) <|
  ck (tg σ (gR σ (gR σ x0 16) (ix x1)) = 4) <| cl (Row_at σ (gR σ (gR σ x0 16) (ix x1)) x3) fun r2 σ1 =>
  ck (tg σ1 x0 = 14) <|
  ck (tg σ1 (gR σ1 x0 7) = 15) <| cl (Tab_size σ1 (gR σ1 x0 7) r2) fun r4 σ3 =>
  if r4.toInt64 < (x4 + x8) then (
    some ((0 : Int32), σ3))
  else (
    ck (tg σ3 x0 = 14) <|
    ck (tg σ3 (gR σ3 x0 20) = 104 ∧ inb x1 (ln σ3 (gR σ3 x0 20))) <|
    ck (tg σ3 (gR σ3 (gR σ3 x0 20) (ix x1)) = 4) <| cl (Row_at σ3 (gR σ3 (gR σ3 x0 20) (ix x1)) x2) fun r6 σ5 =>
    if (x6 + x8) ≤ r6.toInt64 then (
      Sto_initTable_p56 FU σ5 x0 x1 x2 x4 x6 x8 r2 (0 : Int64))
    else (
      some ((0 : Int32), σ5)))
theorem V.ctX13_initTable (x0 : Nat) (x1 : Int32) (x2 : Int32) (x3 : Int32) (x4 : Int64) (x6 : Int64) (x8 : Int64) : Ct yX13_initTable  cX13_initTable 13 (some .boolean) 1 24 eI [av x0, iv x1, iv x2, iv x3, jv x4, jv x6, jv x8] (fun σ => Sto_initTable σ x0 x1 x2 x3 x4 x6 x8) := by
  refine Ct.of (own := RX13) (nm := "initTable") (desc := "(IIIJJJ)Z") rfl (by decide) (Nat.le_of_ble_eq_true rfl) (by decide) (fun X σ => ?_)
  show G X RX13 "initTable" cX13_initTable 13 (some .boolean) 1 24 enI 0 [(0, av x0), (1, iv x1), (2, iv x2), (3, iv x3), (4, jv x4), (6, jv x6), (8, jv x8)] [] σ (Sto_initTable σ x0 x1 x2 x3 x4 x6 x8)
  unfold Sto_initTable
  refine g_aload_n 0 0 dX13_initTable_0 rfl rfl ?_
  refine g_getR fdX13_77 dX13_initTable_1 ?_
  refine g_iload_n 1 1 dX13_initTable_4 rfl rfl ?_
  refine g_aaload 4 rfl dX13_initTable_5 ?_
  refine g_iload_n 3 3 dX13_initTable_6 rfl rfl ?_
  refine g_callV (fc := fun sς => Row_at sς (gR σ (gR σ x0 16) (ix x1)) x3) (ci := 3) (as := [iv x3]) rfl rfl rfl q1409 q1410 mdX13_111 (ctX3_at (gR σ (gR σ x0 16) (ix x1)) x3) rfl (Nat.le_of_ble_eq_true rfl) (Nat.le_of_ble_eq_true rfl) (Nat.le_of_ble_eq_true rfl) pu_I dX13_initTable_7 (fun r2 σ1 => ?_)
  refine g_istore dX13_initTable_10 (by decide) rfl ?_
  refine g_lload 5 dX13_initTable_12 rfl ?_
  refine g_lload 7 dX13_initTable_14 rfl ?_
  refine g_ladd dX13_initTable_16 ?_
  refine g_aload_n 0 1 dX13_initTable_17 rfl rfl ?_
  refine g_getR fdX13_40 dX13_initTable_18 ?_
  refine g_iload 0 dX13_initTable_21 rfl ?_
  refine g_callV (fc := fun sς => Tab_size sς (gR σ1 x0 7) r2) (ci := 14) (as := [iv r2]) rfl rfl rfl q2216 q2217 mdX13_189 (ctX14_size (gR σ1 x0 7) r2) rfl (Nat.le_of_ble_eq_true rfl) (Nat.le_of_ble_eq_true rfl) (Nat.le_of_ble_eq_true rfl) pu_I dX13_initTable_23 (fun r4 σ3 => ?_)
  refine g_i2l dX13_initTable_26 ?_
  refine g_lcmp_gt 51 dX13_initTable_27 dX13_initTable_28 (by decide) ?_ ?_
  · refine g_iconst (v := 0) dX13_initTable_51 (by decide) ?_
    exact g_zreturn rfl (by decide +kernel) dX13_initTable_52
  · refine g_lload 6 dX13_initTable_31 rfl ?_
    refine g_lload 7 dX13_initTable_33 rfl ?_
    refine g_ladd dX13_initTable_35 ?_
    refine g_aload_n 0 1 dX13_initTable_36 rfl rfl ?_
    refine g_getR fdX13_89 dX13_initTable_37 ?_
    refine g_iload_n 1 2 dX13_initTable_40 rfl rfl ?_
    refine g_aaload 4 rfl dX13_initTable_41 ?_
    refine g_iload_n 2 3 dX13_initTable_42 rfl rfl ?_
    refine g_callV (fc := fun sς => Row_at sς (gR σ3 (gR σ3 x0 20) (ix x1)) x2) (ci := 3) (as := [iv x2]) rfl rfl rfl q1409 q1410 mdX13_111 (ctX3_at (gR σ3 (gR σ3 x0 20) (ix x1)) x2) rfl (Nat.le_of_ble_eq_true rfl) (Nat.le_of_ble_eq_true rfl) (Nat.le_of_ble_eq_true rfl) pu_I dX13_initTable_43 (fun r6 σ5 => ?_)
    refine g_i2l dX13_initTable_46 ?_
    refine g_lcmp_le 53 dX13_initTable_47 dX13_initTable_48 (by decide) ?_ ?_
    · refine g_lconst (v := 0) dX13_initTable_53 (by decide) ?_
      refine g_lstore dX13_initTable_54 (by decide) rfl ?_
      refine G.sub [2, 3, 4, 6, 7, 8, 1, 0] rfl ?_
      exact gX13_initTable_p56 FU _ _ _ _ _ _ _ _ _
    · refine g_iconst (v := 0) dX13_initTable_51 (by decide) ?_
      exact g_zreturn rfl (by decide +kernel) dX13_initTable_52
theorem V.dX13_dropElement_0 : decode cX13_dropElement 0 = .ok (.aload_n 0, 1) := by decide +kernel
theorem V.dX13_dropElement_1 : decode cX13_dropElement 1 = .ok (.getfield 89, 3) := by decide +kernel
theorem V.dX13_dropElement_4 : decode cX13_dropElement 4 = .ok (.iload_n 1, 1) := by decide +kernel
theorem V.dX13_dropElement_5 : decode cX13_dropElement 5 = .ok (.aaload, 1) := by decide +kernel
theorem V.dX13_dropElement_6 : decode cX13_dropElement 6 = .ok (.iload_n 2, 1) := by decide +kernel
theorem V.dX13_dropElement_7 : decode cX13_dropElement 7 = .ok (.iconst 0, 1) := by decide +kernel
theorem V.dX13_dropElement_8 : decode cX13_dropElement 8 = .ok (.invokevirtual 311, 3) := by decide +kernel
theorem V.dX13_dropElement_11 : decode cX13_dropElement 11 = .ok (.return_, 1) := by decide +kernel
theorem V.mdX13_311 : MD RX13 311 yX3_set cX3_set 3 none 2 := ⟨Or.inl q2334, q363, q1441, by decide, by decide, by decide +kernel⟩
/-! ModuleEngine$Store.dropElement(II)V -/
def V.Sto_dropElement (σ : HS) (x0 : Nat) (x1 : Int32) (x2 : Int32) : Option (Unit × HS) :=
  ck (tg σ x0 = 14) <|
  ck (tg σ (gR σ x0 20) = 104 ∧ inb x1 (ln σ (gR σ x0 20))) <|
  ck (tg σ (gR σ (gR σ x0 20) (ix x1)) = 4) <| cl (Row_set σ (gR σ (gR σ x0 20) (ix x1)) x2 (0 : Int32)) fun _ σ1 =>
  some ((), σ1)
theorem V.ctX13_dropElement (x0 : Nat) (x1 : Int32) (x2 : Int32) : Ct yX13_dropElement  cX13_dropElement 3 none 1 22 eV [av x0, iv x1, iv x2] (fun σ => Sto_dropElement σ x0 x1 x2) := by
  refine Ct.of (own := RX13) (nm := "dropElement") (desc := "(II)V") rfl (by decide) (Nat.le_of_ble_eq_true rfl) (by decide) (fun X σ => ?_)
  show G X RX13 "dropElement" cX13_dropElement 3 none 1 22 enV 0 [(0, av x0), (1, iv x1), (2, iv x2)] [] σ (Sto_dropElement σ x0 x1 x2)
  unfold Sto_dropElement
  refine g_aload_n 0 0 dX13_dropElement_0 rfl rfl ?_
  refine g_getR fdX13_89 dX13_dropElement_1 ?_
  refine g_iload_n 1 1 dX13_dropElement_4 rfl rfl ?_
  refine g_aaload 4 rfl dX13_dropElement_5 ?_
  refine g_iload_n 2 2 dX13_dropElement_6 rfl rfl ?_
  refine g_iconst (v := 0) dX13_dropElement_7 (by decide) ?_
  refine g_callV (fc := fun sς => Row_set sς (gR σ (gR σ x0 20) (ix x1)) x2 (0 : Int32)) (ci := 3) (as := [iv x2, iv (0 : Int32)]) rfl rfl rfl q1439 q1440 mdX13_311 (ctX3_set (gR σ (gR σ x0 20) (ix x1)) x2 (0 : Int32)) rfl (Nat.le_of_ble_eq_true rfl) (Nat.le_of_ble_eq_true rfl) (Nat.le_of_ble_eq_true rfl) pu_V dX13_dropElement_8 (fun _ σ1 => ?_)
  exact g_return rfl dX13_dropElement_11
theorem V.dX13_initMemory_0 : decode cX13_initMemory 0 = .ok (.aload_n 0, 1) := by decide +kernel
theorem V.dX13_initMemory_1 : decode cX13_initMemory 1 = .ok (.getfield 11, 3) := by decide +kernel
theorem V.dX13_initMemory_4 : decode cX13_initMemory 4 = .ok (.aload_n 0, 1) := by decide +kernel
theorem V.dX13_initMemory_5 : decode cX13_initMemory 5 = .ok (.getfield 70, 3) := by decide +kernel
theorem V.dX13_initMemory_8 : decode cX13_initMemory 8 = .ok (.iload_n 1, 1) := by decide +kernel
theorem V.dX13_initMemory_9 : decode cX13_initMemory 9 = .ok (.iaload, 1) := by decide +kernel
theorem V.dX13_initMemory_10 : decode cX13_initMemory 10 = .ok (.aaload, 1) := by decide +kernel
theorem V.dX13_initMemory_11 : decode cX13_initMemory 11 = .ok (.astore 9, 2) := by decide +kernel
theorem V.dX13_initMemory_13 : decode cX13_initMemory 13 = .ok (.bipush 6, 2) := by decide +kernel
theorem V.dX13_initMemory_15 : decode cX13_initMemory 15 = .ok (.iload_n 2, 1) := by decide +kernel
theorem V.dX13_initMemory_16 : decode cX13_initMemory 16 = .ok (.imul, 1) := by decide +kernel
theorem V.dX13_initMemory_17 : decode cX13_initMemory 17 = .ok (.istore 10, 2) := by decide +kernel
theorem V.dX13_initMemory_19 : decode cX13_initMemory 19 = .ok (.aload_n 0, 1) := by decide +kernel
theorem V.dX13_initMemory_20 : decode cX13_initMemory 20 = .ok (.getfield 80, 3) := by decide +kernel
theorem V.dX13_initMemory_23 : decode cX13_initMemory 23 = .ok (.iload_n 1, 1) := by decide +kernel
theorem V.dX13_initMemory_24 : decode cX13_initMemory 24 = .ok (.aaload, 1) := by decide +kernel
theorem V.dX13_initMemory_25 : decode cX13_initMemory 25 = .ok (.iconst 0, 1) := by decide +kernel
theorem V.dX13_initMemory_26 : decode cX13_initMemory 26 = .ok (.invokevirtual 111, 3) := by decide +kernel
theorem V.dX13_initMemory_29 : decode cX13_initMemory 29 = .ok (.istore 11, 2) := by decide +kernel
theorem V.dX13_initMemory_31 : decode cX13_initMemory 31 = .ok (.aload_n 0, 1) := by decide +kernel
theorem V.dX13_initMemory_32 : decode cX13_initMemory 32 = .ok (.getfield 92, 3) := by decide +kernel
theorem V.dX13_initMemory_35 : decode cX13_initMemory 35 = .ok (.iload_n 1, 1) := by decide +kernel
theorem V.dX13_initMemory_36 : decode cX13_initMemory 36 = .ok (.aaload, 1) := by decide +kernel
theorem V.dX13_initMemory_37 : decode cX13_initMemory 37 = .ok (.iload_n 2, 1) := by decide +kernel
theorem V.dX13_initMemory_38 : decode cX13_initMemory 38 = .ok (.invokevirtual 111, 3) := by decide +kernel
theorem V.dX13_initMemory_41 : decode cX13_initMemory 41 = .ok (.iconst 1, 1) := by decide +kernel
theorem V.dX13_initMemory_42 : decode cX13_initMemory 42 = .ok (.if_icmp .ne 7, 3) := by decide +kernel
theorem V.dX13_initMemory_45 : decode cX13_initMemory 45 = .ok (.lconst 0, 1) := by decide +kernel
theorem V.dX13_initMemory_46 : decode cX13_initMemory 46 = .ok (.goto 16, 3) := by decide +kernel
theorem V.dX13_initMemory_49 : decode cX13_initMemory 49 = .ok (.aload 9, 2) := by decide +kernel
theorem V.dX13_initMemory_51 : decode cX13_initMemory 51 = .ok (.getfield 274, 3) := by decide +kernel
theorem V.dX13_initMemory_54 : decode cX13_initMemory 54 = .ok (.iload 10, 2) := by decide +kernel
theorem V.dX13_initMemory_56 : decode cX13_initMemory 56 = .ok (.iconst 2, 1) := by decide +kernel
theorem V.dX13_initMemory_57 : decode cX13_initMemory 57 = .ok (.iadd, 1) := by decide +kernel
theorem V.dX13_initMemory_58 : decode cX13_initMemory 58 = .ok (.invokevirtual 111, 3) := by decide +kernel
theorem V.dX13_initMemory_61 : decode cX13_initMemory 61 = .ok (.i2l, 1) := by decide +kernel
theorem V.dX13_initMemory_62 : decode cX13_initMemory 62 = .ok (.lstore 12, 2) := by decide +kernel
theorem V.dX13_initMemory_64 : decode cX13_initMemory 64 = .ok (.lload_n 3, 1) := by decide +kernel
theorem V.dX13_initMemory_65 : decode cX13_initMemory 65 = .ok (.lload 7, 2) := by decide +kernel
theorem V.dX13_initMemory_67 : decode cX13_initMemory 67 = .ok (.ladd, 1) := by decide +kernel
theorem V.dX13_initMemory_68 : decode cX13_initMemory 68 = .ok (.aload_n 0, 1) := by decide +kernel
theorem V.dX13_initMemory_69 : decode cX13_initMemory 69 = .ok (.getfield 50, 3) := by decide +kernel
theorem V.dX13_initMemory_72 : decode cX13_initMemory 72 = .ok (.iload 11, 2) := by decide +kernel
theorem V.dX13_initMemory_74 : decode cX13_initMemory 74 = .ok (.invokevirtual 315, 3) := by decide +kernel
theorem V.dX13_initMemory_77 : decode cX13_initMemory 77 = .ok (.lcmp, 1) := by decide +kernel
theorem V.dX13_initMemory_78 : decode cX13_initMemory 78 = .ok (.ifCond .gt 14, 3) := by decide +kernel
theorem V.dX13_initMemory_81 : decode cX13_initMemory 81 = .ok (.lload 5, 2) := by decide +kernel
theorem V.dX13_initMemory_83 : decode cX13_initMemory 83 = .ok (.lload 7, 2) := by decide +kernel
theorem V.dX13_initMemory_85 : decode cX13_initMemory 85 = .ok (.ladd, 1) := by decide +kernel
theorem V.dX13_initMemory_86 : decode cX13_initMemory 86 = .ok (.lload 12, 2) := by decide +kernel
theorem V.dX13_initMemory_88 : decode cX13_initMemory 88 = .ok (.lcmp, 1) := by decide +kernel
theorem V.dX13_initMemory_89 : decode cX13_initMemory 89 = .ok (.ifCond .le 5, 3) := by decide +kernel
theorem V.dX13_initMemory_92 : decode cX13_initMemory 92 = .ok (.iconst 0, 1) := by decide +kernel
theorem V.dX13_initMemory_93 : decode cX13_initMemory 93 = .ok (.ireturn, 1) := by decide +kernel
theorem V.dX13_initMemory_94 : decode cX13_initMemory 94 = .ok (.lconst 0, 1) := by decide +kernel
theorem V.dX13_initMemory_95 : decode cX13_initMemory 95 = .ok (.lstore 14, 2) := by decide +kernel
theorem V.dX13_initMemory_97 : decode cX13_initMemory 97 = .ok (.lload 14, 2) := by decide +kernel
theorem V.dX13_initMemory_99 : decode cX13_initMemory 99 = .ok (.lload 7, 2) := by decide +kernel
theorem V.dX13_initMemory_101 : decode cX13_initMemory 101 = .ok (.lcmp, 1) := by decide +kernel
theorem V.dX13_initMemory_102 : decode cX13_initMemory 102 = .ok (.ifCond .ge 50, 3) := by decide +kernel
theorem V.dX13_initMemory_105 : decode cX13_initMemory 105 = .ok (.aload_n 0, 1) := by decide +kernel
theorem V.dX13_initMemory_106 : decode cX13_initMemory 106 = .ok (.getfield 50, 3) := by decide +kernel
theorem V.dX13_initMemory_109 : decode cX13_initMemory 109 = .ok (.iload 11, 2) := by decide +kernel
theorem V.dX13_initMemory_111 : decode cX13_initMemory 111 = .ok (.lload_n 3, 1) := by decide +kernel
theorem V.dX13_initMemory_112 : decode cX13_initMemory 112 = .ok (.lload 14, 2) := by decide +kernel
theorem V.dX13_initMemory_114 : decode cX13_initMemory 114 = .ok (.ladd, 1) := by decide +kernel
theorem V.dX13_initMemory_115 : decode cX13_initMemory 115 = .ok (.aload 9, 2) := by decide +kernel
theorem V.dX13_initMemory_117 : decode cX13_initMemory 117 = .ok (.getfield 140, 3) := by decide +kernel
theorem V.dX13_initMemory_120 : decode cX13_initMemory 120 = .ok (.aload 9, 2) := by decide +kernel
theorem V.dX13_initMemory_122 : decode cX13_initMemory 122 = .ok (.getfield 274, 3) := by decide +kernel
theorem V.dX13_initMemory_125 : decode cX13_initMemory 125 = .ok (.iload 10, 2) := by decide +kernel
theorem V.dX13_initMemory_127 : decode cX13_initMemory 127 = .ok (.iconst 5, 1) := by decide +kernel
theorem V.dX13_initMemory_128 : decode cX13_initMemory 128 = .ok (.iadd, 1) := by decide +kernel
theorem V.dX13_initMemory_129 : decode cX13_initMemory 129 = .ok (.invokevirtual 111, 3) := by decide +kernel
theorem V.dX13_initMemory_132 : decode cX13_initMemory 132 = .ok (.lload 5, 2) := by decide +kernel
theorem V.dX13_initMemory_134 : decode cX13_initMemory 134 = .ok (.lload 14, 2) := by decide +kernel
theorem V.dX13_initMemory_136 : decode cX13_initMemory 136 = .ok (.ladd, 1) := by decide +kernel
theorem V.dX13_initMemory_137 : decode cX13_initMemory 137 = .ok (.l2i, 1) := by decide +kernel
theorem V.dX13_initMemory_138 : decode cX13_initMemory 138 = .ok (.iadd, 1) := by decide +kernel
theorem V.dX13_initMemory_139 : decode cX13_initMemory 139 = .ok (.baload, 1) := by decide +kernel
theorem V.dX13_initMemory_140 : decode cX13_initMemory 140 = .ok (.invokevirtual 318, 3) := by decide +kernel
theorem V.dX13_initMemory_143 : decode cX13_initMemory 143 = .ok (.lload 14, 2) := by decide +kernel
theorem V.dX13_initMemory_145 : decode cX13_initMemory 145 = .ok (.lconst 1, 1) := by decide +kernel
theorem V.dX13_initMemory_146 : decode cX13_initMemory 146 = .ok (.ladd, 1) := by decide +kernel
theorem V.dX13_initMemory_147 : decode cX13_initMemory 147 = .ok (.lstore 14, 2) := by decide +kernel
theorem V.dX13_initMemory_149 : decode cX13_initMemory 149 = .ok (.goto (-52), 3) := by decide +kernel
theorem V.dX13_initMemory_152 : decode cX13_initMemory 152 = .ok (.iconst 1, 1) := by decide +kernel
theorem V.dX13_initMemory_153 : decode cX13_initMemory 153 = .ok (.ireturn, 1) := by decide +kernel
theorem V.mdX13_315 : MD RX13 315 yX15_end cX15_end 2 (some .long) 1 := ⟨Or.inl q2339, q375, q2342, by decide, by decide, by decide +kernel⟩
theorem V.mdX13_318 : MD RX13 318 yX15_put cX15_put 5 none 3 := ⟨Or.inl q2343, q375, q2346, by decide, by decide, by decide +kernel⟩
/-! ModuleEngine$Store.initMemory(IIJJJ)Z -/
def V.Sto_initMemory_p97  : Nat → HS → Nat → Int64 → Int64 → Int64 → Nat → Int32 → Int32 → Int64 → Option (Int32 × HS)
  | 0, _, _, _, _, _, _, _, _, _ => none
  | n + 1, σ, x0, x3, x5, x7, x9, x10, x11, x14 =>
    if x7 ≤ x14 then (
      some ((1 : Int32), σ))
    else (
      ck (tg σ x0 = 14) <|
      ck (tg σ x9 = 3) <|
      ck (tg σ x9 = 3) <|
      ck (tg σ (gR σ x9 13) = 4) <| cl (Row_at σ (gR σ x9 13) (x10 + (5 : Int32))) fun r2 σ1 =>
      ck (tg σ1 (gR σ x9 0) = 102 ∧ inb (r2 + ((x5 + x14).toInt32)) (ln σ1 (gR σ x9 0))) <|
      ck (tg σ1 (gR σ x0 8) = 16) <| cl (Pag_put σ1 (gR σ x0 8) x11 (x3 + x14) (gI σ1 (gR σ x9 0) (ix (r2 + ((x5 + x14).toInt32))))) fun _ σ3 =>
      bn (x14 + (1 : Int64)) fun y4 =>
      Sto_initMemory_p97 n σ3 x0 x3 x5 x7 x9 x10 x11 y4)
theorem V.gX13_initMemory_p97 {X : CX}  : ∀ (n : Nat) (σ : HS) (x0 : Nat) (x3 : Int64) (x5 : Int64) (x7 : Int64) (x9 : Nat) (x10 : Int32) (x11 : Int32) (x14 : Int64), G X RX13 "initMemory" cX13_initMemory 16 (some .boolean) 2 47 enI 97 [(0, av x0), (3, jv x3), (5, jv x5), (7, jv x7), (9, av x9), (10, iv x10), (11, iv x11), (14, jv x14)] [] σ (Sto_initMemory_p97 n σ x0 x3 x5 x7 x9 x10 x11 x14)
  | 0, σ, x0, x3, x5, x7, x9, x10, x11, x14 => by rw [Sto_initMemory_p97]; exact G.nul
  | n + 1, σ, x0, x3, x5, x7, x9, x10, x11, x14 => by
    rw [Sto_initMemory_p97]
    refine g_lload 7 dX13_initMemory_97 rfl ?_
    refine g_lload 3 dX13_initMemory_99 rfl ?_
    refine g_lcmp_ge 152 dX13_initMemory_101 dX13_initMemory_102 (by decide) ?_ ?_
    · refine g_iconst (v := 1) dX13_initMemory_152 (by decide) ?_
      exact g_zreturn rfl (by decide +kernel) dX13_initMemory_153
    · refine g_aload_n 0 0 dX13_initMemory_105 rfl rfl ?_
      refine g_getR fdX13_50 dX13_initMemory_106 ?_
      refine g_iload 6 dX13_initMemory_109 rfl ?_
      refine g_lload_n 3 1 dX13_initMemory_111 rfl rfl ?_
      refine g_lload 7 dX13_initMemory_112 rfl ?_
      refine g_ladd dX13_initMemory_114 ?_
      refine g_aload 4 dX13_initMemory_115 rfl ?_
      refine g_getR fdX13_140 dX13_initMemory_117 ?_
      refine g_aload 4 dX13_initMemory_120 rfl ?_
      refine g_getR fdX13_274 dX13_initMemory_122 ?_
      refine g_iload 5 dX13_initMemory_125 rfl ?_
      refine g_iconst (v := 5) dX13_initMemory_127 (by decide) ?_
      refine g_iadd dX13_initMemory_128 ?_
      refine g_callV (fc := fun sς => Row_at sς (gR σ x9 13) (x10 + (5 : Int32))) (ci := 3) (as := [iv (x10 + (5 : Int32))]) rfl rfl rfl q1409 q1410 mdX13_111 (ctX3_at (gR σ x9 13) (x10 + (5 : Int32))) rfl (Nat.le_of_ble_eq_true rfl) (Nat.le_of_ble_eq_true rfl) (Nat.le_of_ble_eq_true rfl) pu_I dX13_initMemory_129 (fun r2 σ1 => ?_)
      refine g_lload 2 dX13_initMemory_132 rfl ?_
      refine g_lload 7 dX13_initMemory_134 rfl ?_
      refine g_ladd dX13_initMemory_136 ?_
      refine g_l2i dX13_initMemory_137 ?_
      refine g_iadd dX13_initMemory_138 ?_
      refine g_baload dX13_initMemory_139 ?_
      refine g_callV (fc := fun sς => Pag_put sς (gR σ x0 8) x11 (x3 + x14) (gI σ1 (gR σ x9 0) (ix (r2 + ((x5 + x14).toInt32))))) (ci := 15) (as := [iv x11, jv (x3 + x14), iv (gI σ1 (gR σ x9 0) (ix (r2 + ((x5 + x14).toInt32))))]) rfl rfl rfl q2344 q2345 mdX13_318 (ctX15_put (gR σ x0 8) x11 (x3 + x14) (gI σ1 (gR σ x9 0) (ix (r2 + ((x5 + x14).toInt32))))) rfl (Nat.le_of_ble_eq_true rfl) (Nat.le_of_ble_eq_true rfl) (Nat.le_of_ble_eq_true rfl) pu_V dX13_initMemory_140 (fun _ σ3 => ?_)
      refine g_lload 7 dX13_initMemory_143 rfl ?_
      refine g_lconst (v := 1) dX13_initMemory_145 (by decide) ?_
      refine g_ladd dX13_initMemory_146 ?_
      refine g_nmJ (fun y4 => ?_)
      refine g_lstore dX13_initMemory_147 (by decide) rfl ?_
      refine g_goto 97 dX13_initMemory_149 (by decide) ?_
      refine G.sub [1, 2, 3, 4, 5, 6, 7, 0] rfl ?_
      exact gX13_initMemory_p97 n _ _ _ _ _ _ _ _ _
def V.Sto_initMemory_p62  (σ : HS) (x0 : Nat) (x3 : Int64) (x5 : Int64) (x7 : Int64) (x9 : Nat) (x10 : Int32) (x11 : Int32) (s0 : Int64) : Option (Int32 × HS) :=
  ck (tg σ x0 = 14) <|
  ck (tg σ (gR σ x0 8) = 16) <| cl (Pag_end σ (gR σ x0 8) x11) fun r2 σ1 =>
  if r2 < (x3 + x7) then (
    some ((0 : Int32), σ1))
  else (
    if (x5 + x7) ≤ s0 then (
      Sto_initMemory_p97 FU σ1 x0 x3 x5 x7 x9 x10 x11 (0 : Int64))
    else (
      some ((0 : Int32), σ1)))
theorem V.gX13_initMemory_p62 {X : CX}  (σ : HS) (x0 : Nat) (x3 : Int64) (x5 : Int64) (x7 : Int64) (x9 : Nat) (x10 : Int32) (x11 : Int32) (s0 : Int64) : G X RX13 "initMemory" cX13_initMemory 16 (some .boolean) 2 47 enI 62 [(0, av x0), (3, jv x3), (5, jv x5), (7, jv x7), (9, av x9), (10, iv x10), (11, iv x11)] [jv s0] σ (Sto_initMemory_p62 σ x0 x3 x5 x7 x9 x10 x11 s0) := by
  unfold Sto_initMemory_p62
  refine g_lstore dX13_initMemory_62 (by decide) rfl ?_
  refine g_lload_n 3 2 dX13_initMemory_64 rfl rfl ?_
  refine g_lload 4 dX13_initMemory_65 rfl ?_
  refine g_ladd dX13_initMemory_67 ?_
  refine g_aload_n 0 1 dX13_initMemory_68 rfl rfl ?_
  refine g_getR fdX13_50 dX13_initMemory_69 ?_
  refine g_iload 7 dX13_initMemory_72 rfl ?_
  refine g_callV (fc := fun sς => Pag_end sς (gR σ x0 8) x11) (ci := 15) (as := [iv x11]) rfl rfl rfl q2340 q2341 mdX13_315 (ctX15_end (gR σ x0 8) x11) rfl (Nat.le_of_ble_eq_true rfl) (Nat.le_of_ble_eq_true rfl) (Nat.le_of_ble_eq_true rfl) pu_J dX13_initMemory_74 (fun r2 σ1 => ?_)
  refine g_lcmp_gt 92 dX13_initMemory_77 dX13_initMemory_78 (by decide) ?_ ?_
  · refine g_iconst (v := 0) dX13_initMemory_92 (by decide) ?_
    exact g_zreturn rfl (by decide +kernel) dX13_initMemory_93
  · refine g_lload 3 dX13_initMemory_81 rfl ?_
    refine g_lload 4 dX13_initMemory_83 rfl ?_
    refine g_ladd dX13_initMemory_85 ?_
    refine g_lload 0 dX13_initMemory_86 rfl ?_
    refine g_lcmp_le 94 dX13_initMemory_88 dX13_initMemory_89 (by decide) ?_ ?_
    · refine g_lconst (v := 0) dX13_initMemory_94 (by decide) ?_
      refine g_lstore dX13_initMemory_95 (by decide) rfl ?_
      refine G.sub [2, 3, 4, 5, 6, 7, 8, 0] rfl ?_
      exact gX13_initMemory_p97 FU _ _ _ _ _ _ _ _ _
    · refine g_iconst (v := 0) dX13_initMemory_92 (by decide) ?_
      exact g_zreturn rfl (by decide +kernel) dX13_initMemory_93
def V.Sto_initMemory (σ : HS) (x0 : Nat) (x1 : Int32) (x2 : Int32) (x3 : Int64) (x5 : Int64) (x7 : Int64) : Option (Int32 × HS) :=
  ck (tg σ x0 = 14) <|
  ck (tg σ x0 = 14) <|
  ck (tg σ (gR σ x0 14) = 100 ∧ inb x1 (ln σ (gR σ x0 14))) <|
  ck (tg σ (gR σ x0 0) = 105 ∧ inb (gI σ (gR σ x0 14) (ix x1)) (ln σ (gR σ x0 0))) <|
  bn (gR σ (gR σ x0 0) (ix (gI σ (gR σ x0 14) (ix x1)))) fun y1 =>
  bn ((6 : Int32) * x2) fun y2 =>
  ck (tg σ x0 = 14) <|
  ck (tg σ (gR σ x0 17) = 104 ∧ inb x1 (ln σ (gR σ x0 17))) <|
  ck (tg σ (gR σ (gR σ x0 17) (ix x1)) = 4) <| cl (Row_at σ (gR σ (gR σ x0 17) (ix x1)) (0 : Int32)) fun r4 σ3 =>
  ck (tg σ3 x0 = 14) <|
  ck (tg σ3 (gR σ3 x0 21) = 104 ∧ inb x1 (ln σ3 (gR σ3 x0 21))) <|
  ck (tg σ3 (gR σ3 (gR σ3 x0 21) (ix x1)) = 4) <| cl (Row_at σ3 (gR σ3 (gR σ3 x0 21) (ix x1)) x2) fun r6 σ5 =>
  if r6 = (1 : Int32) then (
    Sto_initMemory_p62 σ5 x0 x3 x5 x7 y1 y2 r4 (0 : Int64))
  else (
    ck (tg σ5 y1 = 3) <|
    ck (tg σ5 (gR σ5 y1 13) = 4) <| cl (Row_at σ5 (gR σ5 y1 13) (y2 + (2 : Int32))) fun r8 σ7 =>
    Sto_initMemory_p62 σ7 x0 x3 x5 x7 y1 y2 r4 r8.toInt64)
theorem V.ctX13_initMemory (x0 : Nat) (x1 : Int32) (x2 : Int32) (x3 : Int64) (x5 : Int64) (x7 : Int64) : Ct yX13_initMemory  cX13_initMemory 16 (some .boolean) 2 47 eI [av x0, iv x1, iv x2, jv x3, jv x5, jv x7] (fun σ => Sto_initMemory σ x0 x1 x2 x3 x5 x7) := by
  refine Ct.of (own := RX13) (nm := "initMemory") (desc := "(IIJJJ)Z") rfl (by decide) (Nat.le_of_ble_eq_true rfl) (by decide) (fun X σ => ?_)
  show G X RX13 "initMemory" cX13_initMemory 16 (some .boolean) 2 47 enI 0 [(0, av x0), (1, iv x1), (2, iv x2), (3, jv x3), (5, jv x5), (7, jv x7)] [] σ (Sto_initMemory σ x0 x1 x2 x3 x5 x7)
  unfold Sto_initMemory
  refine g_aload_n 0 0 dX13_initMemory_0 rfl rfl ?_
  refine g_getR fdX13_11 dX13_initMemory_1 ?_
  refine g_aload_n 0 0 dX13_initMemory_4 rfl rfl ?_
  refine g_getR fdX13_70 dX13_initMemory_5 ?_
  refine g_iload_n 1 1 dX13_initMemory_8 rfl rfl ?_
  refine g_iaload dX13_initMemory_9 ?_
  refine g_aaload 5 rfl dX13_initMemory_10 ?_
  refine g_nmA (fun y1 => ?_)
  refine g_astore dX13_initMemory_11 (by decide) rfl ?_
  refine g_bipush (v := 6) dX13_initMemory_13 (by decide) ?_
  refine g_iload_n 2 3 dX13_initMemory_15 rfl rfl ?_
  refine g_imul dX13_initMemory_16 ?_
  refine g_nmI (fun y2 => ?_)
  refine g_istore dX13_initMemory_17 (by decide) rfl ?_
  refine g_aload_n 0 2 dX13_initMemory_19 rfl rfl ?_
  refine g_getR fdX13_80 dX13_initMemory_20 ?_
  refine g_iload_n 1 3 dX13_initMemory_23 rfl rfl ?_
  refine g_aaload 4 rfl dX13_initMemory_24 ?_
  refine g_iconst (v := 0) dX13_initMemory_25 (by decide) ?_
  refine g_callV (fc := fun sς => Row_at sς (gR σ (gR σ x0 17) (ix x1)) (0 : Int32)) (ci := 3) (as := [iv (0 : Int32)]) rfl rfl rfl q1409 q1410 mdX13_111 (ctX3_at (gR σ (gR σ x0 17) (ix x1)) (0 : Int32)) rfl (Nat.le_of_ble_eq_true rfl) (Nat.le_of_ble_eq_true rfl) (Nat.le_of_ble_eq_true rfl) pu_I dX13_initMemory_26 (fun r4 σ3 => ?_)
  refine g_istore dX13_initMemory_29 (by decide) rfl ?_
  refine g_aload_n 0 3 dX13_initMemory_31 rfl rfl ?_
  refine g_getR fdX13_92 dX13_initMemory_32 ?_
  refine g_iload_n 1 4 dX13_initMemory_35 rfl rfl ?_
  refine g_aaload 4 rfl dX13_initMemory_36 ?_
  refine g_iload_n 2 5 dX13_initMemory_37 rfl rfl ?_
  refine g_callV (fc := fun sς => Row_at sς (gR σ3 (gR σ3 x0 21) (ix x1)) x2) (ci := 3) (as := [iv x2]) rfl rfl rfl q1409 q1410 mdX13_111 (ctX3_at (gR σ3 (gR σ3 x0 21) (ix x1)) x2) rfl (Nat.le_of_ble_eq_true rfl) (Nat.le_of_ble_eq_true rfl) (Nat.le_of_ble_eq_true rfl) pu_I dX13_initMemory_38 (fun r6 σ5 => ?_)
  refine g_iconst (v := 1) dX13_initMemory_41 (by decide) ?_
  refine g_icmp_ne 49 dX13_initMemory_42 (by decide) ?_ ?_
  · refine g_aload 2 dX13_initMemory_49 rfl ?_
    refine g_getR fdX13_274 dX13_initMemory_51 ?_
    refine g_iload 1 dX13_initMemory_54 rfl ?_
    refine g_iconst (v := 2) dX13_initMemory_56 (by decide) ?_
    refine g_iadd dX13_initMemory_57 ?_
    refine g_callV (fc := fun sς => Row_at sς (gR σ5 y1 13) (y2 + (2 : Int32))) (ci := 3) (as := [iv (y2 + (2 : Int32))]) rfl rfl rfl q1409 q1410 mdX13_111 (ctX3_at (gR σ5 y1 13) (y2 + (2 : Int32))) rfl (Nat.le_of_ble_eq_true rfl) (Nat.le_of_ble_eq_true rfl) (Nat.le_of_ble_eq_true rfl) pu_I dX13_initMemory_58 (fun r8 σ7 => ?_)
    refine g_i2l dX13_initMemory_61 ?_
    refine G.sub [3, 6, 7, 8, 2, 1, 0] rfl ?_
    exact gX13_initMemory_p62 _ _ _ _ _ _ _ _ _
  · refine g_lconst (v := 0) dX13_initMemory_45 (by decide) ?_
    refine g_goto 62 dX13_initMemory_46 (by decide) ?_
    refine G.sub [3, 6, 7, 8, 2, 1, 0] rfl ?_
    exact gX13_initMemory_p62 _ _ _ _ _ _ _ _ _
theorem V.dX13_dropData_0 : decode cX13_dropData 0 = .ok (.aload_n 0, 1) := by decide +kernel
theorem V.dX13_dropData_1 : decode cX13_dropData 1 = .ok (.getfield 92, 3) := by decide +kernel
theorem V.dX13_dropData_4 : decode cX13_dropData 4 = .ok (.iload_n 1, 1) := by decide +kernel
theorem V.dX13_dropData_5 : decode cX13_dropData 5 = .ok (.aaload, 1) := by decide +kernel
theorem V.dX13_dropData_6 : decode cX13_dropData 6 = .ok (.iload_n 2, 1) := by decide +kernel
theorem V.dX13_dropData_7 : decode cX13_dropData 7 = .ok (.iconst 1, 1) := by decide +kernel
theorem V.dX13_dropData_8 : decode cX13_dropData 8 = .ok (.invokevirtual 311, 3) := by decide +kernel
theorem V.dX13_dropData_11 : decode cX13_dropData 11 = .ok (.return_, 1) := by decide +kernel
/-! ModuleEngine$Store.dropData(II)V -/
def V.Sto_dropData (σ : HS) (x0 : Nat) (x1 : Int32) (x2 : Int32) : Option (Unit × HS) :=
  ck (tg σ x0 = 14) <|
  ck (tg σ (gR σ x0 21) = 104 ∧ inb x1 (ln σ (gR σ x0 21))) <|
  ck (tg σ (gR σ (gR σ x0 21) (ix x1)) = 4) <| cl (Row_set σ (gR σ (gR σ x0 21) (ix x1)) x2 (1 : Int32)) fun _ σ1 =>
  some ((), σ1)
theorem V.ctX13_dropData (x0 : Nat) (x1 : Int32) (x2 : Int32) : Ct yX13_dropData  cX13_dropData 3 none 1 22 eV [av x0, iv x1, iv x2] (fun σ => Sto_dropData σ x0 x1 x2) := by
  refine Ct.of (own := RX13) (nm := "dropData") (desc := "(II)V") rfl (by decide) (Nat.le_of_ble_eq_true rfl) (by decide) (fun X σ => ?_)
  show G X RX13 "dropData" cX13_dropData 3 none 1 22 enV 0 [(0, av x0), (1, iv x1), (2, iv x2)] [] σ (Sto_dropData σ x0 x1 x2)
  unfold Sto_dropData
  refine g_aload_n 0 0 dX13_dropData_0 rfl rfl ?_
  refine g_getR fdX13_92 dX13_dropData_1 ?_
  refine g_iload_n 1 1 dX13_dropData_4 rfl rfl ?_
  refine g_aaload 4 rfl dX13_dropData_5 ?_
  refine g_iload_n 2 2 dX13_dropData_6 rfl rfl ?_
  refine g_iconst (v := 1) dX13_dropData_7 (by decide) ?_
  refine g_callV (fc := fun sς => Row_set sς (gR σ (gR σ x0 21) (ix x1)) x2 (1 : Int32)) (ci := 3) (as := [iv x2, iv (1 : Int32)]) rfl rfl rfl q1439 q1440 mdX13_311 (ctX3_set (gR σ (gR σ x0 21) (ix x1)) x2 (1 : Int32)) rfl (Nat.le_of_ble_eq_true rfl) (Nat.le_of_ble_eq_true rfl) (Nat.le_of_ble_eq_true rfl) pu_V dX13_dropData_8 (fun _ σ1 => ?_)
  exact g_return rfl dX13_dropData_11
theorem V.dX13_begin_0 : decode cX13_begin 0 = .ok (.aload_n 0, 1) := by decide +kernel
theorem V.dX13_begin_1 : decode cX13_begin 1 = .ok (.getfield 11, 3) := by decide +kernel
theorem V.dX13_begin_4 : decode cX13_begin 4 = .ok (.aload_n 0, 1) := by decide +kernel
theorem V.dX13_begin_5 : decode cX13_begin 5 = .ok (.getfield 70, 3) := by decide +kernel
theorem V.dX13_begin_8 : decode cX13_begin 8 = .ok (.iload_n 1, 1) := by decide +kernel
theorem V.dX13_begin_9 : decode cX13_begin 9 = .ok (.iaload, 1) := by decide +kernel
theorem V.dX13_begin_10 : decode cX13_begin 10 = .ok (.aaload, 1) := by decide +kernel
theorem V.dX13_begin_11 : decode cX13_begin 11 = .ok (.astore_n 2, 1) := by decide +kernel
theorem V.dX13_begin_12 : decode cX13_begin 12 = .ok (.iconst 0, 1) := by decide +kernel
theorem V.dX13_begin_13 : decode cX13_begin 13 = .ok (.istore_n 3, 1) := by decide +kernel
theorem V.dX13_begin_14 : decode cX13_begin 14 = .ok (.iload_n 3, 1) := by decide +kernel
theorem V.dX13_begin_15 : decode cX13_begin 15 = .ok (.aload_n 2, 1) := by decide +kernel
theorem V.dX13_begin_16 : decode cX13_begin 16 = .ok (.getfield 213, 3) := by decide +kernel
theorem V.dX13_begin_19 : decode cX13_begin 19 = .ok (.invokevirtual 107, 3) := by decide +kernel
theorem V.dX13_begin_22 : decode cX13_begin 22 = .ok (.if_icmp .ge 93, 3) := by decide +kernel
theorem V.dX13_begin_25 : decode cX13_begin 25 = .ok (.aload_n 2, 1) := by decide +kernel
theorem V.dX13_begin_26 : decode cX13_begin 26 = .ok (.getfield 213, 3) := by decide +kernel
theorem V.dX13_begin_29 : decode cX13_begin 29 = .ok (.iload_n 3, 1) := by decide +kernel
theorem V.dX13_begin_30 : decode cX13_begin 30 = .ok (.invokevirtual 111, 3) := by decide +kernel
theorem V.dX13_begin_33 : decode cX13_begin 33 = .ok (.istore 4, 2) := by decide +kernel
theorem V.dX13_begin_35 : decode cX13_begin 35 = .ok (.iload_n 3, 1) := by decide +kernel
theorem V.dX13_begin_36 : decode cX13_begin 36 = .ok (.bipush 8, 2) := by decide +kernel
theorem V.dX13_begin_38 : decode cX13_begin 38 = .ok (.idiv, 1) := by decide +kernel
theorem V.dX13_begin_39 : decode cX13_begin 39 = .ok (.istore 5, 2) := by decide +kernel
theorem V.dX13_begin_41 : decode cX13_begin 41 = .ok (.iload 4, 2) := by decide +kernel
theorem V.dX13_begin_43 : decode cX13_begin 43 = .ok (.iconst 1, 1) := by decide +kernel
theorem V.dX13_begin_44 : decode cX13_begin 44 = .ok (.if_icmp .ne 53, 3) := by decide +kernel
theorem V.dX13_begin_47 : decode cX13_begin 47 = .ok (.aload_n 0, 1) := by decide +kernel
theorem V.dX13_begin_48 : decode cX13_begin 48 = .ok (.iload_n 1, 1) := by decide +kernel
theorem V.dX13_begin_49 : decode cX13_begin 49 = .ok (.iload 5, 2) := by decide +kernel
theorem V.dX13_begin_51 : decode cX13_begin 51 = .ok (.aload_n 2, 1) := by decide +kernel
theorem V.dX13_begin_52 : decode cX13_begin 52 = .ok (.getfield 213, 3) := by decide +kernel
theorem V.dX13_begin_55 : decode cX13_begin 55 = .ok (.iload_n 3, 1) := by decide +kernel
theorem V.dX13_begin_56 : decode cX13_begin 56 = .ok (.iconst 2, 1) := by decide +kernel
theorem V.dX13_begin_57 : decode cX13_begin 57 = .ok (.iadd, 1) := by decide +kernel
theorem V.dX13_begin_58 : decode cX13_begin 58 = .ok (.invokevirtual 111, 3) := by decide +kernel
theorem V.dX13_begin_61 : decode cX13_begin 61 = .ok (.aload_n 0, 1) := by decide +kernel
theorem V.dX13_begin_62 : decode cX13_begin 62 = .ok (.iload_n 1, 1) := by decide +kernel
theorem V.dX13_begin_63 : decode cX13_begin 63 = .ok (.aload_n 2, 1) := by decide +kernel
theorem V.dX13_begin_64 : decode cX13_begin 64 = .ok (.getfield 213, 3) := by decide +kernel
theorem V.dX13_begin_67 : decode cX13_begin 67 = .ok (.iload_n 3, 1) := by decide +kernel
theorem V.dX13_begin_68 : decode cX13_begin 68 = .ok (.iconst 4, 1) := by decide +kernel
theorem V.dX13_begin_69 : decode cX13_begin 69 = .ok (.iadd, 1) := by decide +kernel
theorem V.dX13_begin_70 : decode cX13_begin 70 = .ok (.invokevirtual 111, 3) := by decide +kernel
theorem V.dX13_begin_73 : decode cX13_begin 73 = .ok (.invokevirtual 266, 3) := by decide +kernel
theorem V.dX13_begin_76 : decode cX13_begin 76 = .ok (.lconst 0, 1) := by decide +kernel
theorem V.dX13_begin_77 : decode cX13_begin 77 = .ok (.aload_n 2, 1) := by decide +kernel
theorem V.dX13_begin_78 : decode cX13_begin 78 = .ok (.getfield 213, 3) := by decide +kernel
theorem V.dX13_begin_81 : decode cX13_begin 81 = .ok (.iload_n 3, 1) := by decide +kernel
theorem V.dX13_begin_82 : decode cX13_begin 82 = .ok (.iconst 3, 1) := by decide +kernel
theorem V.dX13_begin_83 : decode cX13_begin 83 = .ok (.iadd, 1) := by decide +kernel
theorem V.dX13_begin_84 : decode cX13_begin 84 = .ok (.invokevirtual 111, 3) := by decide +kernel
theorem V.dX13_begin_87 : decode cX13_begin 87 = .ok (.i2l, 1) := by decide +kernel
theorem V.dX13_begin_88 : decode cX13_begin 88 = .ok (.invokevirtual 319, 3) := by decide +kernel
theorem V.dX13_begin_91 : decode cX13_begin 91 = .ok (.ifCond .ne 6, 3) := by decide +kernel
theorem V.dX13_begin_94 : decode cX13_begin 94 = .ok (.bipush 6, 2) := by decide +kernel
theorem V.dX13_begin_96 : decode cX13_begin 96 = .ok (.ireturn, 1) := by decide +kernel
theorem V.dX13_begin_97 : decode cX13_begin 97 = .ok (.iload 4, 2) := by decide +kernel
theorem V.dX13_begin_99 : decode cX13_begin 99 = .ok (.ifCond .le 10, 3) := by decide +kernel
theorem V.dX13_begin_102 : decode cX13_begin 102 = .ok (.aload_n 0, 1) := by decide +kernel
theorem V.dX13_begin_103 : decode cX13_begin 103 = .ok (.iload_n 1, 1) := by decide +kernel
theorem V.dX13_begin_104 : decode cX13_begin 104 = .ok (.iload 5, 2) := by decide +kernel
theorem V.dX13_begin_106 : decode cX13_begin 106 = .ok (.invokevirtual 323, 3) := by decide +kernel
theorem V.dX13_begin_109 : decode cX13_begin 109 = .ok (.iinc 3 8, 3) := by decide +kernel
theorem V.dX13_begin_112 : decode cX13_begin 112 = .ok (.goto (-98), 3) := by decide +kernel
theorem V.dX13_begin_115 : decode cX13_begin 115 = .ok (.iconst 0, 1) := by decide +kernel
theorem V.dX13_begin_116 : decode cX13_begin 116 = .ok (.istore_n 3, 1) := by decide +kernel
theorem V.dX13_begin_117 : decode cX13_begin 117 = .ok (.iload_n 3, 1) := by decide +kernel
theorem V.dX13_begin_118 : decode cX13_begin 118 = .ok (.aload_n 2, 1) := by decide +kernel
theorem V.dX13_begin_119 : decode cX13_begin 119 = .ok (.getfield 274, 3) := by decide +kernel
theorem V.dX13_begin_122 : decode cX13_begin 122 = .ok (.invokevirtual 107, 3) := by decide +kernel
theorem V.dX13_begin_125 : decode cX13_begin 125 = .ok (.if_icmp .ge 73, 3) := by decide +kernel
theorem V.dX13_begin_128 : decode cX13_begin 128 = .ok (.aload_n 2, 1) := by decide +kernel
theorem V.dX13_begin_129 : decode cX13_begin 129 = .ok (.getfield 274, 3) := by decide +kernel
theorem V.dX13_begin_132 : decode cX13_begin 132 = .ok (.iload_n 3, 1) := by decide +kernel
theorem V.dX13_begin_133 : decode cX13_begin 133 = .ok (.invokevirtual 111, 3) := by decide +kernel
theorem V.dX13_begin_136 : decode cX13_begin 136 = .ok (.ifCond .ne 6, 3) := by decide +kernel
theorem V.dX13_begin_139 : decode cX13_begin 139 = .ok (.goto 53, 3) := by decide +kernel
theorem V.dX13_begin_142 : decode cX13_begin 142 = .ok (.aload_n 0, 1) := by decide +kernel
theorem V.dX13_begin_143 : decode cX13_begin 143 = .ok (.iload_n 1, 1) := by decide +kernel
theorem V.dX13_begin_144 : decode cX13_begin 144 = .ok (.iload_n 3, 1) := by decide +kernel
theorem V.dX13_begin_145 : decode cX13_begin 145 = .ok (.bipush 6, 2) := by decide +kernel
theorem V.dX13_begin_147 : decode cX13_begin 147 = .ok (.idiv, 1) := by decide +kernel
theorem V.dX13_begin_148 : decode cX13_begin 148 = .ok (.aload_n 0, 1) := by decide +kernel
theorem V.dX13_begin_149 : decode cX13_begin 149 = .ok (.iload_n 1, 1) := by decide +kernel
theorem V.dX13_begin_150 : decode cX13_begin 150 = .ok (.aload_n 2, 1) := by decide +kernel
theorem V.dX13_begin_151 : decode cX13_begin 151 = .ok (.getfield 274, 3) := by decide +kernel
theorem V.dX13_begin_154 : decode cX13_begin 154 = .ok (.iload_n 3, 1) := by decide +kernel
theorem V.dX13_begin_155 : decode cX13_begin 155 = .ok (.iconst 3, 1) := by decide +kernel
theorem V.dX13_begin_156 : decode cX13_begin 156 = .ok (.iadd, 1) := by decide +kernel
theorem V.dX13_begin_157 : decode cX13_begin 157 = .ok (.invokevirtual 111, 3) := by decide +kernel
theorem V.dX13_begin_160 : decode cX13_begin 160 = .ok (.invokevirtual 266, 3) := by decide +kernel
theorem V.dX13_begin_163 : decode cX13_begin 163 = .ok (.lconst 0, 1) := by decide +kernel
theorem V.dX13_begin_164 : decode cX13_begin 164 = .ok (.aload_n 2, 1) := by decide +kernel
theorem V.dX13_begin_165 : decode cX13_begin 165 = .ok (.getfield 274, 3) := by decide +kernel
theorem V.dX13_begin_168 : decode cX13_begin 168 = .ok (.iload_n 3, 1) := by decide +kernel
theorem V.dX13_begin_169 : decode cX13_begin 169 = .ok (.iconst 2, 1) := by decide +kernel
theorem V.dX13_begin_170 : decode cX13_begin 170 = .ok (.iadd, 1) := by decide +kernel
theorem V.dX13_begin_171 : decode cX13_begin 171 = .ok (.invokevirtual 111, 3) := by decide +kernel
theorem V.dX13_begin_174 : decode cX13_begin 174 = .ok (.i2l, 1) := by decide +kernel
theorem V.dX13_begin_175 : decode cX13_begin 175 = .ok (.invokevirtual 326, 3) := by decide +kernel
theorem V.dX13_begin_178 : decode cX13_begin 178 = .ok (.ifCond .ne 5, 3) := by decide +kernel
theorem V.dX13_begin_181 : decode cX13_begin 181 = .ok (.iconst 5, 1) := by decide +kernel
theorem V.dX13_begin_182 : decode cX13_begin 182 = .ok (.ireturn, 1) := by decide +kernel
theorem V.dX13_begin_183 : decode cX13_begin 183 = .ok (.aload_n 0, 1) := by decide +kernel
theorem V.dX13_begin_184 : decode cX13_begin 184 = .ok (.iload_n 1, 1) := by decide +kernel
theorem V.dX13_begin_185 : decode cX13_begin 185 = .ok (.iload_n 3, 1) := by decide +kernel
theorem V.dX13_begin_186 : decode cX13_begin 186 = .ok (.bipush 6, 2) := by decide +kernel
theorem V.dX13_begin_188 : decode cX13_begin 188 = .ok (.idiv, 1) := by decide +kernel
theorem V.dX13_begin_189 : decode cX13_begin 189 = .ok (.invokevirtual 330, 3) := by decide +kernel
theorem V.dX13_begin_192 : decode cX13_begin 192 = .ok (.iinc 3 6, 3) := by decide +kernel
theorem V.dX13_begin_195 : decode cX13_begin 195 = .ok (.goto (-78), 3) := by decide +kernel
theorem V.dX13_begin_198 : decode cX13_begin 198 = .ok (.iconst 0, 1) := by decide +kernel
theorem V.dX13_begin_199 : decode cX13_begin 199 = .ok (.ireturn, 1) := by decide +kernel
theorem V.mdX13_319 : MD RX13 319 yX13_initTable cX13_initTable 13 (some .boolean) 6 := ⟨Or.inl q2322, q373, q2325, by decide, by decide, by decide +kernel⟩
theorem V.mdX13_326 : MD RX13 326 yX13_initMemory cX13_initMemory 16 (some .boolean) 5 := ⟨Or.inl q2335, q373, q2338, by decide, by decide, by decide +kernel⟩
theorem V.mdX13_330 : MD RX13 330 yX13_dropData cX13_dropData 3 none 2 := ⟨Or.inl q2351, q373, q2354, by decide, by decide, by decide +kernel⟩
theorem V.mdX13_323 : MD RX13 323 yX13_dropElement cX13_dropElement 3 none 2 := ⟨Or.inl q2330, q373, q2333, by decide, by decide, by decide +kernel⟩
/-! ModuleEngine$Store.begin(I)I -/
def V.Sto_begin_p192 (rec117 : HS → Nat → Int32 → Nat → Int32 → Option (Int32 × HS)) (σ : HS) (x0 : Nat) (x1 : Int32) (x2 : Nat) (x3 : Int32) : Option (Int32 × HS) :=
  bn (x3 + (6 : Int32)) fun y1 =>
  rec117 σ x0 x1 x2 y1
theorem V.gX13_begin_p192 {X : CX} (rec117 : HS → Nat → Int32 → Nat → Int32 → Option (Int32 × HS)) (hrec117 : ∀ (σ : HS) (x0 : Nat) (x1 : Int32) (x2 : Nat) (x3 : Int32), G X RX13 "begin" cX13_begin 6 (some .int) 6 132 enI 117 [(0, av x0), (1, iv x1), (2, av x2), (3, iv x3)] [] σ (rec117 σ x0 x1 x2 x3)) (σ : HS) (x0 : Nat) (x1 : Int32) (x2 : Nat) (x3 : Int32) : G X RX13 "begin" cX13_begin 6 (some .int) 6 132 enI 192 [(0, av x0), (1, iv x1), (2, av x2), (3, iv x3)] [] σ (Sto_begin_p192 rec117 σ x0 x1 x2 x3) := by
  unfold Sto_begin_p192
  refine g_iincB (w := 6) 3 dX13_begin_192 rfl (by decide) (by decide) (fun _ => rfl) (fun y1 => ?_)
  refine g_goto 117 dX13_begin_195 (by decide) ?_
  refine G.sub [1, 2, 3, 0] rfl ?_
  exact hrec117 _ _ _ _ _
def V.Sto_begin_p117  : Nat → HS → Nat → Int32 → Nat → Int32 → Option (Int32 × HS)
  | 0, _, _, _, _, _ => none
  | n + 1, σ, x0, x1, x2, x3 =>
    ck (tg σ x2 = 3) <|
    ck (tg σ (gR σ x2 13) = 4) <| cl (Row_size σ (gR σ x2 13) ) fun r2 σ1 =>
    if r2 ≤ x3 then (
      some ((0 : Int32), σ1))
    else (
      ck (tg σ1 x2 = 3) <|
      ck (tg σ1 (gR σ1 x2 13) = 4) <| cl (Row_at σ1 (gR σ1 x2 13) x3) fun r4 σ3 =>
      if r4 = 0 then (
        Sto_begin_p192 (Sto_begin_p117 n) σ3 x0 x1 x2 x3)
      else (
        ck (¬ (6 : Int32) = 0) <|
        ck (tg σ3 x2 = 3) <|
        ck (tg σ3 (gR σ3 x2 13) = 4) <| cl (Row_at σ3 (gR σ3 x2 13) (x3 + (3 : Int32))) fun r6 σ5 =>
        ck (tg σ5 x0 = 14) <| cl (Sto_constant σ5 x0 x1 r6) fun r8 σ7 =>
        ck (tg σ7 x2 = 3) <|
        ck (tg σ7 (gR σ7 x2 13) = 4) <| cl (Row_at σ7 (gR σ7 x2 13) (x3 + (2 : Int32))) fun r10 σ9 =>
        ck (tg σ9 x0 = 14) <| cl (Sto_initMemory σ9 x0 x1 (x3 / (6 : Int32)) r8 (0 : Int64) r10.toInt64) fun r12 σ11 =>
        if r12 = 0 then (
          some ((5 : Int32), σ11))
        else (
          ck (¬ (6 : Int32) = 0) <|
          ck (tg σ11 x0 = 14) <| cl (Sto_dropData σ11 x0 x1 (x3 / (6 : Int32))) fun _ σ13 =>
          Sto_begin_p192 (Sto_begin_p117 n) σ13 x0 x1 x2 x3)))
theorem V.gX13_begin_p117 {X : CX}  : ∀ (n : Nat) (σ : HS) (x0 : Nat) (x1 : Int32) (x2 : Nat) (x3 : Int32), G X RX13 "begin" cX13_begin 6 (some .int) 6 132 enI 117 [(0, av x0), (1, iv x1), (2, av x2), (3, iv x3)] [] σ (Sto_begin_p117 n σ x0 x1 x2 x3)
  | 0, σ, x0, x1, x2, x3 => by rw [Sto_begin_p117]; exact G.nul
  | n + 1, σ, x0, x1, x2, x3 => by
    rw [Sto_begin_p117]
    refine g_iload_n 3 3 dX13_begin_117 rfl rfl ?_
    refine g_aload_n 2 2 dX13_begin_118 rfl rfl ?_
    refine g_getR fdX13_274 dX13_begin_119 ?_
    refine g_callV (fc := fun sς => Row_size sς (gR σ x2 13) ) (ci := 3) (as := []) rfl rfl rfl q1421 q1422 mdX13_107 (ctX3_size (gR σ x2 13) ) rfl (Nat.le_of_ble_eq_true rfl) (Nat.le_of_ble_eq_true rfl) (Nat.le_of_ble_eq_true rfl) pu_I dX13_begin_122 (fun r2 σ1 => ?_)
    refine g_icmp_ge 198 dX13_begin_125 (by decide) ?_ ?_
    · refine g_iconst (v := 0) dX13_begin_198 (by decide) ?_
      exact g_ireturn rfl dX13_begin_199
    · refine g_aload_n 2 2 dX13_begin_128 rfl rfl ?_
      refine g_getR fdX13_274 dX13_begin_129 ?_
      refine g_iload_n 3 3 dX13_begin_132 rfl rfl ?_
      refine g_callV (fc := fun sς => Row_at sς (gR σ1 x2 13) x3) (ci := 3) (as := [iv x3]) rfl rfl rfl q1409 q1410 mdX13_111 (ctX3_at (gR σ1 x2 13) x3) rfl (Nat.le_of_ble_eq_true rfl) (Nat.le_of_ble_eq_true rfl) (Nat.le_of_ble_eq_true rfl) pu_I dX13_begin_133 (fun r4 σ3 => ?_)
      refine g_if_ne 142 dX13_begin_136 (by decide) ?_ ?_
      · refine g_aload_n 0 0 dX13_begin_142 rfl rfl ?_
        refine g_iload_n 1 1 dX13_begin_143 rfl rfl ?_
        refine g_iload_n 3 3 dX13_begin_144 rfl rfl ?_
        refine g_bipush (v := 6) dX13_begin_145 (by decide) ?_
        refine g_idiv dX13_begin_147 ?_
        refine g_aload_n 0 0 dX13_begin_148 rfl rfl ?_
        refine g_iload_n 1 1 dX13_begin_149 rfl rfl ?_
        refine g_aload_n 2 2 dX13_begin_150 rfl rfl ?_
        refine g_getR fdX13_274 dX13_begin_151 ?_
        refine g_iload_n 3 3 dX13_begin_154 rfl rfl ?_
        refine g_iconst (v := 3) dX13_begin_155 (by decide) ?_
        refine g_iadd dX13_begin_156 ?_
        refine g_callV (fc := fun sς => Row_at sς (gR σ3 x2 13) (x3 + (3 : Int32))) (ci := 3) (as := [iv (x3 + (3 : Int32))]) rfl rfl rfl q1409 q1410 mdX13_111 (ctX3_at (gR σ3 x2 13) (x3 + (3 : Int32))) rfl (Nat.le_of_ble_eq_true rfl) (Nat.le_of_ble_eq_true rfl) (Nat.le_of_ble_eq_true rfl) pu_I dX13_begin_157 (fun r6 σ5 => ?_)
        refine g_callV (fc := fun sς => Sto_constant sς x0 x1 r6) (ci := 13) (as := [iv x1, iv r6]) rfl rfl rfl q2308 qs138 mdX13_266 (ctX13_constant x0 x1 r6) rfl (Nat.le_of_ble_eq_true rfl) (Nat.le_of_ble_eq_true rfl) (Nat.le_of_ble_eq_true rfl) pu_J dX13_begin_160 (fun r8 σ7 => ?_)
        refine g_lconst (v := 0) dX13_begin_163 (by decide) ?_
        refine g_aload_n 2 2 dX13_begin_164 rfl rfl ?_
        refine g_getR fdX13_274 dX13_begin_165 ?_
        refine g_iload_n 3 3 dX13_begin_168 rfl rfl ?_
        refine g_iconst (v := 2) dX13_begin_169 (by decide) ?_
        refine g_iadd dX13_begin_170 ?_
        refine g_callV (fc := fun sς => Row_at sς (gR σ7 x2 13) (x3 + (2 : Int32))) (ci := 3) (as := [iv (x3 + (2 : Int32))]) rfl rfl rfl q1409 q1410 mdX13_111 (ctX3_at (gR σ7 x2 13) (x3 + (2 : Int32))) rfl (Nat.le_of_ble_eq_true rfl) (Nat.le_of_ble_eq_true rfl) (Nat.le_of_ble_eq_true rfl) pu_I dX13_begin_171 (fun r10 σ9 => ?_)
        refine g_i2l dX13_begin_174 ?_
        refine g_callV (fc := fun sς => Sto_initMemory sς x0 x1 (x3 / (6 : Int32)) r8 (0 : Int64) r10.toInt64) (ci := 13) (as := [iv x1, iv (x3 / (6 : Int32)), jv r8, jv (0 : Int64), jv r10.toInt64]) rfl rfl rfl q2336 q2337 mdX13_326 (ctX13_initMemory x0 x1 (x3 / (6 : Int32)) r8 (0 : Int64) r10.toInt64) rfl (Nat.le_of_ble_eq_true rfl) (Nat.le_of_ble_eq_true rfl) (Nat.le_of_ble_eq_true rfl) pu_I dX13_begin_175 (fun r12 σ11 => ?_)
        refine g_if_ne 183 dX13_begin_178 (by decide) ?_ ?_
        · refine g_aload_n 0 0 dX13_begin_183 rfl rfl ?_
          refine g_iload_n 1 1 dX13_begin_184 rfl rfl ?_
          refine g_iload_n 3 3 dX13_begin_185 rfl rfl ?_
          refine g_bipush (v := 6) dX13_begin_186 (by decide) ?_
          refine g_idiv dX13_begin_188 ?_
          refine g_callV (fc := fun sς => Sto_dropData sς x0 x1 (x3 / (6 : Int32))) (ci := 13) (as := [iv x1, iv (x3 / (6 : Int32))]) rfl rfl rfl q2352 q2353 mdX13_330 (ctX13_dropData x0 x1 (x3 / (6 : Int32))) rfl (Nat.le_of_ble_eq_true rfl) (Nat.le_of_ble_eq_true rfl) (Nat.le_of_ble_eq_true rfl) pu_V dX13_begin_189 (fun _ σ13 => ?_)
          exact gX13_begin_p192 (Sto_begin_p117 n) (gX13_begin_p117 n) _ _ _ _ _
        · refine g_iconst (v := 5) dX13_begin_181 (by decide) ?_
          exact g_ireturn rfl dX13_begin_182
      · refine g_goto 192 dX13_begin_139 (by decide) ?_
        exact gX13_begin_p192 (Sto_begin_p117 n) (gX13_begin_p117 n) _ _ _ _ _
def V.Sto_begin_p109 (rec14 : HS → Nat → Int32 → Nat → Int32 → Option (Int32 × HS)) (σ : HS) (x0 : Nat) (x1 : Int32) (x2 : Nat) (x3 : Int32) : Option (Int32 × HS) :=
  bn (x3 + (8 : Int32)) fun y1 =>
  rec14 σ x0 x1 x2 y1
theorem V.gX13_begin_p109 {X : CX} (rec14 : HS → Nat → Int32 → Nat → Int32 → Option (Int32 × HS)) (hrec14 : ∀ (σ : HS) (x0 : Nat) (x1 : Int32) (x2 : Nat) (x3 : Int32), G X RX13 "begin" cX13_begin 6 (some .int) 6 132 enI 14 [(0, av x0), (1, iv x1), (2, av x2), (3, iv x3)] [] σ (rec14 σ x0 x1 x2 x3)) (σ : HS) (x0 : Nat) (x1 : Int32) (x2 : Nat) (x3 : Int32) : G X RX13 "begin" cX13_begin 6 (some .int) 6 132 enI 109 [(0, av x0), (1, iv x1), (2, av x2), (3, iv x3)] [] σ (Sto_begin_p109 rec14 σ x0 x1 x2 x3) := by
  unfold Sto_begin_p109
  refine g_iincB (w := 8) 3 dX13_begin_109 rfl (by decide) (by decide) (fun _ => rfl) (fun y1 => ?_)
  refine g_goto 14 dX13_begin_112 (by decide) ?_
  refine G.sub [1, 2, 3, 0] rfl ?_
  exact hrec14 _ _ _ _ _
def V.Sto_begin_p97 (rec14 : HS → Nat → Int32 → Nat → Int32 → Option (Int32 × HS)) (σ : HS) (x0 : Nat) (x1 : Int32) (x2 : Nat) (x3 : Int32) (x4 : Int32) (x5 : Int32) : Option (Int32 × HS) :=
  if x4 ≤ 0 then (
    Sto_begin_p109 rec14 σ x0 x1 x2 x3)
  else (
    ck (tg σ x0 = 14) <| cl (Sto_dropElement σ x0 x1 x5) fun _ σ1 =>
    Sto_begin_p109 rec14 σ1 x0 x1 x2 x3)
theorem V.gX13_begin_p97 {X : CX} (rec14 : HS → Nat → Int32 → Nat → Int32 → Option (Int32 × HS)) (hrec14 : ∀ (σ : HS) (x0 : Nat) (x1 : Int32) (x2 : Nat) (x3 : Int32), G X RX13 "begin" cX13_begin 6 (some .int) 6 132 enI 14 [(0, av x0), (1, iv x1), (2, av x2), (3, iv x3)] [] σ (rec14 σ x0 x1 x2 x3)) (σ : HS) (x0 : Nat) (x1 : Int32) (x2 : Nat) (x3 : Int32) (x4 : Int32) (x5 : Int32) : G X RX13 "begin" cX13_begin 6 (some .int) 6 132 enI 97 [(0, av x0), (1, iv x1), (2, av x2), (3, iv x3), (4, iv x4), (5, iv x5)] [] σ (Sto_begin_p97 rec14 σ x0 x1 x2 x3 x4 x5) := by
  unfold Sto_begin_p97
  refine g_iload 4 dX13_begin_97 rfl ?_
  refine g_if_le 109 dX13_begin_99 (by decide) ?_ ?_
  · refine G.sub [0, 1, 2, 3] rfl ?_
    exact gX13_begin_p109 rec14 hrec14 _ _ _ _ _
  · refine g_aload_n 0 0 dX13_begin_102 rfl rfl ?_
    refine g_iload_n 1 1 dX13_begin_103 rfl rfl ?_
    refine g_iload 5 dX13_begin_104 rfl ?_
    refine g_callV (fc := fun sς => Sto_dropElement sς x0 x1 x5) (ci := 13) (as := [iv x1, iv x5]) rfl rfl rfl q2331 q2332 mdX13_323 (ctX13_dropElement x0 x1 x5) rfl (Nat.le_of_ble_eq_true rfl) (Nat.le_of_ble_eq_true rfl) (Nat.le_of_ble_eq_true rfl) pu_V dX13_begin_106 (fun _ σ1 => ?_)
    refine G.sub [0, 1, 2, 3] rfl ?_
    exact gX13_begin_p109 rec14 hrec14 _ _ _ _ _
def V.Sto_begin_p14  : Nat → HS → Nat → Int32 → Nat → Int32 → Option (Int32 × HS)
  | 0, _, _, _, _, _ => none
  | n + 1, σ, x0, x1, x2, x3 =>
    ck (tg σ x2 = 3) <|
    ck (tg σ (gR σ x2 9) = 4) <| cl (Row_size σ (gR σ x2 9) ) fun r2 σ1 =>
    if r2 ≤ x3 then (
      Sto_begin_p117 FU σ1 x0 x1 x2 (0 : Int32))
    else (
      ck (tg σ1 x2 = 3) <|
      ck (tg σ1 (gR σ1 x2 9) = 4) <| cl (Row_at σ1 (gR σ1 x2 9) x3) fun r4 σ3 =>
      ck (¬ (8 : Int32) = 0) <|
      bn (x3 / (8 : Int32)) fun y5 =>
      if r4 = (1 : Int32) then (
        ck (tg σ3 x2 = 3) <|
        ck (tg σ3 (gR σ3 x2 9) = 4) <| cl (Row_at σ3 (gR σ3 x2 9) (x3 + (2 : Int32))) fun r7 σ6 =>
        ck (tg σ6 x2 = 3) <|
        ck (tg σ6 (gR σ6 x2 9) = 4) <| cl (Row_at σ6 (gR σ6 x2 9) (x3 + (4 : Int32))) fun r9 σ8 =>
        ck (tg σ8 x0 = 14) <| cl (Sto_constant σ8 x0 x1 r9) fun r11 σ10 =>
        ck (tg σ10 x2 = 3) <|
        ck (tg σ10 (gR σ10 x2 9) = 4) <| cl (Row_at σ10 (gR σ10 x2 9) (x3 + (3 : Int32))) fun r13 σ12 =>
        ck (tg σ12 x0 = 14) <| cl (Sto_initTable σ12 x0 x1 y5 r7 r11 (0 : Int64) r13.toInt64) fun r15 σ14 =>
        if r15 = 0 then (
          some ((6 : Int32), σ14))
        else (
          Sto_begin_p97 (Sto_begin_p14 n) σ14 x0 x1 x2 x3 r4 y5))
      else (
        Sto_begin_p97 (Sto_begin_p14 n) σ3 x0 x1 x2 x3 r4 y5))
theorem V.gX13_begin_p14 {X : CX}  : ∀ (n : Nat) (σ : HS) (x0 : Nat) (x1 : Int32) (x2 : Nat) (x3 : Int32), G X RX13 "begin" cX13_begin 6 (some .int) 6 132 enI 14 [(0, av x0), (1, iv x1), (2, av x2), (3, iv x3)] [] σ (Sto_begin_p14 n σ x0 x1 x2 x3)
  | 0, σ, x0, x1, x2, x3 => by rw [Sto_begin_p14]; exact G.nul
  | n + 1, σ, x0, x1, x2, x3 => by
    rw [Sto_begin_p14]
    refine g_iload_n 3 3 dX13_begin_14 rfl rfl ?_
    refine g_aload_n 2 2 dX13_begin_15 rfl rfl ?_
    refine g_getR fdX13_213 dX13_begin_16 ?_
    refine g_callV (fc := fun sς => Row_size sς (gR σ x2 9) ) (ci := 3) (as := []) rfl rfl rfl q1421 q1422 mdX13_107 (ctX3_size (gR σ x2 9) ) rfl (Nat.le_of_ble_eq_true rfl) (Nat.le_of_ble_eq_true rfl) (Nat.le_of_ble_eq_true rfl) pu_I dX13_begin_19 (fun r2 σ1 => ?_)
    refine g_icmp_ge 115 dX13_begin_22 (by decide) ?_ ?_
    · refine g_iconst (v := 0) dX13_begin_115 (by decide) ?_
      refine g_istore_n 3 dX13_begin_116 rfl (by decide) rfl ?_
      refine G.sub [1, 2, 3, 0] rfl ?_
      exact gX13_begin_p117 FU _ _ _ _ _
    · refine g_aload_n 2 2 dX13_begin_25 rfl rfl ?_
      refine g_getR fdX13_213 dX13_begin_26 ?_
      refine g_iload_n 3 3 dX13_begin_29 rfl rfl ?_
      refine g_callV (fc := fun sς => Row_at sς (gR σ1 x2 9) x3) (ci := 3) (as := [iv x3]) rfl rfl rfl q1409 q1410 mdX13_111 (ctX3_at (gR σ1 x2 9) x3) rfl (Nat.le_of_ble_eq_true rfl) (Nat.le_of_ble_eq_true rfl) (Nat.le_of_ble_eq_true rfl) pu_I dX13_begin_30 (fun r4 σ3 => ?_)
      refine g_istore dX13_begin_33 (by decide) rfl ?_
      refine g_iload_n 3 4 dX13_begin_35 rfl rfl ?_
      refine g_bipush (v := 8) dX13_begin_36 (by decide) ?_
      refine g_idiv dX13_begin_38 ?_
      refine g_nmI (fun y5 => ?_)
      refine g_istore dX13_begin_39 (by decide) rfl ?_
      refine g_iload 1 dX13_begin_41 rfl ?_
      refine g_iconst (v := 1) dX13_begin_43 (by decide) ?_
      refine g_icmp_ne 97 dX13_begin_44 (by decide) ?_ ?_
      · refine G.sub [2, 3, 4, 5, 1, 0] rfl ?_
        exact gX13_begin_p97 (Sto_begin_p14 n) (gX13_begin_p14 n) _ _ _ _ _ _ _
      · refine g_aload_n 0 2 dX13_begin_47 rfl rfl ?_
        refine g_iload_n 1 3 dX13_begin_48 rfl rfl ?_
        refine g_iload 0 dX13_begin_49 rfl ?_
        refine g_aload_n 2 4 dX13_begin_51 rfl rfl ?_
        refine g_getR fdX13_213 dX13_begin_52 ?_
        refine g_iload_n 3 5 dX13_begin_55 rfl rfl ?_
        refine g_iconst (v := 2) dX13_begin_56 (by decide) ?_
        refine g_iadd dX13_begin_57 ?_
        refine g_callV (fc := fun sς => Row_at sς (gR σ3 x2 9) (x3 + (2 : Int32))) (ci := 3) (as := [iv (x3 + (2 : Int32))]) rfl rfl rfl q1409 q1410 mdX13_111 (ctX3_at (gR σ3 x2 9) (x3 + (2 : Int32))) rfl (Nat.le_of_ble_eq_true rfl) (Nat.le_of_ble_eq_true rfl) (Nat.le_of_ble_eq_true rfl) pu_I dX13_begin_58 (fun r7 σ6 => ?_)
        refine g_aload_n 0 2 dX13_begin_61 rfl rfl ?_
        refine g_iload_n 1 3 dX13_begin_62 rfl rfl ?_
        refine g_aload_n 2 4 dX13_begin_63 rfl rfl ?_
        refine g_getR fdX13_213 dX13_begin_64 ?_
        refine g_iload_n 3 5 dX13_begin_67 rfl rfl ?_
        refine g_iconst (v := 4) dX13_begin_68 (by decide) ?_
        refine g_iadd dX13_begin_69 ?_
        refine g_callV (fc := fun sς => Row_at sς (gR σ6 x2 9) (x3 + (4 : Int32))) (ci := 3) (as := [iv (x3 + (4 : Int32))]) rfl rfl rfl q1409 q1410 mdX13_111 (ctX3_at (gR σ6 x2 9) (x3 + (4 : Int32))) rfl (Nat.le_of_ble_eq_true rfl) (Nat.le_of_ble_eq_true rfl) (Nat.le_of_ble_eq_true rfl) pu_I dX13_begin_70 (fun r9 σ8 => ?_)
        refine g_callV (fc := fun sς => Sto_constant sς x0 x1 r9) (ci := 13) (as := [iv x1, iv r9]) rfl rfl rfl q2308 qs138 mdX13_266 (ctX13_constant x0 x1 r9) rfl (Nat.le_of_ble_eq_true rfl) (Nat.le_of_ble_eq_true rfl) (Nat.le_of_ble_eq_true rfl) pu_J dX13_begin_73 (fun r11 σ10 => ?_)
        refine g_lconst (v := 0) dX13_begin_76 (by decide) ?_
        refine g_aload_n 2 4 dX13_begin_77 rfl rfl ?_
        refine g_getR fdX13_213 dX13_begin_78 ?_
        refine g_iload_n 3 5 dX13_begin_81 rfl rfl ?_
        refine g_iconst (v := 3) dX13_begin_82 (by decide) ?_
        refine g_iadd dX13_begin_83 ?_
        refine g_callV (fc := fun sς => Row_at sς (gR σ10 x2 9) (x3 + (3 : Int32))) (ci := 3) (as := [iv (x3 + (3 : Int32))]) rfl rfl rfl q1409 q1410 mdX13_111 (ctX3_at (gR σ10 x2 9) (x3 + (3 : Int32))) rfl (Nat.le_of_ble_eq_true rfl) (Nat.le_of_ble_eq_true rfl) (Nat.le_of_ble_eq_true rfl) pu_I dX13_begin_84 (fun r13 σ12 => ?_)
        refine g_i2l dX13_begin_87 ?_
        refine g_callV (fc := fun sς => Sto_initTable sς x0 x1 y5 r7 r11 (0 : Int64) r13.toInt64) (ci := 13) (as := [iv x1, iv y5, iv r7, jv r11, jv (0 : Int64), jv r13.toInt64]) rfl rfl rfl q2323 q2324 mdX13_319 (ctX13_initTable x0 x1 y5 r7 r11 (0 : Int64) r13.toInt64) rfl (Nat.le_of_ble_eq_true rfl) (Nat.le_of_ble_eq_true rfl) (Nat.le_of_ble_eq_true rfl) pu_I dX13_begin_88 (fun r15 σ14 => ?_)
        refine g_if_ne 97 dX13_begin_91 (by decide) ?_ ?_
        · refine G.sub [2, 3, 4, 5, 1, 0] rfl ?_
          exact gX13_begin_p97 (Sto_begin_p14 n) (gX13_begin_p14 n) _ _ _ _ _ _ _
        · refine g_bipush (v := 6) dX13_begin_94 (by decide) ?_
          exact g_ireturn rfl dX13_begin_96
def V.Sto_begin (σ : HS) (x0 : Nat) (x1 : Int32) : Option (Int32 × HS) :=
  ck (tg σ x0 = 14) <|
  ck (tg σ x0 = 14) <|
  ck (tg σ (gR σ x0 14) = 100 ∧ inb x1 (ln σ (gR σ x0 14))) <|
  ck (tg σ (gR σ x0 0) = 105 ∧ inb (gI σ (gR σ x0 14) (ix x1)) (ln σ (gR σ x0 0))) <|
  bn (gR σ (gR σ x0 0) (ix (gI σ (gR σ x0 14) (ix x1)))) fun y1 =>
  Sto_begin_p14 FU σ x0 x1 y1 (0 : Int32)
theorem V.ctX13_begin (x0 : Nat) (x1 : Int32) : Ct yX13_begin  cX13_begin 6 (some .int) 6 132 eI [av x0, iv x1] (fun σ => Sto_begin σ x0 x1) := by
  refine Ct.of (own := RX13) (nm := "begin") (desc := "(I)I") rfl (by decide) (Nat.le_of_ble_eq_true rfl) (by decide) (fun X σ => ?_)
  show G X RX13 "begin" cX13_begin 6 (some .int) 6 132 enI 0 [(0, av x0), (1, iv x1)] [] σ (Sto_begin σ x0 x1)
  unfold Sto_begin
  refine g_aload_n 0 0 dX13_begin_0 rfl rfl ?_
  refine g_getR fdX13_11 dX13_begin_1 ?_
  refine g_aload_n 0 0 dX13_begin_4 rfl rfl ?_
  refine g_getR fdX13_70 dX13_begin_5 ?_
  refine g_iload_n 1 1 dX13_begin_8 rfl rfl ?_
  refine g_iaload dX13_begin_9 ?_
  refine g_aaload 5 rfl dX13_begin_10 ?_
  refine g_nmA (fun y1 => ?_)
  refine g_astore_n 2 dX13_begin_11 rfl (by decide) rfl ?_
  refine g_iconst (v := 0) dX13_begin_12 (by decide) ?_
  refine g_istore_n 3 dX13_begin_13 rfl (by decide) rfl ?_
  refine G.sub [2, 3, 1, 0] rfl ?_
  exact gX13_begin_p14 FU _ _ _ _ _
theorem V.dX13_startOf_0 : decode cX13_startOf 0 = .ok (.aload_n 0, 1) := by decide +kernel
theorem V.dX13_startOf_1 : decode cX13_startOf 1 = .ok (.getfield 11, 3) := by decide +kernel
theorem V.dX13_startOf_4 : decode cX13_startOf 4 = .ok (.aload_n 0, 1) := by decide +kernel
theorem V.dX13_startOf_5 : decode cX13_startOf 5 = .ok (.getfield 70, 3) := by decide +kernel
theorem V.dX13_startOf_8 : decode cX13_startOf 8 = .ok (.iload_n 1, 1) := by decide +kernel
theorem V.dX13_startOf_9 : decode cX13_startOf 9 = .ok (.iaload, 1) := by decide +kernel
theorem V.dX13_startOf_10 : decode cX13_startOf 10 = .ok (.aaload, 1) := by decide +kernel
theorem V.dX13_startOf_11 : decode cX13_startOf 11 = .ok (.astore_n 2, 1) := by decide +kernel
theorem V.dX13_startOf_12 : decode cX13_startOf 12 = .ok (.aload_n 2, 1) := by decide +kernel
theorem V.dX13_startOf_13 : decode cX13_startOf 13 = .ok (.getfield 333, 3) := by decide +kernel
theorem V.dX13_startOf_16 : decode cX13_startOf 16 = .ok (.ifCond .eq 19, 3) := by decide +kernel
theorem V.dX13_startOf_19 : decode cX13_startOf 19 = .ok (.aload_n 0, 1) := by decide +kernel
theorem V.dX13_startOf_20 : decode cX13_startOf 20 = .ok (.getfield 73, 3) := by decide +kernel
theorem V.dX13_startOf_23 : decode cX13_startOf 23 = .ok (.iload_n 1, 1) := by decide +kernel
theorem V.dX13_startOf_24 : decode cX13_startOf 24 = .ok (.aaload, 1) := by decide +kernel
theorem V.dX13_startOf_25 : decode cX13_startOf 25 = .ok (.aload_n 2, 1) := by decide +kernel
theorem V.dX13_startOf_26 : decode cX13_startOf 26 = .ok (.getfield 337, 3) := by decide +kernel
theorem V.dX13_startOf_29 : decode cX13_startOf 29 = .ok (.invokevirtual 111, 3) := by decide +kernel
theorem V.dX13_startOf_32 : decode cX13_startOf 32 = .ok (.goto 4, 3) := by decide +kernel
theorem V.dX13_startOf_35 : decode cX13_startOf 35 = .ok (.iconst (-1), 1) := by decide +kernel
theorem V.dX13_startOf_36 : decode cX13_startOf 36 = .ok (.ireturn, 1) := by decide +kernel
theorem V.fdX13_333 : FD RX13 333 2 19 0 := ⟨(RX2, TX2, 21), tyX2, rfl, rfl, in_X2, by decide, Or.inr ⟨_, q488⟩, rfl⟩
theorem V.fdX13_337 : FD RX13 337 2 17 0 := ⟨(RX2, TX2, 21), tyX2, rfl, rfl, in_X2, by decide, Or.inr ⟨_, q482⟩, rfl⟩
/-! ModuleEngine$Store.startOf(I)I -/
def V.Sto_startOf (σ : HS) (x0 : Nat) (x1 : Int32) : Option (Int32 × HS) :=
  ck (tg σ x0 = 14) <|
  ck (tg σ x0 = 14) <|
  ck (tg σ (gR σ x0 14) = 100 ∧ inb x1 (ln σ (gR σ x0 14))) <|
  ck (tg σ (gR σ x0 0) = 105 ∧ inb (gI σ (gR σ x0 14) (ix x1)) (ln σ (gR σ x0 0))) <|
  bn (gR σ (gR σ x0 0) (ix (gI σ (gR σ x0 14) (ix x1)))) fun y1 =>
  ck (tg σ y1 = 3) <|
  if (gI σ y1 19) = 0 then (
    some ((-1 : Int32), σ))
  else (
    ck (tg σ x0 = 14) <|
    ck (tg σ (gR σ x0 15) = 104 ∧ inb x1 (ln σ (gR σ x0 15))) <|
    ck (tg σ y1 = 3) <|
    ck (tg σ (gR σ (gR σ x0 15) (ix x1)) = 4) <| cl (Row_at σ (gR σ (gR σ x0 15) (ix x1)) (gI σ y1 17)) fun r3 σ2 =>
    some (r3, σ2))
theorem V.ctX13_startOf (x0 : Nat) (x1 : Int32) : Ct yX13_startOf  cX13_startOf 3 (some .int) 1 21 eI [av x0, iv x1] (fun σ => Sto_startOf σ x0 x1) := by
  refine Ct.of (own := RX13) (nm := "startOf") (desc := "(I)I") rfl (by decide) (Nat.le_of_ble_eq_true rfl) (by decide) (fun X σ => ?_)
  show G X RX13 "startOf" cX13_startOf 3 (some .int) 1 21 enI 0 [(0, av x0), (1, iv x1)] [] σ (Sto_startOf σ x0 x1)
  unfold Sto_startOf
  refine g_aload_n 0 0 dX13_startOf_0 rfl rfl ?_
  refine g_getR fdX13_11 dX13_startOf_1 ?_
  refine g_aload_n 0 0 dX13_startOf_4 rfl rfl ?_
  refine g_getR fdX13_70 dX13_startOf_5 ?_
  refine g_iload_n 1 1 dX13_startOf_8 rfl rfl ?_
  refine g_iaload dX13_startOf_9 ?_
  refine g_aaload 5 rfl dX13_startOf_10 ?_
  refine g_nmA (fun y1 => ?_)
  refine g_astore_n 2 dX13_startOf_11 rfl (by decide) rfl ?_
  refine g_aload_n 2 0 dX13_startOf_12 rfl rfl ?_
  refine g_getI fdX13_333 dX13_startOf_13 ?_
  refine g_if_eq 35 dX13_startOf_16 (by decide) ?_ ?_
  · refine g_iconst (v := (-1)) dX13_startOf_35 (by decide) ?_
    exact g_ireturn rfl dX13_startOf_36
  · refine g_aload_n 0 1 dX13_startOf_19 rfl rfl ?_
    refine g_getR fdX13_73 dX13_startOf_20 ?_
    refine g_iload_n 1 2 dX13_startOf_23 rfl rfl ?_
    refine g_aaload 4 rfl dX13_startOf_24 ?_
    refine g_aload_n 2 0 dX13_startOf_25 rfl rfl ?_
    refine g_getI fdX13_337 dX13_startOf_26 ?_
    refine g_callV (fc := fun sς => Row_at sς (gR σ (gR σ x0 15) (ix x1)) (gI σ y1 17)) (ci := 3) (as := [iv (gI σ y1 17)]) rfl rfl rfl q1409 q1410 mdX13_111 (ctX3_at (gR σ (gR σ x0 15) (ix x1)) (gI σ y1 17)) rfl (Nat.le_of_ble_eq_true rfl) (Nat.le_of_ble_eq_true rfl) (Nat.le_of_ble_eq_true rfl) pu_I dX13_startOf_29 (fun r3 σ2 => ?_)
    refine g_goto 36 dX13_startOf_32 (by decide) ?_
    exact g_ireturn rfl dX13_startOf_36
theorem V.dX13_parametersOf_0 : decode cX13_parametersOf 0 = .ok (.aload_n 0, 1) := by decide +kernel
theorem V.dX13_parametersOf_1 : decode cX13_parametersOf 1 = .ok (.iload_n 1, 1) := by decide +kernel
theorem V.dX13_parametersOf_2 : decode cX13_parametersOf 2 = .ok (.invokevirtual 119, 3) := by decide +kernel
theorem V.dX13_parametersOf_5 : decode cX13_parametersOf 5 = .ok (.aload_n 0, 1) := by decide +kernel
theorem V.dX13_parametersOf_6 : decode cX13_parametersOf 6 = .ok (.getfield 26, 3) := by decide +kernel
theorem V.dX13_parametersOf_9 : decode cX13_parametersOf 9 = .ok (.iload_n 1, 1) := by decide +kernel
theorem V.dX13_parametersOf_10 : decode cX13_parametersOf 10 = .ok (.invokevirtual 111, 3) := by decide +kernel
theorem V.dX13_parametersOf_13 : decode cX13_parametersOf 13 = .ok (.invokevirtual 123, 3) := by decide +kernel
theorem V.dX13_parametersOf_16 : decode cX13_parametersOf 16 = .ok (.ireturn, 1) := by decide +kernel
/-! ModuleEngine$Store.parametersOf(I)I -/
def V.Sto_parametersOf (σ : HS) (x0 : Nat) (x1 : Int32) : Option (Int32 × HS) :=
  ck (tg σ x0 = 14) <| cl (Sto_moduleOf σ x0 x1) fun r2 σ1 =>
  ck (tg σ1 x0 = 14) <|
  ck (tg σ1 (gR σ1 x0 4) = 4) <| cl (Row_at σ1 (gR σ1 x0 4) x1) fun r4 σ3 =>
  ck (tg σ3 r2 = 3) <| cl (Mod_parameters σ3 r2 r4) fun r6 σ5 =>
  some (r6, σ5)
theorem V.ctX13_parametersOf (x0 : Nat) (x1 : Int32) : Ct yX13_parametersOf  cX13_parametersOf 2 (some .int) 2 42 eI [av x0, iv x1] (fun σ => Sto_parametersOf σ x0 x1) := by
  refine Ct.of (own := RX13) (nm := "parametersOf") (desc := "(I)I") rfl (by decide) (Nat.le_of_ble_eq_true rfl) (by decide) (fun X σ => ?_)
  show G X RX13 "parametersOf" cX13_parametersOf 2 (some .int) 2 42 enI 0 [(0, av x0), (1, iv x1)] [] σ (Sto_parametersOf σ x0 x1)
  unfold Sto_parametersOf
  refine g_aload_n 0 0 dX13_parametersOf_0 rfl rfl ?_
  refine g_iload_n 1 1 dX13_parametersOf_1 rfl rfl ?_
  refine g_callV (fc := fun sς => Sto_moduleOf sς x0 x1) (ci := 13) (as := [iv x1]) rfl rfl rfl q2201 q2202 mdX13_119 (ctX13_moduleOf x0 x1) rfl (Nat.le_of_ble_eq_true rfl) (Nat.le_of_ble_eq_true rfl) (Nat.le_of_ble_eq_true rfl) pu_R dX13_parametersOf_2 (fun r2 σ1 => ?_)
  refine g_aload_n 0 0 dX13_parametersOf_5 rfl rfl ?_
  refine g_getR fdX13_26 dX13_parametersOf_6 ?_
  refine g_iload_n 1 1 dX13_parametersOf_9 rfl rfl ?_
  refine g_callV (fc := fun sς => Row_at sς (gR σ1 x0 4) x1) (ci := 3) (as := [iv x1]) rfl rfl rfl q1409 q1410 mdX13_111 (ctX3_at (gR σ1 x0 4) x1) rfl (Nat.le_of_ble_eq_true rfl) (Nat.le_of_ble_eq_true rfl) (Nat.le_of_ble_eq_true rfl) pu_I dX13_parametersOf_10 (fun r4 σ3 => ?_)
  refine g_callV (fc := fun sς => Mod_parameters sς r2 r4) (ci := 2) (as := [iv r4]) rfl rfl rfl q1558 q1559 mdX13_123 (ctX2_parameters r2 r4) rfl (Nat.le_of_ble_eq_true rfl) (Nat.le_of_ble_eq_true rfl) (Nat.le_of_ble_eq_true rfl) pu_I dX13_parametersOf_13 (fun r6 σ5 => ?_)
  exact g_ireturn rfl dX13_parametersOf_16
theorem V.dX13_isHost_0 : decode cX13_isHost 0 = .ok (.aload_n 0, 1) := by decide +kernel
theorem V.dX13_isHost_1 : decode cX13_isHost 1 = .ok (.getfield 29, 3) := by decide +kernel
theorem V.dX13_isHost_4 : decode cX13_isHost 4 = .ok (.iload_n 1, 1) := by decide +kernel
theorem V.dX13_isHost_5 : decode cX13_isHost 5 = .ok (.invokevirtual 111, 3) := by decide +kernel
theorem V.dX13_isHost_8 : decode cX13_isHost 8 = .ok (.ifCond .ge 7, 3) := by decide +kernel
theorem V.dX13_isHost_11 : decode cX13_isHost 11 = .ok (.iconst 1, 1) := by decide +kernel
theorem V.dX13_isHost_12 : decode cX13_isHost 12 = .ok (.goto 4, 3) := by decide +kernel
theorem V.dX13_isHost_15 : decode cX13_isHost 15 = .ok (.iconst 0, 1) := by decide +kernel
theorem V.dX13_isHost_16 : decode cX13_isHost 16 = .ok (.ireturn, 1) := by decide +kernel
/-! ModuleEngine$Store.isHost(I)Z -/
def V.Sto_isHost (σ : HS) (x0 : Nat) (x1 : Int32) : Option (Int32 × HS) :=
  ck (tg σ x0 = 14) <|
  ck (tg σ (gR σ x0 5) = 4) <| cl (Row_at σ (gR σ x0 5) x1) fun r2 σ1 =>
  if 0 ≤ r2 then (
    some ((0 : Int32), σ1))
  else (
    some ((1 : Int32), σ1))
theorem V.ctX13_isHost (x0 : Nat) (x1 : Int32) : Ct yX13_isHost  cX13_isHost 2 (some .boolean) 1 21 eI [av x0, iv x1] (fun σ => Sto_isHost σ x0 x1) := by
  refine Ct.of (own := RX13) (nm := "isHost") (desc := "(I)Z") rfl (by decide) (Nat.le_of_ble_eq_true rfl) (by decide) (fun X σ => ?_)
  show G X RX13 "isHost" cX13_isHost 2 (some .boolean) 1 21 enI 0 [(0, av x0), (1, iv x1)] [] σ (Sto_isHost σ x0 x1)
  unfold Sto_isHost
  refine g_aload_n 0 0 dX13_isHost_0 rfl rfl ?_
  refine g_getR fdX13_29 dX13_isHost_1 ?_
  refine g_iload_n 1 1 dX13_isHost_4 rfl rfl ?_
  refine g_callV (fc := fun sς => Row_at sς (gR σ x0 5) x1) (ci := 3) (as := [iv x1]) rfl rfl rfl q1409 q1410 mdX13_111 (ctX3_at (gR σ x0 5) x1) rfl (Nat.le_of_ble_eq_true rfl) (Nat.le_of_ble_eq_true rfl) (Nat.le_of_ble_eq_true rfl) pu_I dX13_isHost_5 (fun r2 σ1 => ?_)
  refine g_if_ge 15 dX13_isHost_8 (by decide) ?_ ?_
  · refine g_iconst (v := 0) dX13_isHost_15 (by decide) ?_
    exact g_zreturn rfl (by decide +kernel) dX13_isHost_16
  · refine g_iconst (v := 1) dX13_isHost_11 (by decide) ?_
    refine g_goto 16 dX13_isHost_12 (by decide) ?_
    exact g_zreturn rfl (by decide +kernel) dX13_isHost_16
theorem V.dX13_is_0 : decode cX13_is 0 = .ok (.aload_n 0, 1) := by decide +kernel
theorem V.dX13_is_1 : decode cX13_is 1 = .ok (.iload_n 1, 1) := by decide +kernel
theorem V.dX13_is_2 : decode cX13_is 2 = .ok (.iload_n 2, 1) := by decide +kernel
theorem V.dX13_is_3 : decode cX13_is 3 = .ok (.invokevirtual 164, 3) := by decide +kernel
theorem V.dX13_is_6 : decode cX13_is 6 = .ok (.ifCond .eq 17, 3) := by decide +kernel
theorem V.dX13_is_9 : decode cX13_is 9 = .ok (.aload_n 0, 1) := by decide +kernel
theorem V.dX13_is_10 : decode cX13_is 10 = .ok (.iload_n 1, 1) := by decide +kernel
theorem V.dX13_is_11 : decode cX13_is 11 = .ok (.iload_n 2, 1) := by decide +kernel
theorem V.dX13_is_12 : decode cX13_is 12 = .ok (.invokevirtual 161, 3) := by decide +kernel
theorem V.dX13_is_15 : decode cX13_is 15 = .ok (.iload_n 3, 1) := by decide +kernel
theorem V.dX13_is_16 : decode cX13_is 16 = .ok (.if_icmp .ne 7, 3) := by decide +kernel
theorem V.dX13_is_19 : decode cX13_is 19 = .ok (.iconst 1, 1) := by decide +kernel
theorem V.dX13_is_20 : decode cX13_is 20 = .ok (.goto 4, 3) := by decide +kernel
theorem V.dX13_is_23 : decode cX13_is 23 = .ok (.iconst 0, 1) := by decide +kernel
theorem V.dX13_is_24 : decode cX13_is 24 = .ok (.ireturn, 1) := by decide +kernel
/-! ModuleEngine$Store.is(III)Z -/
def V.Sto_is (σ : HS) (x0 : Nat) (x1 : Int32) (x2 : Int32) (x3 : Int32) : Option (Int32 × HS) :=
  ck (tg σ x0 = 14) <| cl (Sto_isExport σ x0 x1 x2) fun r2 σ1 =>
  if r2 = 0 then (
    some ((0 : Int32), σ1))
  else (
    ck (tg σ1 x0 = 14) <| cl (Sto_exportKind σ1 x0 x1 x2) fun r4 σ3 =>
    if r4 = x3 then (
      some ((1 : Int32), σ3))
    else (
      some ((0 : Int32), σ3)))
theorem V.ctX13_is (x0 : Nat) (x1 : Int32) (x2 : Int32) (x3 : Int32) : Ct yX13_is  cX13_is 4 (some .boolean) 3 63 eI [av x0, iv x1, iv x2, iv x3] (fun σ => Sto_is σ x0 x1 x2 x3) := by
  refine Ct.of (own := RX13) (nm := "is") (desc := "(III)Z") rfl (by decide) (Nat.le_of_ble_eq_true rfl) (by decide) (fun X σ => ?_)
  show G X RX13 "is" cX13_is 4 (some .boolean) 3 63 enI 0 [(0, av x0), (1, iv x1), (2, iv x2), (3, iv x3)] [] σ (Sto_is σ x0 x1 x2 x3)
  unfold Sto_is
  refine g_aload_n 0 0 dX13_is_0 rfl rfl ?_
  refine g_iload_n 1 1 dX13_is_1 rfl rfl ?_
  refine g_iload_n 2 2 dX13_is_2 rfl rfl ?_
  refine g_callV (fc := fun sς => Sto_isExport sς x0 x1 x2) (ci := 13) (as := [iv x1, iv x2]) rfl rfl rfl q2159 q2160 mdX13_164 (ctX13_isExport x0 x1 x2) rfl (Nat.le_of_ble_eq_true rfl) (Nat.le_of_ble_eq_true rfl) (Nat.le_of_ble_eq_true rfl) pu_I dX13_is_3 (fun r2 σ1 => ?_)
  refine g_if_eq 23 dX13_is_6 (by decide) ?_ ?_
  · refine g_iconst (v := 0) dX13_is_23 (by decide) ?_
    exact g_zreturn rfl (by decide +kernel) dX13_is_24
  · refine g_aload_n 0 0 dX13_is_9 rfl rfl ?_
    refine g_iload_n 1 1 dX13_is_10 rfl rfl ?_
    refine g_iload_n 2 2 dX13_is_11 rfl rfl ?_
    refine g_callV (fc := fun sς => Sto_exportKind sς x0 x1 x2) (ci := 13) (as := [iv x1, iv x2]) rfl rfl rfl q2172 q2173 mdX13_161 (ctX13_exportKind x0 x1 x2) rfl (Nat.le_of_ble_eq_true rfl) (Nat.le_of_ble_eq_true rfl) (Nat.le_of_ble_eq_true rfl) pu_I dX13_is_12 (fun r4 σ3 => ?_)
    refine g_iload_n 3 3 dX13_is_15 rfl rfl ?_
    refine g_icmp_ne 23 dX13_is_16 (by decide) ?_ ?_
    · refine g_iconst (v := 0) dX13_is_23 (by decide) ?_
      exact g_zreturn rfl (by decide +kernel) dX13_is_24
    · refine g_iconst (v := 1) dX13_is_19 (by decide) ?_
      refine g_goto 24 dX13_is_20 (by decide) ?_
      exact g_zreturn rfl (by decide +kernel) dX13_is_24
theorem V.dX13_resultsOf_0 : decode cX13_resultsOf 0 = .ok (.aload_n 0, 1) := by decide +kernel
theorem V.dX13_resultsOf_1 : decode cX13_resultsOf 1 = .ok (.iload_n 1, 1) := by decide +kernel
theorem V.dX13_resultsOf_2 : decode cX13_resultsOf 2 = .ok (.invokevirtual 119, 3) := by decide +kernel
theorem V.dX13_resultsOf_5 : decode cX13_resultsOf 5 = .ok (.aload_n 0, 1) := by decide +kernel
theorem V.dX13_resultsOf_6 : decode cX13_resultsOf 6 = .ok (.getfield 26, 3) := by decide +kernel
theorem V.dX13_resultsOf_9 : decode cX13_resultsOf 9 = .ok (.iload_n 1, 1) := by decide +kernel
theorem V.dX13_resultsOf_10 : decode cX13_resultsOf 10 = .ok (.invokevirtual 111, 3) := by decide +kernel
theorem V.dX13_resultsOf_13 : decode cX13_resultsOf 13 = .ok (.invokevirtual 126, 3) := by decide +kernel
theorem V.dX13_resultsOf_16 : decode cX13_resultsOf 16 = .ok (.ireturn, 1) := by decide +kernel
/-! ModuleEngine$Store.resultsOf(I)I -/
def V.Sto_resultsOf (σ : HS) (x0 : Nat) (x1 : Int32) : Option (Int32 × HS) :=
  ck (tg σ x0 = 14) <| cl (Sto_moduleOf σ x0 x1) fun r2 σ1 =>
  ck (tg σ1 x0 = 14) <|
  ck (tg σ1 (gR σ1 x0 4) = 4) <| cl (Row_at σ1 (gR σ1 x0 4) x1) fun r4 σ3 =>
  ck (tg σ3 r2 = 3) <| cl (Mod_results σ3 r2 r4) fun r6 σ5 =>
  some (r6, σ5)
theorem V.ctX13_resultsOf (x0 : Nat) (x1 : Int32) : Ct yX13_resultsOf  cX13_resultsOf 2 (some .int) 3 63 eI [av x0, iv x1] (fun σ => Sto_resultsOf σ x0 x1) := by
  refine Ct.of (own := RX13) (nm := "resultsOf") (desc := "(I)I") rfl (by decide) (Nat.le_of_ble_eq_true rfl) (by decide) (fun X σ => ?_)
  show G X RX13 "resultsOf" cX13_resultsOf 2 (some .int) 3 63 enI 0 [(0, av x0), (1, iv x1)] [] σ (Sto_resultsOf σ x0 x1)
  unfold Sto_resultsOf
  refine g_aload_n 0 0 dX13_resultsOf_0 rfl rfl ?_
  refine g_iload_n 1 1 dX13_resultsOf_1 rfl rfl ?_
  refine g_callV (fc := fun sς => Sto_moduleOf sς x0 x1) (ci := 13) (as := [iv x1]) rfl rfl rfl q2201 q2202 mdX13_119 (ctX13_moduleOf x0 x1) rfl (Nat.le_of_ble_eq_true rfl) (Nat.le_of_ble_eq_true rfl) (Nat.le_of_ble_eq_true rfl) pu_R dX13_resultsOf_2 (fun r2 σ1 => ?_)
  refine g_aload_n 0 0 dX13_resultsOf_5 rfl rfl ?_
  refine g_getR fdX13_26 dX13_resultsOf_6 ?_
  refine g_iload_n 1 1 dX13_resultsOf_9 rfl rfl ?_
  refine g_callV (fc := fun sς => Row_at sς (gR σ1 x0 4) x1) (ci := 3) (as := [iv x1]) rfl rfl rfl q1409 q1410 mdX13_111 (ctX3_at (gR σ1 x0 4) x1) rfl (Nat.le_of_ble_eq_true rfl) (Nat.le_of_ble_eq_true rfl) (Nat.le_of_ble_eq_true rfl) pu_I dX13_resultsOf_10 (fun r4 σ3 => ?_)
  refine g_callV (fc := fun sς => Mod_results sς r2 r4) (ci := 2) (as := [iv r4]) rfl rfl rfl q1563 q1564 mdX13_126 (ctX2_results r2 r4) rfl (Nat.le_of_ble_eq_true rfl) (Nat.le_of_ble_eq_true rfl) (Nat.le_of_ble_eq_true rfl) pu_I dX13_resultsOf_13 (fun r6 σ5 => ?_)
  exact g_ireturn rfl dX13_resultsOf_16
theorem V.dX13_resultOf_0 : decode cX13_resultOf 0 = .ok (.aload_n 0, 1) := by decide +kernel
theorem V.dX13_resultOf_1 : decode cX13_resultOf 1 = .ok (.iload_n 1, 1) := by decide +kernel
theorem V.dX13_resultOf_2 : decode cX13_resultOf 2 = .ok (.invokevirtual 119, 3) := by decide +kernel
theorem V.dX13_resultOf_5 : decode cX13_resultOf 5 = .ok (.aload_n 0, 1) := by decide +kernel
theorem V.dX13_resultOf_6 : decode cX13_resultOf 6 = .ok (.getfield 26, 3) := by decide +kernel
theorem V.dX13_resultOf_9 : decode cX13_resultOf 9 = .ok (.iload_n 1, 1) := by decide +kernel
theorem V.dX13_resultOf_10 : decode cX13_resultOf 10 = .ok (.invokevirtual 111, 3) := by decide +kernel
theorem V.dX13_resultOf_13 : decode cX13_resultOf 13 = .ok (.iload_n 2, 1) := by decide +kernel
theorem V.dX13_resultOf_14 : decode cX13_resultOf 14 = .ok (.invokevirtual 133, 3) := by decide +kernel
theorem V.dX13_resultOf_17 : decode cX13_resultOf 17 = .ok (.ireturn, 1) := by decide +kernel
/-! ModuleEngine$Store.resultOf(II)I -/
def V.Sto_resultOf (σ : HS) (x0 : Nat) (x1 : Int32) (x2 : Int32) : Option (Int32 × HS) :=
  ck (tg σ x0 = 14) <| cl (Sto_moduleOf σ x0 x1) fun r2 σ1 =>
  ck (tg σ1 x0 = 14) <|
  ck (tg σ1 (gR σ1 x0 4) = 4) <| cl (Row_at σ1 (gR σ1 x0 4) x1) fun r4 σ3 =>
  ck (tg σ3 r2 = 3) <| cl (Mod_result σ3 r2 r4 x2) fun r6 σ5 =>
  some (r6, σ5)
theorem V.ctX13_resultOf (x0 : Nat) (x1 : Int32) (x2 : Int32) : Ct yX13_resultOf  cX13_resultOf 3 (some .int) 3 64 eI [av x0, iv x1, iv x2] (fun σ => Sto_resultOf σ x0 x1 x2) := by
  refine Ct.of (own := RX13) (nm := "resultOf") (desc := "(II)I") rfl (by decide) (Nat.le_of_ble_eq_true rfl) (by decide) (fun X σ => ?_)
  show G X RX13 "resultOf" cX13_resultOf 3 (some .int) 3 64 enI 0 [(0, av x0), (1, iv x1), (2, iv x2)] [] σ (Sto_resultOf σ x0 x1 x2)
  unfold Sto_resultOf
  refine g_aload_n 0 0 dX13_resultOf_0 rfl rfl ?_
  refine g_iload_n 1 1 dX13_resultOf_1 rfl rfl ?_
  refine g_callV (fc := fun sς => Sto_moduleOf sς x0 x1) (ci := 13) (as := [iv x1]) rfl rfl rfl q2201 q2202 mdX13_119 (ctX13_moduleOf x0 x1) rfl (Nat.le_of_ble_eq_true rfl) (Nat.le_of_ble_eq_true rfl) (Nat.le_of_ble_eq_true rfl) pu_R dX13_resultOf_2 (fun r2 σ1 => ?_)
  refine g_aload_n 0 0 dX13_resultOf_5 rfl rfl ?_
  refine g_getR fdX13_26 dX13_resultOf_6 ?_
  refine g_iload_n 1 1 dX13_resultOf_9 rfl rfl ?_
  refine g_callV (fc := fun sς => Row_at sς (gR σ1 x0 4) x1) (ci := 3) (as := [iv x1]) rfl rfl rfl q1409 q1410 mdX13_111 (ctX3_at (gR σ1 x0 4) x1) rfl (Nat.le_of_ble_eq_true rfl) (Nat.le_of_ble_eq_true rfl) (Nat.le_of_ble_eq_true rfl) pu_I dX13_resultOf_10 (fun r4 σ3 => ?_)
  refine g_iload_n 2 2 dX13_resultOf_13 rfl rfl ?_
  refine g_callV (fc := fun sς => Mod_result sς r2 r4 x2) (ci := 2) (as := [iv r4, iv x2]) rfl rfl rfl q1899 q1900 mdX13_133 (ctX2_result r2 r4 x2) rfl (Nat.le_of_ble_eq_true rfl) (Nat.le_of_ble_eq_true rfl) (Nat.le_of_ble_eq_true rfl) pu_I dX13_resultOf_14 (fun r6 σ5 => ?_)
  exact g_ireturn rfl dX13_resultOf_17
theorem V.dX13_parameterOf_0 : decode cX13_parameterOf 0 = .ok (.aload_n 0, 1) := by decide +kernel
theorem V.dX13_parameterOf_1 : decode cX13_parameterOf 1 = .ok (.iload_n 1, 1) := by decide +kernel
theorem V.dX13_parameterOf_2 : decode cX13_parameterOf 2 = .ok (.invokevirtual 119, 3) := by decide +kernel
theorem V.dX13_parameterOf_5 : decode cX13_parameterOf 5 = .ok (.aload_n 0, 1) := by decide +kernel
theorem V.dX13_parameterOf_6 : decode cX13_parameterOf 6 = .ok (.getfield 26, 3) := by decide +kernel
theorem V.dX13_parameterOf_9 : decode cX13_parameterOf 9 = .ok (.iload_n 1, 1) := by decide +kernel
theorem V.dX13_parameterOf_10 : decode cX13_parameterOf 10 = .ok (.invokevirtual 111, 3) := by decide +kernel
theorem V.dX13_parameterOf_13 : decode cX13_parameterOf 13 = .ok (.iload_n 2, 1) := by decide +kernel
theorem V.dX13_parameterOf_14 : decode cX13_parameterOf 14 = .ok (.invokevirtual 129, 3) := by decide +kernel
theorem V.dX13_parameterOf_17 : decode cX13_parameterOf 17 = .ok (.ireturn, 1) := by decide +kernel
/-! ModuleEngine$Store.parameterOf(II)I -/
def V.Sto_parameterOf (σ : HS) (x0 : Nat) (x1 : Int32) (x2 : Int32) : Option (Int32 × HS) :=
  ck (tg σ x0 = 14) <| cl (Sto_moduleOf σ x0 x1) fun r2 σ1 =>
  ck (tg σ1 x0 = 14) <|
  ck (tg σ1 (gR σ1 x0 4) = 4) <| cl (Row_at σ1 (gR σ1 x0 4) x1) fun r4 σ3 =>
  ck (tg σ3 r2 = 3) <| cl (Mod_parameter σ3 r2 r4 x2) fun r6 σ5 =>
  some (r6, σ5)
theorem V.ctX13_parameterOf (x0 : Nat) (x1 : Int32) (x2 : Int32) : Ct yX13_parameterOf  cX13_parameterOf 3 (some .int) 2 43 eI [av x0, iv x1, iv x2] (fun σ => Sto_parameterOf σ x0 x1 x2) := by
  refine Ct.of (own := RX13) (nm := "parameterOf") (desc := "(II)I") rfl (by decide) (Nat.le_of_ble_eq_true rfl) (by decide) (fun X σ => ?_)
  show G X RX13 "parameterOf" cX13_parameterOf 3 (some .int) 2 43 enI 0 [(0, av x0), (1, iv x1), (2, iv x2)] [] σ (Sto_parameterOf σ x0 x1 x2)
  unfold Sto_parameterOf
  refine g_aload_n 0 0 dX13_parameterOf_0 rfl rfl ?_
  refine g_iload_n 1 1 dX13_parameterOf_1 rfl rfl ?_
  refine g_callV (fc := fun sς => Sto_moduleOf sς x0 x1) (ci := 13) (as := [iv x1]) rfl rfl rfl q2201 q2202 mdX13_119 (ctX13_moduleOf x0 x1) rfl (Nat.le_of_ble_eq_true rfl) (Nat.le_of_ble_eq_true rfl) (Nat.le_of_ble_eq_true rfl) pu_R dX13_parameterOf_2 (fun r2 σ1 => ?_)
  refine g_aload_n 0 0 dX13_parameterOf_5 rfl rfl ?_
  refine g_getR fdX13_26 dX13_parameterOf_6 ?_
  refine g_iload_n 1 1 dX13_parameterOf_9 rfl rfl ?_
  refine g_callV (fc := fun sς => Row_at sς (gR σ1 x0 4) x1) (ci := 3) (as := [iv x1]) rfl rfl rfl q1409 q1410 mdX13_111 (ctX3_at (gR σ1 x0 4) x1) rfl (Nat.le_of_ble_eq_true rfl) (Nat.le_of_ble_eq_true rfl) (Nat.le_of_ble_eq_true rfl) pu_I dX13_parameterOf_10 (fun r4 σ3 => ?_)
  refine g_iload_n 2 2 dX13_parameterOf_13 rfl rfl ?_
  refine g_callV (fc := fun sς => Mod_parameter sς r2 r4 x2) (ci := 2) (as := [iv r4, iv x2]) rfl rfl rfl q1776 q1777 mdX13_129 (ctX2_parameter r2 r4 x2) rfl (Nat.le_of_ble_eq_true rfl) (Nat.le_of_ble_eq_true rfl) (Nat.le_of_ble_eq_true rfl) pu_I dX13_parameterOf_14 (fun r6 σ5 => ?_)
  exact g_ireturn rfl dX13_parameterOf_17
theorem V.dX11_init_0 : decode cX11_init 0 = .ok (.aload_n 0, 1) := by decide +kernel
theorem V.dX11_init_1 : decode cX11_init 1 = .ok (.invokespecial 1, 3) := by decide +kernel
theorem V.dX11_init_4 : decode cX11_init 4 = .ok (.aload_n 0, 1) := by decide +kernel
theorem V.dX11_init_5 : decode cX11_init 5 = .ok (.new 7, 3) := by decide +kernel
theorem V.dX11_init_8 : decode cX11_init 8 = .ok (.dup, 1) := by decide +kernel
theorem V.dX11_init_9 : decode cX11_init 9 = .ok (.invokespecial 9, 3) := by decide +kernel
theorem V.dX11_init_12 : decode cX11_init 12 = .ok (.putfield 10, 3) := by decide +kernel
theorem V.dX11_init_15 : decode cX11_init 15 = .ok (.aload_n 0, 1) := by decide +kernel
theorem V.dX11_init_16 : decode cX11_init 16 = .ok (.new 7, 3) := by decide +kernel
theorem V.dX11_init_19 : decode cX11_init 19 = .ok (.dup, 1) := by decide +kernel
theorem V.dX11_init_20 : decode cX11_init 20 = .ok (.invokespecial 9, 3) := by decide +kernel
theorem V.dX11_init_23 : decode cX11_init 23 = .ok (.putfield 16, 3) := by decide +kernel
theorem V.dX11_init_26 : decode cX11_init 26 = .ok (.aload_n 0, 1) := by decide +kernel
theorem V.dX11_init_27 : decode cX11_init 27 = .ok (.new 7, 3) := by decide +kernel
theorem V.dX11_init_30 : decode cX11_init 30 = .ok (.dup, 1) := by decide +kernel
theorem V.dX11_init_31 : decode cX11_init 31 = .ok (.invokespecial 9, 3) := by decide +kernel
theorem V.dX11_init_34 : decode cX11_init 34 = .ok (.putfield 19, 3) := by decide +kernel
theorem V.dX11_init_37 : decode cX11_init 37 = .ok (.aload_n 0, 1) := by decide +kernel
theorem V.dX11_init_38 : decode cX11_init 38 = .ok (.new 7, 3) := by decide +kernel
theorem V.dX11_init_41 : decode cX11_init 41 = .ok (.dup, 1) := by decide +kernel
theorem V.dX11_init_42 : decode cX11_init 42 = .ok (.invokespecial 9, 3) := by decide +kernel
theorem V.dX11_init_45 : decode cX11_init 45 = .ok (.putfield 22, 3) := by decide +kernel
theorem V.dX11_init_48 : decode cX11_init 48 = .ok (.aload_n 0, 1) := by decide +kernel
theorem V.dX11_init_49 : decode cX11_init 49 = .ok (.new 7, 3) := by decide +kernel
theorem V.dX11_init_52 : decode cX11_init 52 = .ok (.dup, 1) := by decide +kernel
theorem V.dX11_init_53 : decode cX11_init 53 = .ok (.invokespecial 9, 3) := by decide +kernel
theorem V.dX11_init_56 : decode cX11_init 56 = .ok (.putfield 25, 3) := by decide +kernel
theorem V.dX11_init_59 : decode cX11_init 59 = .ok (.aload_n 0, 1) := by decide +kernel
theorem V.dX11_init_60 : decode cX11_init 60 = .ok (.new 7, 3) := by decide +kernel
theorem V.dX11_init_63 : decode cX11_init 63 = .ok (.dup, 1) := by decide +kernel
theorem V.dX11_init_64 : decode cX11_init 64 = .ok (.invokespecial 9, 3) := by decide +kernel
theorem V.dX11_init_67 : decode cX11_init 67 = .ok (.putfield 28, 3) := by decide +kernel
theorem V.dX11_init_70 : decode cX11_init 70 = .ok (.aload_n 0, 1) := by decide +kernel
theorem V.dX11_init_71 : decode cX11_init 71 = .ok (.new 7, 3) := by decide +kernel
theorem V.dX11_init_74 : decode cX11_init 74 = .ok (.dup, 1) := by decide +kernel
theorem V.dX11_init_75 : decode cX11_init 75 = .ok (.invokespecial 9, 3) := by decide +kernel
theorem V.dX11_init_78 : decode cX11_init 78 = .ok (.putfield 31, 3) := by decide +kernel
theorem V.dX11_init_81 : decode cX11_init 81 = .ok (.aload_n 0, 1) := by decide +kernel
theorem V.dX11_init_82 : decode cX11_init 82 = .ok (.new 7, 3) := by decide +kernel
theorem V.dX11_init_85 : decode cX11_init 85 = .ok (.dup, 1) := by decide +kernel
theorem V.dX11_init_86 : decode cX11_init 86 = .ok (.invokespecial 9, 3) := by decide +kernel
theorem V.dX11_init_89 : decode cX11_init 89 = .ok (.putfield 34, 3) := by decide +kernel
theorem V.dX11_init_92 : decode cX11_init 92 = .ok (.aload_n 0, 1) := by decide +kernel
theorem V.dX11_init_93 : decode cX11_init 93 = .ok (.new 7, 3) := by decide +kernel
theorem V.dX11_init_96 : decode cX11_init 96 = .ok (.dup, 1) := by decide +kernel
theorem V.dX11_init_97 : decode cX11_init 97 = .ok (.invokespecial 9, 3) := by decide +kernel
theorem V.dX11_init_100 : decode cX11_init 100 = .ok (.putfield 37, 3) := by decide +kernel
theorem V.dX11_init_103 : decode cX11_init 103 = .ok (.aload_n 0, 1) := by decide +kernel
theorem V.dX11_init_104 : decode cX11_init 104 = .ok (.aload_n 1, 1) := by decide +kernel
theorem V.dX11_init_105 : decode cX11_init 105 = .ok (.putfield 40, 3) := by decide +kernel
theorem V.dX11_init_108 : decode cX11_init 108 = .ok (.aload_n 0, 1) := by decide +kernel
theorem V.dX11_init_109 : decode cX11_init 109 = .ok (.aload_n 2, 1) := by decide +kernel
theorem V.dX11_init_110 : decode cX11_init 110 = .ok (.putfield 44, 3) := by decide +kernel
theorem V.dX11_init_113 : decode cX11_init 113 = .ok (.aload_n 0, 1) := by decide +kernel
theorem V.dX11_init_114 : decode cX11_init 114 = .ok (.iload_n 3, 1) := by decide +kernel
theorem V.dX11_init_115 : decode cX11_init 115 = .ok (.putfield 48, 3) := by decide +kernel
theorem V.dX11_init_118 : decode cX11_init 118 = .ok (.aload_n 0, 1) := by decide +kernel
theorem V.dX11_init_119 : decode cX11_init 119 = .ok (.iload 4, 2) := by decide +kernel
theorem V.dX11_init_121 : decode cX11_init 121 = .ok (.putfield 52, 3) := by decide +kernel
theorem V.dX11_init_124 : decode cX11_init 124 = .ok (.return_, 1) := by decide +kernel
theorem V.ndX11_7 : ND RX11 7 3 2 := ⟨(RX3, TX3, 2), tyX3, rfl, rfl, in_X3, tyX3_ok, by decide, q816, q409, q363⟩
theorem V.mdX11_9 : MD RX11 9 yX3_init cX3_init 1 none 0 := ⟨Or.inr ⟨_, q817⟩, q363, q412, by decide, by decide, by decide +kernel⟩
theorem V.fpX11_10 : FP RX11 "<init>" 10 11 4 (.object "ModuleEngine$Row") := ⟨(RX11, TX11, 17), tyX11, rfl, rfl, in_X11, by decide, tyX11_ok, nmX11, rfl, Or.inr ⟨rfl, rfl, rfl, q822⟩⟩
theorem V.fpX11_16 : FP RX11 "<init>" 16 11 5 (.object "ModuleEngine$Row") := ⟨(RX11, TX11, 17), tyX11, rfl, rfl, in_X11, by decide, tyX11_ok, nmX11, rfl, Or.inr ⟨rfl, rfl, rfl, q823⟩⟩
theorem V.fpX11_19 : FP RX11 "<init>" 19 11 6 (.object "ModuleEngine$Row") := ⟨(RX11, TX11, 17), tyX11, rfl, rfl, in_X11, by decide, tyX11_ok, nmX11, rfl, Or.inr ⟨rfl, rfl, rfl, q824⟩⟩
theorem V.fpX11_22 : FP RX11 "<init>" 22 11 7 (.object "ModuleEngine$Row") := ⟨(RX11, TX11, 17), tyX11, rfl, rfl, in_X11, by decide, tyX11_ok, nmX11, rfl, Or.inr ⟨rfl, rfl, rfl, q825⟩⟩
theorem V.fpX11_25 : FP RX11 "<init>" 25 11 8 (.object "ModuleEngine$Row") := ⟨(RX11, TX11, 17), tyX11, rfl, rfl, in_X11, by decide, tyX11_ok, nmX11, rfl, Or.inr ⟨rfl, rfl, rfl, q826⟩⟩
theorem V.fpX11_28 : FP RX11 "<init>" 28 11 9 (.object "ModuleEngine$Row") := ⟨(RX11, TX11, 17), tyX11, rfl, rfl, in_X11, by decide, tyX11_ok, nmX11, rfl, Or.inr ⟨rfl, rfl, rfl, q827⟩⟩
theorem V.fpX11_31 : FP RX11 "<init>" 31 11 10 (.object "ModuleEngine$Row") := ⟨(RX11, TX11, 17), tyX11, rfl, rfl, in_X11, by decide, tyX11_ok, nmX11, rfl, Or.inr ⟨rfl, rfl, rfl, q828⟩⟩
theorem V.fpX11_34 : FP RX11 "<init>" 34 11 11 (.object "ModuleEngine$Row") := ⟨(RX11, TX11, 17), tyX11, rfl, rfl, in_X11, by decide, tyX11_ok, nmX11, rfl, Or.inr ⟨rfl, rfl, rfl, q829⟩⟩
theorem V.fpX11_37 : FP RX11 "<init>" 37 11 12 (.object "ModuleEngine$Row") := ⟨(RX11, TX11, 17), tyX11, rfl, rfl, in_X11, by decide, tyX11_ok, nmX11, rfl, Or.inr ⟨rfl, rfl, rfl, q831⟩⟩
theorem V.fpX11_40 : FP RX11 "<init>" 40 11 0 (.object "ModuleEngine$Types") := ⟨(RX11, TX11, 17), tyX11, rfl, rfl, in_X11, by decide, tyX11_ok, nmX11, rfl, Or.inr ⟨rfl, rfl, rfl, q818⟩⟩
theorem V.fpX11_44 : FP RX11 "<init>" 44 11 1 (.object "ModuleEngine$Spaces") := ⟨(RX11, TX11, 17), tyX11, rfl, rfl, in_X11, by decide, tyX11_ok, nmX11, rfl, Or.inr ⟨rfl, rfl, rfl, q819⟩⟩
theorem V.fpX11_48 : FP RX11 "<init>" 48 11 2 (.int) := ⟨(RX11, TX11, 17), tyX11, rfl, rfl, in_X11, by decide, tyX11_ok, nmX11, rfl, Or.inr ⟨rfl, rfl, rfl, q820⟩⟩
theorem V.fpX11_52 : FP RX11 "<init>" 52 11 3 (.int) := ⟨(RX11, TX11, 17), tyX11, rfl, rfl, in_X11, by decide, tyX11_ok, nmX11, rfl, Or.inr ⟨rfl, rfl, rfl, q821⟩⟩
/-! ModuleEngine$Checker.<init>(LModuleEngine$Types;LModuleEngine$Spaces;II)V -/
def V.Chk_init (σ : HS) (x0 : Nat) (x1 : Nat) (x2 : Nat) (x3 : Int32) (x4 : Int32) : Option (Unit × HS) :=
  ck (¬ x0 = 0) <|
  newr σ fun a1 σ2 =>
  ck (tg σ2 x0 = 12) <| bn (sR σ2 x0 4 a1) fun σ3 =>
  newr σ3 fun a4 σ5 =>
  ck (tg σ5 x0 = 12) <| bn (sR σ5 x0 5 a4) fun σ6 =>
  newr σ6 fun a7 σ8 =>
  ck (tg σ8 x0 = 12) <| bn (sR σ8 x0 6 a7) fun σ9 =>
  newr σ9 fun a10 σ11 =>
  ck (tg σ11 x0 = 12) <| bn (sR σ11 x0 7 a10) fun σ12 =>
  newr σ12 fun a13 σ14 =>
  ck (tg σ14 x0 = 12) <| bn (sR σ14 x0 8 a13) fun σ15 =>
  newr σ15 fun a16 σ17 =>
  ck (tg σ17 x0 = 12) <| bn (sR σ17 x0 9 a16) fun σ18 =>
  newr σ18 fun a19 σ20 =>
  ck (tg σ20 x0 = 12) <| bn (sR σ20 x0 10 a19) fun σ21 =>
  newr σ21 fun a22 σ23 =>
  ck (tg σ23 x0 = 12) <| bn (sR σ23 x0 11 a22) fun σ24 =>
  newr σ24 fun a25 σ26 =>
  ck (tg σ26 x0 = 12) <| bn (sR σ26 x0 12 a25) fun σ27 =>
  ck (tg σ27 x0 = 12) <| bn (sR σ27 x0 0 x1) fun σ28 =>
  ck (tg σ28 x0 = 12) <| bn (sR σ28 x0 1 x2) fun σ29 =>
  ck (tg σ29 x0 = 12) <| bn (sI σ29 x0 2 x3) fun σ30 =>
  ck (tg σ30 x0 = 12) <| bn (sI σ30 x0 3 x4) fun σ31 =>
  some ((), σ31)
theorem V.ctX11_init (x0 : Nat) (x1 : Nat) (x2 : Nat) (x3 : Int32) (x4 : Int32) : Ct yX11_init  cX11_init 5 none 2 44 eV [av x0, av x1, av x2, iv x3, iv x4] (fun σ => Chk_init σ x0 x1 x2 x3 x4) := by
  refine Ct.of (own := RX11) (nm := "<init>") (desc := "(LModuleEngine$Types;LModuleEngine$Spaces;II)V") rfl (by decide) (Nat.le_of_ble_eq_true rfl) (by decide) (fun X σ => ?_)
  show G X RX11 "<init>" cX11_init 5 none 2 44 enV 0 [(0, av x0), (1, av x1), (2, av x2), (3, iv x3), (4, iv x4)] [] σ (Chk_init σ x0 x1 x2 x3 x4)
  unfold Chk_init
  refine g_aload_n 0 0 dX11_init_0 rfl rfl ?_
  refine g_objInit q815 (Nat.le_of_ble_eq_true rfl) (Nat.le_of_ble_eq_true rfl) dX11_init_1 ?_
  refine g_aload_n 0 0 dX11_init_4 rfl rfl ?_
  refine g_newr ndX11_7 q411 mdX11_9 (Nat.le_of_ble_eq_true rfl) (Nat.le_of_ble_eq_true rfl) (Nat.le_of_ble_eq_true rfl) dX11_init_5 dX11_init_8 dX11_init_9 (fun a1 σ2 => ?_)
  refine g_putR fpX11_10 rfl dX11_init_12 (fun σ3 => ?_)
  refine g_aload_n 0 0 dX11_init_15 rfl rfl ?_
  refine g_newr ndX11_7 q411 mdX11_9 (Nat.le_of_ble_eq_true rfl) (Nat.le_of_ble_eq_true rfl) (Nat.le_of_ble_eq_true rfl) dX11_init_16 dX11_init_19 dX11_init_20 (fun a4 σ5 => ?_)
  refine g_putR fpX11_16 rfl dX11_init_23 (fun σ6 => ?_)
  refine g_aload_n 0 0 dX11_init_26 rfl rfl ?_
  refine g_newr ndX11_7 q411 mdX11_9 (Nat.le_of_ble_eq_true rfl) (Nat.le_of_ble_eq_true rfl) (Nat.le_of_ble_eq_true rfl) dX11_init_27 dX11_init_30 dX11_init_31 (fun a7 σ8 => ?_)
  refine g_putR fpX11_19 rfl dX11_init_34 (fun σ9 => ?_)
  refine g_aload_n 0 0 dX11_init_37 rfl rfl ?_
  refine g_newr ndX11_7 q411 mdX11_9 (Nat.le_of_ble_eq_true rfl) (Nat.le_of_ble_eq_true rfl) (Nat.le_of_ble_eq_true rfl) dX11_init_38 dX11_init_41 dX11_init_42 (fun a10 σ11 => ?_)
  refine g_putR fpX11_22 rfl dX11_init_45 (fun σ12 => ?_)
  refine g_aload_n 0 0 dX11_init_48 rfl rfl ?_
  refine g_newr ndX11_7 q411 mdX11_9 (Nat.le_of_ble_eq_true rfl) (Nat.le_of_ble_eq_true rfl) (Nat.le_of_ble_eq_true rfl) dX11_init_49 dX11_init_52 dX11_init_53 (fun a13 σ14 => ?_)
  refine g_putR fpX11_25 rfl dX11_init_56 (fun σ15 => ?_)
  refine g_aload_n 0 0 dX11_init_59 rfl rfl ?_
  refine g_newr ndX11_7 q411 mdX11_9 (Nat.le_of_ble_eq_true rfl) (Nat.le_of_ble_eq_true rfl) (Nat.le_of_ble_eq_true rfl) dX11_init_60 dX11_init_63 dX11_init_64 (fun a16 σ17 => ?_)
  refine g_putR fpX11_28 rfl dX11_init_67 (fun σ18 => ?_)
  refine g_aload_n 0 0 dX11_init_70 rfl rfl ?_
  refine g_newr ndX11_7 q411 mdX11_9 (Nat.le_of_ble_eq_true rfl) (Nat.le_of_ble_eq_true rfl) (Nat.le_of_ble_eq_true rfl) dX11_init_71 dX11_init_74 dX11_init_75 (fun a19 σ20 => ?_)
  refine g_putR fpX11_31 rfl dX11_init_78 (fun σ21 => ?_)
  refine g_aload_n 0 0 dX11_init_81 rfl rfl ?_
  refine g_newr ndX11_7 q411 mdX11_9 (Nat.le_of_ble_eq_true rfl) (Nat.le_of_ble_eq_true rfl) (Nat.le_of_ble_eq_true rfl) dX11_init_82 dX11_init_85 dX11_init_86 (fun a22 σ23 => ?_)
  refine g_putR fpX11_34 rfl dX11_init_89 (fun σ24 => ?_)
  refine g_aload_n 0 0 dX11_init_92 rfl rfl ?_
  refine g_newr ndX11_7 q411 mdX11_9 (Nat.le_of_ble_eq_true rfl) (Nat.le_of_ble_eq_true rfl) (Nat.le_of_ble_eq_true rfl) dX11_init_93 dX11_init_96 dX11_init_97 (fun a25 σ26 => ?_)
  refine g_putR fpX11_37 rfl dX11_init_100 (fun σ27 => ?_)
  refine g_aload_n 0 0 dX11_init_103 rfl rfl ?_
  refine g_aload_n 1 1 dX11_init_104 rfl rfl ?_
  refine g_putR fpX11_40 rfl dX11_init_105 (fun σ28 => ?_)
  refine g_aload_n 0 0 dX11_init_108 rfl rfl ?_
  refine g_aload_n 2 2 dX11_init_109 rfl rfl ?_
  refine g_putR fpX11_44 rfl dX11_init_110 (fun σ29 => ?_)
  refine g_aload_n 0 0 dX11_init_113 rfl rfl ?_
  refine g_iload_n 3 3 dX11_init_114 rfl rfl ?_
  refine g_putI fpX11_48 dX11_init_115 (fun σ30 => ?_)
  refine g_aload_n 0 0 dX11_init_118 rfl rfl ?_
  refine g_iload 4 dX11_init_119 rfl ?_
  refine g_putI fpX11_52 dX11_init_121 (fun σ31 => ?_)
  exact g_return rfl dX11_init_124
theorem V.dX11_stop_0 : decode cX11_stop 0 = .ok (.aload_n 0, 1) := by decide +kernel
theorem V.dX11_stop_1 : decode cX11_stop 1 = .ok (.iload_n 1, 1) := by decide +kernel
theorem V.dX11_stop_2 : decode cX11_stop 2 = .ok (.putfield 61, 3) := by decide +kernel
theorem V.dX11_stop_5 : decode cX11_stop 5 = .ok (.new 64, 3) := by decide +kernel
theorem V.dX11_stop_8 : decode cX11_stop 8 = .ok (.dup, 1) := by decide +kernel
theorem V.dX11_stop_9 : decode cX11_stop 9 = .ok (.invokespecial 66, 3) := by decide +kernel
theorem V.dX11_stop_12 : decode cX11_stop 12 = .ok (.athrow, 1) := by decide +kernel
theorem V.fpX11_61 {nm : String} : FP RX11 nm 61 11 16 (.int) := ⟨(RX11, TX11, 17), tyX11, rfl, rfl, in_X11, by decide, tyX11_ok, nmX11, rfl, Or.inl ⟨rfl, Or.inl q835⟩⟩
/-! ModuleEngine$Checker.stop(I)V -/
def V.Chk_stop (σ : HS) (x0 : Nat) (x1 : Int32) : Option ((Nat ⊕ Unit) × HS) :=
  ck (tg σ x0 = 12) <| bn (sI σ x0 16 x1) fun σ1 =>
  newo σ1 22 6 fun a2 σ3 =>
  ck (¬ a2 = 0) (some (.inl a2, σ3))
theorem V.ctX11_stop (x0 : Nat) (x1 : Int32) : Ct yX11_stop  cX11_stop 2 none 6 85 eXV [av x0, iv x1] (fun σ => Chk_stop σ x0 x1) := by
  refine Ct.of (own := RX11) (nm := "stop") (desc := "(I)V") rfl (by decide) (Nat.le_of_ble_eq_true rfl) (by decide) (fun X σ => ?_)
  show G X RX11 "stop" cX11_stop 2 none 6 85 (enX enV (cxz X)) 0 [(0, av x0), (1, iv x1)] [] σ (Chk_stop σ x0 x1)
  unfold Chk_stop
  refine g_aload_n 0 0 dX11_stop_0 rfl rfl ?_
  refine g_iload_n 1 1 dX11_stop_1 rfl rfl ?_
  refine g_putI fpX11_61 dX11_stop_2 (fun σ1 => ?_)
  refine g_newexc (ci := 21) rfl rfl (fun C => exA_IAE C) (by decide) q1752 q1297 q384 (Or.inl q1753) (Nat.le_of_ble_eq_true rfl) (Nat.le_of_ble_eq_true rfl) dX11_stop_5 dX11_stop_8 dX11_stop_9 (fun a2 σ3 => ?_)
  exact g_athrow (by decide) dX11_stop_12
theorem V.dX11_need_0 : decode cX11_need 0 = .ok (.iload_n 1, 1) := by decide +kernel
theorem V.dX11_need_1 : decode cX11_need 1 = .ok (.ifCond .ne 8, 3) := by decide +kernel
theorem V.dX11_need_4 : decode cX11_need 4 = .ok (.aload_n 0, 1) := by decide +kernel
theorem V.dX11_need_5 : decode cX11_need 5 = .ok (.iload_n 2, 1) := by decide +kernel
theorem V.dX11_need_6 : decode cX11_need 6 = .ok (.invokevirtual 67, 3) := by decide +kernel
theorem V.dX11_need_9 : decode cX11_need 9 = .ok (.return_, 1) := by decide +kernel
theorem V.mdX11_67 : MD RX11 67 yX11_stop cX11_stop 2 none 1 := ⟨Or.inl q1748, q371, q1751, by decide, by decide, by decide +kernel⟩
/-! ModuleEngine$Checker.need(ZI)V -/
def V.Chk_need (σ : HS) (x0 : Nat) (x1 : Int32) (x2 : Int32) : Option ((Nat ⊕ Unit) × HS) :=
  if x1 = 0 then (
    ck (tg σ x0 = 12) <| clT (Chk_stop σ x0 x2) fun _ σ1 =>
    some (.inr (), σ1))
  else (
    some (.inr (), σ))
theorem V.ctX11_need (x0 : Nat) (x1 : Int32) (x2 : Int32) : Ct yX11_need  cX11_need 3 none 7 106 eXV [av x0, iv x1, iv x2] (fun σ => Chk_need σ x0 x1 x2) := by
  refine Ct.of (own := RX11) (nm := "need") (desc := "(ZI)V") rfl (by decide) (Nat.le_of_ble_eq_true rfl) (by decide) (fun X σ => ?_)
  show G X RX11 "need" cX11_need 3 none 7 106 (enX enV (cxz X)) 0 [(0, av x0), (1, iv x1), (2, iv x2)] [] σ (Chk_need σ x0 x1 x2)
  unfold Chk_need
  refine g_iload_n 1 1 dX11_need_0 rfl rfl ?_
  refine g_if_ne 9 dX11_need_1 (by decide) ?_ ?_
  · exact g_return rfl dX11_need_9
  · refine g_aload_n 0 0 dX11_need_4 rfl rfl ?_
    refine g_iload_n 2 2 dX11_need_5 rfl rfl ?_
    refine g_callVT (fc := fun sς => Chk_stop sς x0 x2) (ci := 11) (as := [iv x2]) rfl rfl rfl q1750 qs74 q1748 mdX11_67 (ctX11_stop x0 x2) rfl (Nat.le_of_ble_eq_true rfl) (Nat.le_of_ble_eq_true rfl) (Nat.le_of_ble_eq_true rfl) pu_V (by decide) dX11_need_6 (fun _ σ1 => ?_)
    exact g_return rfl dX11_need_9
theorem V.dX11_open_0 : decode cX11_open 0 = .ok (.aload_n 0, 1) := by decide +kernel
theorem V.dX11_open_1 : decode cX11_open 1 = .ok (.aload_n 0, 1) := by decide +kernel
theorem V.dX11_open_2 : decode cX11_open 2 = .ok (.getfield 16, 3) := by decide +kernel
theorem V.dX11_open_5 : decode cX11_open 5 = .ok (.invokevirtual 107, 3) := by decide +kernel
theorem V.dX11_open_8 : decode cX11_open 8 = .ok (.aload_n 0, 1) := by decide +kernel
theorem V.dX11_open_9 : decode cX11_open 9 = .ok (.getfield 48, 3) := by decide +kernel
theorem V.dX11_open_12 : decode cX11_open 12 = .ok (.if_icmp .ge 7, 3) := by decide +kernel
theorem V.dX11_open_15 : decode cX11_open 15 = .ok (.iconst 1, 1) := by decide +kernel
theorem V.dX11_open_16 : decode cX11_open 16 = .ok (.goto 4, 3) := by decide +kernel
theorem V.dX11_open_19 : decode cX11_open 19 = .ok (.iconst 0, 1) := by decide +kernel
theorem V.dX11_open_20 : decode cX11_open 20 = .ok (.bipush 15, 2) := by decide +kernel
theorem V.dX11_open_22 : decode cX11_open 22 = .ok (.invokevirtual 118, 3) := by decide +kernel
theorem V.dX11_open_25 : decode cX11_open 25 = .ok (.aload_n 0, 1) := by decide +kernel
theorem V.dX11_open_26 : decode cX11_open 26 = .ok (.getfield 16, 3) := by decide +kernel
theorem V.dX11_open_29 : decode cX11_open 29 = .ok (.iload_n 1, 1) := by decide +kernel
theorem V.dX11_open_30 : decode cX11_open 30 = .ok (.invokevirtual 104, 3) := by decide +kernel
theorem V.dX11_open_33 : decode cX11_open 33 = .ok (.aload_n 0, 1) := by decide +kernel
theorem V.dX11_open_34 : decode cX11_open 34 = .ok (.getfield 19, 3) := by decide +kernel
theorem V.dX11_open_37 : decode cX11_open 37 = .ok (.iload_n 2, 1) := by decide +kernel
theorem V.dX11_open_38 : decode cX11_open 38 = .ok (.invokevirtual 104, 3) := by decide +kernel
theorem V.dX11_open_41 : decode cX11_open 41 = .ok (.aload_n 0, 1) := by decide +kernel
theorem V.dX11_open_42 : decode cX11_open 42 = .ok (.getfield 22, 3) := by decide +kernel
theorem V.dX11_open_45 : decode cX11_open 45 = .ok (.aload_n 0, 1) := by decide +kernel
theorem V.dX11_open_46 : decode cX11_open 46 = .ok (.getfield 10, 3) := by decide +kernel
theorem V.dX11_open_49 : decode cX11_open 49 = .ok (.invokevirtual 107, 3) := by decide +kernel
theorem V.dX11_open_52 : decode cX11_open 52 = .ok (.invokevirtual 104, 3) := by decide +kernel
theorem V.dX11_open_55 : decode cX11_open 55 = .ok (.aload_n 0, 1) := by decide +kernel
theorem V.dX11_open_56 : decode cX11_open 56 = .ok (.getfield 25, 3) := by decide +kernel
theorem V.dX11_open_59 : decode cX11_open 59 = .ok (.iconst 1, 1) := by decide +kernel
theorem V.dX11_open_60 : decode cX11_open 60 = .ok (.invokevirtual 104, 3) := by decide +kernel
theorem V.dX11_open_63 : decode cX11_open 63 = .ok (.return_, 1) := by decide +kernel
theorem V.fdX11_16 : FD RX11 16 11 5 2 := ⟨(RX11, TX11, 17), tyX11, rfl, rfl, in_X11, by decide, Or.inl q823, rfl⟩
theorem V.mdX11_107 : MD RX11 107 yX3_size cX3_size 1 (some .int) 0 := ⟨Or.inl q1743, q363, q1423, by decide, by decide, by decide +kernel⟩
theorem V.fdX11_48 : FD RX11 48 11 2 0 := ⟨(RX11, TX11, 17), tyX11, rfl, rfl, in_X11, by decide, Or.inl q820, rfl⟩
theorem V.mdX11_118 : MD RX11 118 yX11_need cX11_need 3 none 2 := ⟨Or.inl q1744, q371, q1747, by decide, by decide, by decide +kernel⟩
theorem V.mdX11_104 : MD RX11 104 yX3_add cX3_add 4 none 1 := ⟨Or.inl q1754, q363, q1407, by decide, by decide, by decide +kernel⟩
theorem V.fdX11_19 : FD RX11 19 11 6 2 := ⟨(RX11, TX11, 17), tyX11, rfl, rfl, in_X11, by decide, Or.inl q824, rfl⟩
theorem V.fdX11_22 : FD RX11 22 11 7 2 := ⟨(RX11, TX11, 17), tyX11, rfl, rfl, in_X11, by decide, Or.inl q825, rfl⟩
theorem V.fdX11_10 : FD RX11 10 11 4 2 := ⟨(RX11, TX11, 17), tyX11, rfl, rfl, in_X11, by decide, Or.inl q822, rfl⟩
theorem V.fdX11_25 : FD RX11 25 11 8 2 := ⟨(RX11, TX11, 17), tyX11, rfl, rfl, in_X11, by decide, Or.inl q826, rfl⟩
/-! ModuleEngine$Checker.open(II)V -/
def V.Chk_open_p20  (σ : HS) (x0 : Nat) (x1 : Int32) (x2 : Int32) (s0 : Int32) (s1 : Nat) : Option ((Nat ⊕ Unit) × HS) :=
  ck (tg σ s1 = 12) <| clT (Chk_need σ s1 s0 (15 : Int32)) fun _ σ1 =>
  ck (tg σ1 x0 = 12) <|
  ck (tg σ1 (gR σ1 x0 5) = 4) <| cl (Row_add σ1 (gR σ1 x0 5) x1) fun _ σ2 =>
  ck (tg σ2 x0 = 12) <|
  ck (tg σ2 (gR σ2 x0 6) = 4) <| cl (Row_add σ2 (gR σ2 x0 6) x2) fun _ σ3 =>
  ck (tg σ3 x0 = 12) <|
  ck (tg σ3 x0 = 12) <|
  ck (tg σ3 (gR σ3 x0 4) = 4) <| cl (Row_size σ3 (gR σ3 x0 4) ) fun r5 σ4 =>
  ck (tg σ4 (gR σ3 x0 7) = 4) <| cl (Row_add σ4 (gR σ3 x0 7) r5) fun _ σ6 =>
  ck (tg σ6 x0 = 12) <|
  ck (tg σ6 (gR σ6 x0 8) = 4) <| cl (Row_add σ6 (gR σ6 x0 8) (1 : Int32)) fun _ σ7 =>
  some (.inr (), σ7)
theorem V.gX11_open_p20 {X : CX}  (σ : HS) (x0 : Nat) (x1 : Int32) (x2 : Int32) (s0 : Int32) (s1 : Nat) : G X RX11 "open" cX11_open 3 none 8 128 (enX enV (cxz X)) 20 [(0, av x0), (1, iv x1), (2, iv x2)] [iv s0, av s1] σ (Chk_open_p20 σ x0 x1 x2 s0 s1) := by
  unfold Chk_open_p20
  refine g_bipush (v := 15) dX11_open_20 (by decide) ?_
  refine g_callVT (fc := fun sς => Chk_need sς s1 s0 (15 : Int32)) (ci := 11) (as := [iv s0, iv (15 : Int32)]) rfl rfl rfl q1746 qs73 q1744 mdX11_118 (ctX11_need s1 s0 (15 : Int32)) rfl (Nat.le_of_ble_eq_true rfl) (Nat.le_of_ble_eq_true rfl) (Nat.le_of_ble_eq_true rfl) pu_V (by decide) dX11_open_22 (fun _ σ1 => ?_)
  refine g_aload_n 0 0 dX11_open_25 rfl rfl ?_
  refine g_getR fdX11_16 dX11_open_26 ?_
  refine g_iload_n 1 1 dX11_open_29 rfl rfl ?_
  refine g_callV (fc := fun sς => Row_add sς (gR σ1 x0 5) x1) (ci := 3) (as := [iv x1]) rfl rfl rfl q1405 q1406 mdX11_104 (ctX3_add (gR σ1 x0 5) x1) rfl (Nat.le_of_ble_eq_true rfl) (Nat.le_of_ble_eq_true rfl) (Nat.le_of_ble_eq_true rfl) pu_V dX11_open_30 (fun _ σ2 => ?_)
  refine g_aload_n 0 0 dX11_open_33 rfl rfl ?_
  refine g_getR fdX11_19 dX11_open_34 ?_
  refine g_iload_n 2 2 dX11_open_37 rfl rfl ?_
  refine g_callV (fc := fun sς => Row_add sς (gR σ2 x0 6) x2) (ci := 3) (as := [iv x2]) rfl rfl rfl q1405 q1406 mdX11_104 (ctX3_add (gR σ2 x0 6) x2) rfl (Nat.le_of_ble_eq_true rfl) (Nat.le_of_ble_eq_true rfl) (Nat.le_of_ble_eq_true rfl) pu_V dX11_open_38 (fun _ σ3 => ?_)
  refine g_aload_n 0 0 dX11_open_41 rfl rfl ?_
  refine g_getR fdX11_22 dX11_open_42 ?_
  refine g_aload_n 0 0 dX11_open_45 rfl rfl ?_
  refine g_getR fdX11_10 dX11_open_46 ?_
  refine g_callV (fc := fun sς => Row_size sς (gR σ3 x0 4) ) (ci := 3) (as := []) rfl rfl rfl q1421 q1422 mdX11_107 (ctX3_size (gR σ3 x0 4) ) rfl (Nat.le_of_ble_eq_true rfl) (Nat.le_of_ble_eq_true rfl) (Nat.le_of_ble_eq_true rfl) pu_I dX11_open_49 (fun r5 σ4 => ?_)
  refine g_callV (fc := fun sς => Row_add sς (gR σ3 x0 7) r5) (ci := 3) (as := [iv r5]) rfl rfl rfl q1405 q1406 mdX11_104 (ctX3_add (gR σ3 x0 7) r5) rfl (Nat.le_of_ble_eq_true rfl) (Nat.le_of_ble_eq_true rfl) (Nat.le_of_ble_eq_true rfl) pu_V dX11_open_52 (fun _ σ6 => ?_)
  refine g_aload_n 0 0 dX11_open_55 rfl rfl ?_
  refine g_getR fdX11_25 dX11_open_56 ?_
  refine g_iconst (v := 1) dX11_open_59 (by decide) ?_
  refine g_callV (fc := fun sς => Row_add sς (gR σ6 x0 8) (1 : Int32)) (ci := 3) (as := [iv (1 : Int32)]) rfl rfl rfl q1405 q1406 mdX11_104 (ctX3_add (gR σ6 x0 8) (1 : Int32)) rfl (Nat.le_of_ble_eq_true rfl) (Nat.le_of_ble_eq_true rfl) (Nat.le_of_ble_eq_true rfl) pu_V dX11_open_60 (fun _ σ7 => ?_)
  exact g_return rfl dX11_open_63
def V.Chk_open (σ : HS) (x0 : Nat) (x1 : Int32) (x2 : Int32) : Option ((Nat ⊕ Unit) × HS) :=
  ck (tg σ x0 = 12) <|
  ck (tg σ (gR σ x0 5) = 4) <| cl (Row_size σ (gR σ x0 5) ) fun r2 σ1 =>
  ck (tg σ1 x0 = 12) <|
  if (gI σ1 x0 2) ≤ r2 then (
    Chk_open_p20 σ1 x0 x1 x2 (0 : Int32) x0)
  else (
    Chk_open_p20 σ1 x0 x1 x2 (1 : Int32) x0)
theorem V.ctX11_open (x0 : Nat) (x1 : Int32) (x2 : Int32) : Ct yX11_open  cX11_open 3 none 8 128 eXV [av x0, iv x1, iv x2] (fun σ => Chk_open σ x0 x1 x2) := by
  refine Ct.of (own := RX11) (nm := "open") (desc := "(II)V") rfl (by decide) (Nat.le_of_ble_eq_true rfl) (by decide) (fun X σ => ?_)
  show G X RX11 "open" cX11_open 3 none 8 128 (enX enV (cxz X)) 0 [(0, av x0), (1, iv x1), (2, iv x2)] [] σ (Chk_open σ x0 x1 x2)
  unfold Chk_open
  refine g_aload_n 0 0 dX11_open_0 rfl rfl ?_
  refine g_aload_n 0 0 dX11_open_1 rfl rfl ?_
  refine g_getR fdX11_16 dX11_open_2 ?_
  refine g_callV (fc := fun sς => Row_size sς (gR σ x0 5) ) (ci := 3) (as := []) rfl rfl rfl q1421 q1422 mdX11_107 (ctX3_size (gR σ x0 5) ) rfl (Nat.le_of_ble_eq_true rfl) (Nat.le_of_ble_eq_true rfl) (Nat.le_of_ble_eq_true rfl) pu_I dX11_open_5 (fun r2 σ1 => ?_)
  refine g_aload_n 0 0 dX11_open_8 rfl rfl ?_
  refine g_getI fdX11_48 dX11_open_9 ?_
  refine g_icmp_ge 19 dX11_open_12 (by decide) ?_ ?_
  · refine g_iconst (v := 0) dX11_open_19 (by decide) ?_
    exact gX11_open_p20 _ _ _ _ _ _
  · refine g_iconst (v := 1) dX11_open_15 (by decide) ?_
    refine g_goto 20 dX11_open_16 (by decide) ?_
    exact gX11_open_p20 _ _ _ _ _ _
theorem V.dX11_beginCode_0 : decode cX11_beginCode 0 = .ok (.aload_n 0, 1) := by decide +kernel
theorem V.dX11_beginCode_1 : decode cX11_beginCode 1 = .ok (.iconst 1, 1) := by decide +kernel
theorem V.dX11_beginCode_2 : decode cX11_beginCode 2 = .ok (.putfield 71, 3) := by decide +kernel
theorem V.dX11_beginCode_5 : decode cX11_beginCode 5 = .ok (.aload_n 0, 1) := by decide +kernel
theorem V.dX11_beginCode_6 : decode cX11_beginCode 6 = .ok (.iconst 0, 1) := by decide +kernel
theorem V.dX11_beginCode_7 : decode cX11_beginCode 7 = .ok (.putfield 75, 3) := by decide +kernel
theorem V.dX11_beginCode_10 : decode cX11_beginCode 10 = .ok (.aload_n 0, 1) := by decide +kernel
theorem V.dX11_beginCode_11 : decode cX11_beginCode 11 = .ok (.iconst 0, 1) := by decide +kernel
theorem V.dX11_beginCode_12 : decode cX11_beginCode 12 = .ok (.putfield 78, 3) := by decide +kernel
theorem V.dX11_beginCode_15 : decode cX11_beginCode 15 = .ok (.aload_n 0, 1) := by decide +kernel
theorem V.dX11_beginCode_16 : decode cX11_beginCode 16 = .ok (.getfield 10, 3) := by decide +kernel
theorem V.dX11_beginCode_19 : decode cX11_beginCode 19 = .ok (.iconst 0, 1) := by decide +kernel
theorem V.dX11_beginCode_20 : decode cX11_beginCode 20 = .ok (.invokevirtual 81, 3) := by decide +kernel
theorem V.dX11_beginCode_23 : decode cX11_beginCode 23 = .ok (.aload_n 0, 1) := by decide +kernel
theorem V.dX11_beginCode_24 : decode cX11_beginCode 24 = .ok (.getfield 16, 3) := by decide +kernel
theorem V.dX11_beginCode_27 : decode cX11_beginCode 27 = .ok (.iconst 0, 1) := by decide +kernel
theorem V.dX11_beginCode_28 : decode cX11_beginCode 28 = .ok (.invokevirtual 81, 3) := by decide +kernel
theorem V.dX11_beginCode_31 : decode cX11_beginCode 31 = .ok (.aload_n 0, 1) := by decide +kernel
theorem V.dX11_beginCode_32 : decode cX11_beginCode 32 = .ok (.getfield 19, 3) := by decide +kernel
theorem V.dX11_beginCode_35 : decode cX11_beginCode 35 = .ok (.iconst 0, 1) := by decide +kernel
theorem V.dX11_beginCode_36 : decode cX11_beginCode 36 = .ok (.invokevirtual 81, 3) := by decide +kernel
theorem V.dX11_beginCode_39 : decode cX11_beginCode 39 = .ok (.aload_n 0, 1) := by decide +kernel
theorem V.dX11_beginCode_40 : decode cX11_beginCode 40 = .ok (.getfield 22, 3) := by decide +kernel
theorem V.dX11_beginCode_43 : decode cX11_beginCode 43 = .ok (.iconst 0, 1) := by decide +kernel
theorem V.dX11_beginCode_44 : decode cX11_beginCode 44 = .ok (.invokevirtual 81, 3) := by decide +kernel
theorem V.dX11_beginCode_47 : decode cX11_beginCode 47 = .ok (.aload_n 0, 1) := by decide +kernel
theorem V.dX11_beginCode_48 : decode cX11_beginCode 48 = .ok (.getfield 25, 3) := by decide +kernel
theorem V.dX11_beginCode_51 : decode cX11_beginCode 51 = .ok (.iconst 0, 1) := by decide +kernel
theorem V.dX11_beginCode_52 : decode cX11_beginCode 52 = .ok (.invokevirtual 81, 3) := by decide +kernel
theorem V.dX11_beginCode_55 : decode cX11_beginCode 55 = .ok (.aload_n 0, 1) := by decide +kernel
theorem V.dX11_beginCode_56 : decode cX11_beginCode 56 = .ok (.getfield 28, 3) := by decide +kernel
theorem V.dX11_beginCode_59 : decode cX11_beginCode 59 = .ok (.iconst 0, 1) := by decide +kernel
theorem V.dX11_beginCode_60 : decode cX11_beginCode 60 = .ok (.invokevirtual 81, 3) := by decide +kernel
theorem V.dX11_beginCode_63 : decode cX11_beginCode 63 = .ok (.aload_n 0, 1) := by decide +kernel
theorem V.dX11_beginCode_64 : decode cX11_beginCode 64 = .ok (.getfield 31, 3) := by decide +kernel
theorem V.dX11_beginCode_67 : decode cX11_beginCode 67 = .ok (.iconst 0, 1) := by decide +kernel
theorem V.dX11_beginCode_68 : decode cX11_beginCode 68 = .ok (.invokevirtual 81, 3) := by decide +kernel
theorem V.dX11_beginCode_71 : decode cX11_beginCode 71 = .ok (.aload_n 0, 1) := by decide +kernel
theorem V.dX11_beginCode_72 : decode cX11_beginCode 72 = .ok (.getfield 34, 3) := by decide +kernel
theorem V.dX11_beginCode_75 : decode cX11_beginCode 75 = .ok (.iconst 0, 1) := by decide +kernel
theorem V.dX11_beginCode_76 : decode cX11_beginCode 76 = .ok (.invokevirtual 81, 3) := by decide +kernel
theorem V.dX11_beginCode_79 : decode cX11_beginCode 79 = .ok (.aload_n 0, 1) := by decide +kernel
theorem V.dX11_beginCode_80 : decode cX11_beginCode 80 = .ok (.iconst (-1), 1) := by decide +kernel
theorem V.dX11_beginCode_81 : decode cX11_beginCode 81 = .ok (.iload_n 1, 1) := by decide +kernel
theorem V.dX11_beginCode_82 : decode cX11_beginCode 82 = .ok (.invokevirtual 84, 3) := by decide +kernel
theorem V.dX11_beginCode_85 : decode cX11_beginCode 85 = .ok (.return_, 1) := by decide +kernel
theorem V.fpX11_71 {nm : String} : FP RX11 nm 71 11 13 (.boolean) := ⟨(RX11, TX11, 17), tyX11, rfl, rfl, in_X11, by decide, tyX11_ok, nmX11, rfl, Or.inl ⟨rfl, Or.inl q832⟩⟩
theorem V.fpX11_75 {nm : String} : FP RX11 nm 75 11 14 (.boolean) := ⟨(RX11, TX11, 17), tyX11, rfl, rfl, in_X11, by decide, tyX11_ok, nmX11, rfl, Or.inl ⟨rfl, Or.inl q833⟩⟩
theorem V.fpX11_78 {nm : String} : FP RX11 nm 78 11 15 (.boolean) := ⟨(RX11, TX11, 17), tyX11, rfl, rfl, in_X11, by decide, tyX11_ok, nmX11, rfl, Or.inl ⟨rfl, Or.inl q834⟩⟩
theorem V.mdX11_81 : MD RX11 81 yX3_cut cX3_cut 2 none 1 := ⟨Or.inl q1738, q363, q1283, by decide, by decide, by decide +kernel⟩
theorem V.fdX11_28 : FD RX11 28 11 9 2 := ⟨(RX11, TX11, 17), tyX11, rfl, rfl, in_X11, by decide, Or.inl q827, rfl⟩
theorem V.fdX11_31 : FD RX11 31 11 10 2 := ⟨(RX11, TX11, 17), tyX11, rfl, rfl, in_X11, by decide, Or.inl q828, rfl⟩
theorem V.fdX11_34 : FD RX11 34 11 11 2 := ⟨(RX11, TX11, 17), tyX11, rfl, rfl, in_X11, by decide, Or.inl q829, rfl⟩
theorem V.mdX11_84 : MD RX11 84 yX11_open cX11_open 3 none 2 := ⟨Or.inl q1739, q371, q1742, by decide, by decide, by decide +kernel⟩
/-! ModuleEngine$Checker.beginCode(I)V -/
def V.Chk_beginCode (σ : HS) (x0 : Nat) (x1 : Int32) : Option ((Nat ⊕ Unit) × HS) :=
  ck (tg σ x0 = 12) <| bn (sI σ x0 13 (1 : Int32)) fun σ1 =>
  ck (tg σ1 x0 = 12) <| bn (sI σ1 x0 14 (0 : Int32)) fun σ2 =>
  ck (tg σ2 x0 = 12) <| bn (sI σ2 x0 15 (0 : Int32)) fun σ3 =>
  ck (tg σ3 x0 = 12) <|
  ck (tg σ3 (gR σ3 x0 4) = 4) <| cl (Row_cut σ3 (gR σ3 x0 4) (0 : Int32)) fun _ σ4 =>
  ck (tg σ4 x0 = 12) <|
  ck (tg σ4 (gR σ4 x0 5) = 4) <| cl (Row_cut σ4 (gR σ4 x0 5) (0 : Int32)) fun _ σ5 =>
  ck (tg σ5 x0 = 12) <|
  ck (tg σ5 (gR σ5 x0 6) = 4) <| cl (Row_cut σ5 (gR σ5 x0 6) (0 : Int32)) fun _ σ6 =>
  ck (tg σ6 x0 = 12) <|
  ck (tg σ6 (gR σ6 x0 7) = 4) <| cl (Row_cut σ6 (gR σ6 x0 7) (0 : Int32)) fun _ σ7 =>
  ck (tg σ7 x0 = 12) <|
  ck (tg σ7 (gR σ7 x0 8) = 4) <| cl (Row_cut σ7 (gR σ7 x0 8) (0 : Int32)) fun _ σ8 =>
  ck (tg σ8 x0 = 12) <|
  ck (tg σ8 (gR σ8 x0 9) = 4) <| cl (Row_cut σ8 (gR σ8 x0 9) (0 : Int32)) fun _ σ9 =>
  ck (tg σ9 x0 = 12) <|
  ck (tg σ9 (gR σ9 x0 10) = 4) <| cl (Row_cut σ9 (gR σ9 x0 10) (0 : Int32)) fun _ σ10 =>
  ck (tg σ10 x0 = 12) <|
  ck (tg σ10 (gR σ10 x0 11) = 4) <| cl (Row_cut σ10 (gR σ10 x0 11) (0 : Int32)) fun _ σ11 =>
  ck (tg σ11 x0 = 12) <| clT (Chk_open σ11 x0 (-1 : Int32) x1) fun _ σ12 =>
  some (.inr (), σ12)
theorem V.ctX11_beginCode (x0 : Nat) (x1 : Int32) : Ct yX11_beginCode  cX11_beginCode 2 none 9 150 eXV [av x0, iv x1] (fun σ => Chk_beginCode σ x0 x1) := by
  refine Ct.of (own := RX11) (nm := "beginCode") (desc := "(I)V") rfl (by decide) (Nat.le_of_ble_eq_true rfl) (by decide) (fun X σ => ?_)
  show G X RX11 "beginCode" cX11_beginCode 2 none 9 150 (enX enV (cxz X)) 0 [(0, av x0), (1, iv x1)] [] σ (Chk_beginCode σ x0 x1)
  unfold Chk_beginCode
  refine g_aload_n 0 0 dX11_beginCode_0 rfl rfl ?_
  refine g_iconst (v := 1) dX11_beginCode_1 (by decide) ?_
  refine g_putZ fpX11_71 ⟨by decide +kernel, by decide +kernel⟩ dX11_beginCode_2 (fun σ1 => ?_)
  refine g_aload_n 0 0 dX11_beginCode_5 rfl rfl ?_
  refine g_iconst (v := 0) dX11_beginCode_6 (by decide) ?_
  refine g_putZ fpX11_75 ⟨by decide +kernel, by decide +kernel⟩ dX11_beginCode_7 (fun σ2 => ?_)
  refine g_aload_n 0 0 dX11_beginCode_10 rfl rfl ?_
  refine g_iconst (v := 0) dX11_beginCode_11 (by decide) ?_
  refine g_putZ fpX11_78 ⟨by decide +kernel, by decide +kernel⟩ dX11_beginCode_12 (fun σ3 => ?_)
  refine g_aload_n 0 0 dX11_beginCode_15 rfl rfl ?_
  refine g_getR fdX11_10 dX11_beginCode_16 ?_
  refine g_iconst (v := 0) dX11_beginCode_19 (by decide) ?_
  refine g_callV (fc := fun sς => Row_cut sς (gR σ3 x0 4) (0 : Int32)) (ci := 3) (as := [iv (0 : Int32)]) rfl rfl rfl q1281 q1282 mdX11_81 (ctX3_cut (gR σ3 x0 4) (0 : Int32)) rfl (Nat.le_of_ble_eq_true rfl) (Nat.le_of_ble_eq_true rfl) (Nat.le_of_ble_eq_true rfl) pu_V dX11_beginCode_20 (fun _ σ4 => ?_)
  refine g_aload_n 0 0 dX11_beginCode_23 rfl rfl ?_
  refine g_getR fdX11_16 dX11_beginCode_24 ?_
  refine g_iconst (v := 0) dX11_beginCode_27 (by decide) ?_
  refine g_callV (fc := fun sς => Row_cut sς (gR σ4 x0 5) (0 : Int32)) (ci := 3) (as := [iv (0 : Int32)]) rfl rfl rfl q1281 q1282 mdX11_81 (ctX3_cut (gR σ4 x0 5) (0 : Int32)) rfl (Nat.le_of_ble_eq_true rfl) (Nat.le_of_ble_eq_true rfl) (Nat.le_of_ble_eq_true rfl) pu_V dX11_beginCode_28 (fun _ σ5 => ?_)
  refine g_aload_n 0 0 dX11_beginCode_31 rfl rfl ?_
  refine g_getR fdX11_19 dX11_beginCode_32 ?_
  refine g_iconst (v := 0) dX11_beginCode_35 (by decide) ?_
  refine g_callV (fc := fun sς => Row_cut sς (gR σ5 x0 6) (0 : Int32)) (ci := 3) (as := [iv (0 : Int32)]) rfl rfl rfl q1281 q1282 mdX11_81 (ctX3_cut (gR σ5 x0 6) (0 : Int32)) rfl (Nat.le_of_ble_eq_true rfl) (Nat.le_of_ble_eq_true rfl) (Nat.le_of_ble_eq_true rfl) pu_V dX11_beginCode_36 (fun _ σ6 => ?_)
  refine g_aload_n 0 0 dX11_beginCode_39 rfl rfl ?_
  refine g_getR fdX11_22 dX11_beginCode_40 ?_
  refine g_iconst (v := 0) dX11_beginCode_43 (by decide) ?_
  refine g_callV (fc := fun sς => Row_cut sς (gR σ6 x0 7) (0 : Int32)) (ci := 3) (as := [iv (0 : Int32)]) rfl rfl rfl q1281 q1282 mdX11_81 (ctX3_cut (gR σ6 x0 7) (0 : Int32)) rfl (Nat.le_of_ble_eq_true rfl) (Nat.le_of_ble_eq_true rfl) (Nat.le_of_ble_eq_true rfl) pu_V dX11_beginCode_44 (fun _ σ7 => ?_)
  refine g_aload_n 0 0 dX11_beginCode_47 rfl rfl ?_
  refine g_getR fdX11_25 dX11_beginCode_48 ?_
  refine g_iconst (v := 0) dX11_beginCode_51 (by decide) ?_
  refine g_callV (fc := fun sς => Row_cut sς (gR σ7 x0 8) (0 : Int32)) (ci := 3) (as := [iv (0 : Int32)]) rfl rfl rfl q1281 q1282 mdX11_81 (ctX3_cut (gR σ7 x0 8) (0 : Int32)) rfl (Nat.le_of_ble_eq_true rfl) (Nat.le_of_ble_eq_true rfl) (Nat.le_of_ble_eq_true rfl) pu_V dX11_beginCode_52 (fun _ σ8 => ?_)
  refine g_aload_n 0 0 dX11_beginCode_55 rfl rfl ?_
  refine g_getR fdX11_28 dX11_beginCode_56 ?_
  refine g_iconst (v := 0) dX11_beginCode_59 (by decide) ?_
  refine g_callV (fc := fun sς => Row_cut sς (gR σ8 x0 9) (0 : Int32)) (ci := 3) (as := [iv (0 : Int32)]) rfl rfl rfl q1281 q1282 mdX11_81 (ctX3_cut (gR σ8 x0 9) (0 : Int32)) rfl (Nat.le_of_ble_eq_true rfl) (Nat.le_of_ble_eq_true rfl) (Nat.le_of_ble_eq_true rfl) pu_V dX11_beginCode_60 (fun _ σ9 => ?_)
  refine g_aload_n 0 0 dX11_beginCode_63 rfl rfl ?_
  refine g_getR fdX11_31 dX11_beginCode_64 ?_
  refine g_iconst (v := 0) dX11_beginCode_67 (by decide) ?_
  refine g_callV (fc := fun sς => Row_cut sς (gR σ9 x0 10) (0 : Int32)) (ci := 3) (as := [iv (0 : Int32)]) rfl rfl rfl q1281 q1282 mdX11_81 (ctX3_cut (gR σ9 x0 10) (0 : Int32)) rfl (Nat.le_of_ble_eq_true rfl) (Nat.le_of_ble_eq_true rfl) (Nat.le_of_ble_eq_true rfl) pu_V dX11_beginCode_68 (fun _ σ10 => ?_)
  refine g_aload_n 0 0 dX11_beginCode_71 rfl rfl ?_
  refine g_getR fdX11_34 dX11_beginCode_72 ?_
  refine g_iconst (v := 0) dX11_beginCode_75 (by decide) ?_
  refine g_callV (fc := fun sς => Row_cut sς (gR σ10 x0 11) (0 : Int32)) (ci := 3) (as := [iv (0 : Int32)]) rfl rfl rfl q1281 q1282 mdX11_81 (ctX3_cut (gR σ10 x0 11) (0 : Int32)) rfl (Nat.le_of_ble_eq_true rfl) (Nat.le_of_ble_eq_true rfl) (Nat.le_of_ble_eq_true rfl) pu_V dX11_beginCode_76 (fun _ σ11 => ?_)
  refine g_aload_n 0 0 dX11_beginCode_79 rfl rfl ?_
  refine g_iconst (v := (-1)) dX11_beginCode_80 (by decide) ?_
  refine g_iload_n 1 1 dX11_beginCode_81 rfl rfl ?_
  refine g_callVT (fc := fun sς => Chk_open sς x0 (-1 : Int32) x1) (ci := 11) (as := [iv (-1 : Int32), iv x1]) rfl rfl rfl q1741 qs72 q1739 mdX11_84 (ctX11_open x0 (-1 : Int32) x1) rfl (Nat.le_of_ble_eq_true rfl) (Nat.le_of_ble_eq_true rfl) (Nat.le_of_ble_eq_true rfl) pu_V (by decide) dX11_beginCode_82 (fun _ σ12 => ?_)
  exact g_return rfl dX11_beginCode_85
theorem V.dX11_addLocals_0 : decode cX11_addLocals 0 = .ok (.aload_n 0, 1) := by decide +kernel
theorem V.dX11_addLocals_1 : decode cX11_addLocals 1 = .ok (.getfield 28, 3) := by decide +kernel
theorem V.dX11_addLocals_4 : decode cX11_addLocals 4 = .ok (.iload_n 1, 1) := by decide +kernel
theorem V.dX11_addLocals_5 : decode cX11_addLocals 5 = .ok (.invokevirtual 104, 3) := by decide +kernel
theorem V.dX11_addLocals_8 : decode cX11_addLocals 8 = .ok (.aload_n 0, 1) := by decide +kernel
theorem V.dX11_addLocals_9 : decode cX11_addLocals 9 = .ok (.getfield 31, 3) := by decide +kernel
theorem V.dX11_addLocals_12 : decode cX11_addLocals 12 = .ok (.iload_n 2, 1) := by decide +kernel
theorem V.dX11_addLocals_13 : decode cX11_addLocals 13 = .ok (.invokevirtual 104, 3) := by decide +kernel
theorem V.dX11_addLocals_16 : decode cX11_addLocals 16 = .ok (.return_, 1) := by decide +kernel
/-! ModuleEngine$Checker.addLocals(II)V -/
def V.Chk_addLocals (σ : HS) (x0 : Nat) (x1 : Int32) (x2 : Int32) : Option (Unit × HS) :=
  ck (tg σ x0 = 12) <|
  ck (tg σ (gR σ x0 9) = 4) <| cl (Row_add σ (gR σ x0 9) x1) fun _ σ1 =>
  ck (tg σ1 x0 = 12) <|
  ck (tg σ1 (gR σ1 x0 10) = 4) <| cl (Row_add σ1 (gR σ1 x0 10) x2) fun _ σ2 =>
  some ((), σ2)
theorem V.ctX11_addLocals (x0 : Nat) (x1 : Int32) (x2 : Int32) : Ct yX11_addLocals  cX11_addLocals 3 none 1 23 eV [av x0, iv x1, iv x2] (fun σ => Chk_addLocals σ x0 x1 x2) := by
  refine Ct.of (own := RX11) (nm := "addLocals") (desc := "(II)V") rfl (by decide) (Nat.le_of_ble_eq_true rfl) (by decide) (fun X σ => ?_)
  show G X RX11 "addLocals" cX11_addLocals 3 none 1 23 enV 0 [(0, av x0), (1, iv x1), (2, iv x2)] [] σ (Chk_addLocals σ x0 x1 x2)
  unfold Chk_addLocals
  refine g_aload_n 0 0 dX11_addLocals_0 rfl rfl ?_
  refine g_getR fdX11_28 dX11_addLocals_1 ?_
  refine g_iload_n 1 1 dX11_addLocals_4 rfl rfl ?_
  refine g_callV (fc := fun sς => Row_add sς (gR σ x0 9) x1) (ci := 3) (as := [iv x1]) rfl rfl rfl q1405 q1406 mdX11_104 (ctX3_add (gR σ x0 9) x1) rfl (Nat.le_of_ble_eq_true rfl) (Nat.le_of_ble_eq_true rfl) (Nat.le_of_ble_eq_true rfl) pu_V dX11_addLocals_5 (fun _ σ1 => ?_)
  refine g_aload_n 0 0 dX11_addLocals_8 rfl rfl ?_
  refine g_getR fdX11_31 dX11_addLocals_9 ?_
  refine g_iload_n 2 2 dX11_addLocals_12 rfl rfl ?_
  refine g_callV (fc := fun sς => Row_add sς (gR σ1 x0 10) x2) (ci := 3) (as := [iv x2]) rfl rfl rfl q1405 q1406 mdX11_104 (ctX3_add (gR σ1 x0 10) x2) rfl (Nat.le_of_ble_eq_true rfl) (Nat.le_of_ble_eq_true rfl) (Nat.le_of_ble_eq_true rfl) pu_V dX11_addLocals_13 (fun _ σ2 => ?_)
  exact g_return rfl dX11_addLocals_16
theorem V.dX11_beginBody_0 : decode cX11_beginBody 0 = .ok (.aload_n 0, 1) := by decide +kernel
theorem V.dX11_beginBody_1 : decode cX11_beginBody 1 = .ok (.iload_n 1, 1) := by decide +kernel
theorem V.dX11_beginBody_2 : decode cX11_beginBody 2 = .ok (.invokevirtual 88, 3) := by decide +kernel
theorem V.dX11_beginBody_5 : decode cX11_beginBody 5 = .ok (.iconst 0, 1) := by decide +kernel
theorem V.dX11_beginBody_6 : decode cX11_beginBody 6 = .ok (.istore_n 2, 1) := by decide +kernel
theorem V.dX11_beginBody_7 : decode cX11_beginBody 7 = .ok (.iload_n 2, 1) := by decide +kernel
theorem V.dX11_beginBody_8 : decode cX11_beginBody 8 = .ok (.aload_n 0, 1) := by decide +kernel
theorem V.dX11_beginBody_9 : decode cX11_beginBody 9 = .ok (.getfield 40, 3) := by decide +kernel
theorem V.dX11_beginBody_12 : decode cX11_beginBody 12 = .ok (.iload_n 1, 1) := by decide +kernel
theorem V.dX11_beginBody_13 : decode cX11_beginBody 13 = .ok (.invokeinterface 91 2, 5) := by decide +kernel
theorem V.dX11_beginBody_18 : decode cX11_beginBody 18 = .ok (.if_icmp .ge 25, 3) := by decide +kernel
theorem V.dX11_beginBody_21 : decode cX11_beginBody 21 = .ok (.aload_n 0, 1) := by decide +kernel
theorem V.dX11_beginBody_22 : decode cX11_beginBody 22 = .ok (.aload_n 0, 1) := by decide +kernel
theorem V.dX11_beginBody_23 : decode cX11_beginBody 23 = .ok (.getfield 40, 3) := by decide +kernel
theorem V.dX11_beginBody_26 : decode cX11_beginBody 26 = .ok (.iload_n 1, 1) := by decide +kernel
theorem V.dX11_beginBody_27 : decode cX11_beginBody 27 = .ok (.iload_n 2, 1) := by decide +kernel
theorem V.dX11_beginBody_28 : decode cX11_beginBody 28 = .ok (.invokeinterface 97 3, 5) := by decide +kernel
theorem V.dX11_beginBody_33 : decode cX11_beginBody 33 = .ok (.iconst 1, 1) := by decide +kernel
theorem V.dX11_beginBody_34 : decode cX11_beginBody 34 = .ok (.invokevirtual 101, 3) := by decide +kernel
theorem V.dX11_beginBody_37 : decode cX11_beginBody 37 = .ok (.iinc 2 1, 3) := by decide +kernel
theorem V.dX11_beginBody_40 : decode cX11_beginBody 40 = .ok (.goto (-33), 3) := by decide +kernel
theorem V.dX11_beginBody_43 : decode cX11_beginBody 43 = .ok (.return_, 1) := by decide +kernel
theorem V.mdX11_88 : MD RX11 88 yX11_beginCode cX11_beginCode 2 none 1 := ⟨Or.inl q1734, q371, q1737, by decide, by decide, by decide +kernel⟩
theorem V.fdX11_40 : FD RX11 40 11 0 2 := ⟨(RX11, TX11, 17), tyX11, rfl, rfl, in_X11, by decide, Or.inl q818, rfl⟩
theorem V.mdX11_101 : MD RX11 101 yX11_addLocals cX11_addLocals 3 none 2 := ⟨Or.inl q1779, q371, q1782, by decide, by decide, by decide +kernel⟩
/-! ModuleEngine$Checker.beginBody(I)V -/
def V.Chk_beginBody_p7  : Nat → HS → Nat → Int32 → Int32 → Option ((Nat ⊕ Unit) × HS)
  | 0, _, _, _, _ => none
  | n + 1, σ, x0, x1, x2 =>
    ck (tg σ x0 = 12) <|
    ck (tg σ (gR σ x0 0) = 10) <| cl (Mty_parameters σ (gR σ x0 0) x1) fun r2 σ1 =>
    if r2 ≤ x2 then (
      some (.inr (), σ1))
    else (
      ck (tg σ1 x0 = 12) <|
      ck (tg σ1 (gR σ1 x0 0) = 10) <| cl (Mty_parameter σ1 (gR σ1 x0 0) x1 x2) fun r4 σ3 =>
      ck (tg σ3 x0 = 12) <| cl (Chk_addLocals σ3 x0 r4 (1 : Int32)) fun _ σ5 =>
      bn (x2 + (1 : Int32)) fun y6 =>
      Chk_beginBody_p7 n σ5 x0 x1 y6)
theorem V.gX11_beginBody_p7 {X : CX}  : ∀ (n : Nat) (σ : HS) (x0 : Nat) (x1 : Int32) (x2 : Int32), G X RX11 "beginBody" cX11_beginBody 3 none 10 171 (enX enV (cxz X)) 7 [(0, av x0), (1, iv x1), (2, iv x2)] [] σ (Chk_beginBody_p7 n σ x0 x1 x2)
  | 0, σ, x0, x1, x2 => by rw [Chk_beginBody_p7]; exact G.nul
  | n + 1, σ, x0, x1, x2 => by
    rw [Chk_beginBody_p7]
    refine g_iload_n 2 2 dX11_beginBody_7 rfl rfl ?_
    refine g_aload_n 0 0 dX11_beginBody_8 rfl rfl ?_
    refine g_getR fdX11_40 dX11_beginBody_9 ?_
    refine g_iload_n 1 1 dX11_beginBody_12 rfl rfl ?_
    refine g_callF (fc := fun sς => Mty_parameters sς (gR σ x0 0) x1) (as := [iv x1]) (n := 1) (nmy := "parameters") (dsy := "(I)I") rfl rfl (by decide) q1756 q1760 q1762 q369 q1764 (by decide +kernel) (ctX9_parameters (gR σ x0 0) x1) rfl (Nat.le_of_ble_eq_true rfl) (Nat.le_of_ble_eq_true rfl) (Nat.le_of_ble_eq_true rfl) pu_I dX11_beginBody_13 (fun r2 σ1 => ?_)
    refine g_icmp_ge 43 dX11_beginBody_18 (by decide) ?_ ?_
    · exact g_return rfl dX11_beginBody_43
    · refine g_aload_n 0 0 dX11_beginBody_21 rfl rfl ?_
      refine g_aload_n 0 0 dX11_beginBody_22 rfl rfl ?_
      refine g_getR fdX11_40 dX11_beginBody_23 ?_
      refine g_iload_n 1 1 dX11_beginBody_26 rfl rfl ?_
      refine g_iload_n 2 2 dX11_beginBody_27 rfl rfl ?_
      refine g_callF (fc := fun sς => Mty_parameter sς (gR σ1 x0 0) x1 x2) (as := [iv x1, iv x2]) (n := 2) (nmy := "parameter") (dsy := "(II)I") rfl rfl (by decide) q1767 q1770 q1772 q369 q1774 (by decide +kernel) (ctX9_parameter (gR σ1 x0 0) x1 x2) rfl (Nat.le_of_ble_eq_true rfl) (Nat.le_of_ble_eq_true rfl) (Nat.le_of_ble_eq_true rfl) pu_I dX11_beginBody_28 (fun r4 σ3 => ?_)
      refine g_iconst (v := 1) dX11_beginBody_33 (by decide) ?_
      refine g_callV (fc := fun sς => Chk_addLocals sς x0 r4 (1 : Int32)) (ci := 11) (as := [iv r4, iv (1 : Int32)]) rfl rfl rfl q1780 q1781 mdX11_101 (ctX11_addLocals x0 r4 (1 : Int32)) rfl (Nat.le_of_ble_eq_true rfl) (Nat.le_of_ble_eq_true rfl) (Nat.le_of_ble_eq_true rfl) pu_V dX11_beginBody_34 (fun _ σ5 => ?_)
      refine g_iincB (w := 1) 2 dX11_beginBody_37 rfl (by decide) (by decide) (fun _ => rfl) (fun y6 => ?_)
      refine g_goto 7 dX11_beginBody_40 (by decide) ?_
      refine G.sub [1, 2, 0] rfl ?_
      exact gX11_beginBody_p7 n _ _ _ _
def V.Chk_beginBody (σ : HS) (x0 : Nat) (x1 : Int32) : Option ((Nat ⊕ Unit) × HS) :=
  ck (tg σ x0 = 12) <| clT (Chk_beginCode σ x0 x1) fun _ σ1 =>
  Chk_beginBody_p7 FU σ1 x0 x1 (0 : Int32)
theorem V.ctX11_beginBody (x0 : Nat) (x1 : Int32) : Ct yX11_beginBody  cX11_beginBody 3 none 10 171 eXV [av x0, iv x1] (fun σ => Chk_beginBody σ x0 x1) := by
  refine Ct.of (own := RX11) (nm := "beginBody") (desc := "(I)V") rfl (by decide) (Nat.le_of_ble_eq_true rfl) (by decide) (fun X σ => ?_)
  show G X RX11 "beginBody" cX11_beginBody 3 none 10 171 (enX enV (cxz X)) 0 [(0, av x0), (1, iv x1)] [] σ (Chk_beginBody σ x0 x1)
  unfold Chk_beginBody
  refine g_aload_n 0 0 dX11_beginBody_0 rfl rfl ?_
  refine g_iload_n 1 1 dX11_beginBody_1 rfl rfl ?_
  refine g_callVT (fc := fun sς => Chk_beginCode sς x0 x1) (ci := 11) (as := [iv x1]) rfl rfl rfl q1736 qs71 q1734 mdX11_88 (ctX11_beginCode x0 x1) rfl (Nat.le_of_ble_eq_true rfl) (Nat.le_of_ble_eq_true rfl) (Nat.le_of_ble_eq_true rfl) pu_V (by decide) dX11_beginBody_2 (fun _ σ1 => ?_)
  refine g_iconst (v := 0) dX11_beginBody_5 (by decide) ?_
  refine g_istore_n 2 dX11_beginBody_6 rfl (by decide) rfl ?_
  refine G.sub [1, 2, 0] rfl ?_
  exact gX11_beginBody_p7 FU _ _ _ _
theorem V.dX11_isKnown_0 : decode cX11_isKnown 0 = .ok (.iload_n 0, 1) := by decide +kernel
theorem V.dX11_isKnown_1 : decode cX11_isKnown 1 = .ok (.ifCond .lt 9, 3) := by decide +kernel
theorem V.dX11_isKnown_4 : decode cX11_isKnown 4 = .ok (.iload_n 0, 1) := by decide +kernel
theorem V.dX11_isKnown_5 : decode cX11_isKnown 5 = .ok (.bipush 6, 2) := by decide +kernel
theorem V.dX11_isKnown_7 : decode cX11_isKnown 7 = .ok (.if_icmp .lt 80, 3) := by decide +kernel
theorem V.dX11_isKnown_10 : decode cX11_isKnown 10 = .ok (.iload_n 0, 1) := by decide +kernel
theorem V.dX11_isKnown_11 : decode cX11_isKnown 11 = .ok (.bipush 10, 2) := by decide +kernel
theorem V.dX11_isKnown_13 : decode cX11_isKnown 13 = .ok (.if_icmp .le 9, 3) := by decide +kernel
theorem V.dX11_isKnown_16 : decode cX11_isKnown 16 = .ok (.iload_n 0, 1) := by decide +kernel
theorem V.dX11_isKnown_17 : decode cX11_isKnown 17 = .ok (.bipush 18, 2) := by decide +kernel
theorem V.dX11_isKnown_19 : decode cX11_isKnown 19 = .ok (.if_icmp .lt 68, 3) := by decide +kernel
theorem V.dX11_isKnown_22 : decode cX11_isKnown 22 = .ok (.iload_n 0, 1) := by decide +kernel
theorem V.dX11_isKnown_23 : decode cX11_isKnown 23 = .ok (.bipush 25, 2) := by decide +kernel
theorem V.dX11_isKnown_25 : decode cX11_isKnown 25 = .ok (.if_icmp .le 9, 3) := by decide +kernel
theorem V.dX11_isKnown_28 : decode cX11_isKnown 28 = .ok (.iload_n 0, 1) := by decide +kernel
theorem V.dX11_isKnown_29 : decode cX11_isKnown 29 = .ok (.bipush 29, 2) := by decide +kernel
theorem V.dX11_isKnown_31 : decode cX11_isKnown 31 = .ok (.if_icmp .lt 56, 3) := by decide +kernel
theorem V.dX11_isKnown_34 : decode cX11_isKnown 34 = .ok (.iload_n 0, 1) := by decide +kernel
theorem V.dX11_isKnown_35 : decode cX11_isKnown 35 = .ok (.bipush 31, 2) := by decide +kernel
theorem V.dX11_isKnown_37 : decode cX11_isKnown 37 = .ok (.if_icmp .le 9, 3) := by decide +kernel
theorem V.dX11_isKnown_40 : decode cX11_isKnown 40 = .ok (.iload_n 0, 1) := by decide +kernel
theorem V.dX11_isKnown_41 : decode cX11_isKnown 41 = .ok (.bipush 39, 2) := by decide +kernel
theorem V.dX11_isKnown_43 : decode cX11_isKnown 43 = .ok (.if_icmp .lt 44, 3) := by decide +kernel
theorem V.dX11_isKnown_46 : decode cX11_isKnown 46 = .ok (.iload_n 0, 1) := by decide +kernel
theorem V.dX11_isKnown_47 : decode cX11_isKnown 47 = .ok (.bipush 39, 2) := by decide +kernel
theorem V.dX11_isKnown_49 : decode cX11_isKnown 49 = .ok (.if_icmp .le 10, 3) := by decide +kernel
theorem V.dX11_isKnown_52 : decode cX11_isKnown 52 = .ok (.iload_n 0, 1) := by decide +kernel
theorem V.dX11_isKnown_53 : decode cX11_isKnown 53 = .ok (.sipush 197, 3) := by decide +kernel
theorem V.dX11_isKnown_56 : decode cX11_isKnown 56 = .ok (.if_icmp .lt 31, 3) := by decide +kernel
theorem V.dX11_isKnown_59 : decode cX11_isKnown 59 = .ok (.iload_n 0, 1) := by decide +kernel
theorem V.dX11_isKnown_60 : decode cX11_isKnown 60 = .ok (.sipush 207, 3) := by decide +kernel
theorem V.dX11_isKnown_63 : decode cX11_isKnown 63 = .ok (.if_icmp .le 10, 3) := by decide +kernel
theorem V.dX11_isKnown_66 : decode cX11_isKnown 66 = .ok (.iload_n 0, 1) := by decide +kernel
theorem V.dX11_isKnown_67 : decode cX11_isKnown 67 = .ok (.sipush 211, 3) := by decide +kernel
theorem V.dX11_isKnown_70 : decode cX11_isKnown 70 = .ok (.if_icmp .lt 17, 3) := by decide +kernel
theorem V.dX11_isKnown_73 : decode cX11_isKnown 73 = .ok (.iload_n 0, 1) := by decide +kernel
theorem V.dX11_isKnown_74 : decode cX11_isKnown 74 = .ok (.sipush 255, 3) := by decide +kernel
theorem V.dX11_isKnown_77 : decode cX11_isKnown 77 = .ok (.if_icmp .le 14, 3) := by decide +kernel
theorem V.dX11_isKnown_80 : decode cX11_isKnown 80 = .ok (.iload_n 0, 1) := by decide +kernel
theorem V.dX11_isKnown_81 : decode cX11_isKnown 81 = .ok (.sipush 274, 3) := by decide +kernel
theorem V.dX11_isKnown_84 : decode cX11_isKnown 84 = .ok (.if_icmp .ge 7, 3) := by decide +kernel
theorem V.dX11_isKnown_87 : decode cX11_isKnown 87 = .ok (.iconst 1, 1) := by decide +kernel
theorem V.dX11_isKnown_88 : decode cX11_isKnown 88 = .ok (.goto 4, 3) := by decide +kernel
theorem V.dX11_isKnown_91 : decode cX11_isKnown 91 = .ok (.iconst 0, 1) := by decide +kernel
theorem V.dX11_isKnown_92 : decode cX11_isKnown 92 = .ok (.ireturn, 1) := by decide +kernel
/-! ModuleEngine$Checker.isKnown(I)Z -/
def V.Chk_isKnown_p87  (σ : HS)  : Option (Int32 × HS) :=
  some ((1 : Int32), σ)
theorem V.gX11_isKnown_p87 {X : CX}  (σ : HS)  : G X RX11 "isKnown" cX11_isKnown 1 (some .boolean) 0 0 enI 87 [] [] σ (Chk_isKnown_p87 σ ) := by
  unfold Chk_isKnown_p87
  refine g_iconst (v := 1) dX11_isKnown_87 (by decide) ?_
  refine g_goto 92 dX11_isKnown_88 (by decide) ?_
  exact g_zreturn rfl (by decide +kernel) dX11_isKnown_92
def V.Chk_isKnown_p73  (σ : HS) (x0 : Int32) : Option (Int32 × HS) :=
  if x0 ≤ (255 : Int32) then (
    some ((0 : Int32), σ))
  else (
    if (274 : Int32) ≤ x0 then (
      some ((0 : Int32), σ))
    else (
      Chk_isKnown_p87 σ))
theorem V.gX11_isKnown_p73 {X : CX}  (σ : HS) (x0 : Int32) : G X RX11 "isKnown" cX11_isKnown 1 (some .boolean) 0 0 enI 73 [(0, iv x0)] [] σ (Chk_isKnown_p73 σ x0) := by
  unfold Chk_isKnown_p73
  refine g_iload_n 0 0 dX11_isKnown_73 rfl rfl ?_
  refine g_sipush (v := 255) dX11_isKnown_74 (by decide) ?_
  refine g_icmp_le 91 dX11_isKnown_77 (by decide) ?_ ?_
  · refine g_iconst (v := 0) dX11_isKnown_91 (by decide) ?_
    exact g_zreturn rfl (by decide +kernel) dX11_isKnown_92
  · refine g_iload_n 0 0 dX11_isKnown_80 rfl rfl ?_
    refine g_sipush (v := 274) dX11_isKnown_81 (by decide) ?_
    refine g_icmp_ge 91 dX11_isKnown_84 (by decide) ?_ ?_
    · refine g_iconst (v := 0) dX11_isKnown_91 (by decide) ?_
      exact g_zreturn rfl (by decide +kernel) dX11_isKnown_92
    · refine G.sub [] rfl ?_
      exact gX11_isKnown_p87 _
def V.Chk_isKnown_p59  (σ : HS) (x0 : Int32) : Option (Int32 × HS) :=
  if x0 ≤ (207 : Int32) then (
    Chk_isKnown_p73 σ x0)
  else (
    if x0 < (211 : Int32) then (
      Chk_isKnown_p87 σ)
    else (
      Chk_isKnown_p73 σ x0))
theorem V.gX11_isKnown_p59 {X : CX}  (σ : HS) (x0 : Int32) : G X RX11 "isKnown" cX11_isKnown 1 (some .boolean) 0 0 enI 59 [(0, iv x0)] [] σ (Chk_isKnown_p59 σ x0) := by
  unfold Chk_isKnown_p59
  refine g_iload_n 0 0 dX11_isKnown_59 rfl rfl ?_
  refine g_sipush (v := 207) dX11_isKnown_60 (by decide) ?_
  refine g_icmp_le 73 dX11_isKnown_63 (by decide) ?_ ?_
  · exact gX11_isKnown_p73 _ _
  · refine g_iload_n 0 0 dX11_isKnown_66 rfl rfl ?_
    refine g_sipush (v := 211) dX11_isKnown_67 (by decide) ?_
    refine g_icmp_lt 87 dX11_isKnown_70 (by decide) ?_ ?_
    · refine G.sub [] rfl ?_
      exact gX11_isKnown_p87 _
    · exact gX11_isKnown_p73 _ _
def V.Chk_isKnown_p46  (σ : HS) (x0 : Int32) : Option (Int32 × HS) :=
  if x0 ≤ (39 : Int32) then (
    Chk_isKnown_p59 σ x0)
  else (
    if x0 < (197 : Int32) then (
      Chk_isKnown_p87 σ)
    else (
      Chk_isKnown_p59 σ x0))
theorem V.gX11_isKnown_p46 {X : CX}  (σ : HS) (x0 : Int32) : G X RX11 "isKnown" cX11_isKnown 1 (some .boolean) 0 0 enI 46 [(0, iv x0)] [] σ (Chk_isKnown_p46 σ x0) := by
  unfold Chk_isKnown_p46
  refine g_iload_n 0 0 dX11_isKnown_46 rfl rfl ?_
  refine g_bipush (v := 39) dX11_isKnown_47 (by decide) ?_
  refine g_icmp_le 59 dX11_isKnown_49 (by decide) ?_ ?_
  · exact gX11_isKnown_p59 _ _
  · refine g_iload_n 0 0 dX11_isKnown_52 rfl rfl ?_
    refine g_sipush (v := 197) dX11_isKnown_53 (by decide) ?_
    refine g_icmp_lt 87 dX11_isKnown_56 (by decide) ?_ ?_
    · refine G.sub [] rfl ?_
      exact gX11_isKnown_p87 _
    · exact gX11_isKnown_p59 _ _
def V.Chk_isKnown_p34  (σ : HS) (x0 : Int32) : Option (Int32 × HS) :=
  if x0 ≤ (31 : Int32) then (
    Chk_isKnown_p46 σ x0)
  else (
    if x0 < (39 : Int32) then (
      Chk_isKnown_p87 σ)
    else (
      Chk_isKnown_p46 σ x0))
theorem V.gX11_isKnown_p34 {X : CX}  (σ : HS) (x0 : Int32) : G X RX11 "isKnown" cX11_isKnown 1 (some .boolean) 0 0 enI 34 [(0, iv x0)] [] σ (Chk_isKnown_p34 σ x0) := by
  unfold Chk_isKnown_p34
  refine g_iload_n 0 0 dX11_isKnown_34 rfl rfl ?_
  refine g_bipush (v := 31) dX11_isKnown_35 (by decide) ?_
  refine g_icmp_le 46 dX11_isKnown_37 (by decide) ?_ ?_
  · exact gX11_isKnown_p46 _ _
  · refine g_iload_n 0 0 dX11_isKnown_40 rfl rfl ?_
    refine g_bipush (v := 39) dX11_isKnown_41 (by decide) ?_
    refine g_icmp_lt 87 dX11_isKnown_43 (by decide) ?_ ?_
    · refine G.sub [] rfl ?_
      exact gX11_isKnown_p87 _
    · exact gX11_isKnown_p46 _ _
def V.Chk_isKnown_p22  (σ : HS) (x0 : Int32) : Option (Int32 × HS) :=
  if x0 ≤ (25 : Int32) then (
    Chk_isKnown_p34 σ x0)
  else (
    if x0 < (29 : Int32) then (
      Chk_isKnown_p87 σ)
    else (
      Chk_isKnown_p34 σ x0))
theorem V.gX11_isKnown_p22 {X : CX}  (σ : HS) (x0 : Int32) : G X RX11 "isKnown" cX11_isKnown 1 (some .boolean) 0 0 enI 22 [(0, iv x0)] [] σ (Chk_isKnown_p22 σ x0) := by
  unfold Chk_isKnown_p22
  refine g_iload_n 0 0 dX11_isKnown_22 rfl rfl ?_
  refine g_bipush (v := 25) dX11_isKnown_23 (by decide) ?_
  refine g_icmp_le 34 dX11_isKnown_25 (by decide) ?_ ?_
  · exact gX11_isKnown_p34 _ _
  · refine g_iload_n 0 0 dX11_isKnown_28 rfl rfl ?_
    refine g_bipush (v := 29) dX11_isKnown_29 (by decide) ?_
    refine g_icmp_lt 87 dX11_isKnown_31 (by decide) ?_ ?_
    · refine G.sub [] rfl ?_
      exact gX11_isKnown_p87 _
    · exact gX11_isKnown_p34 _ _
def V.Chk_isKnown_p10  (σ : HS) (x0 : Int32) : Option (Int32 × HS) :=
  if x0 ≤ (10 : Int32) then (
    Chk_isKnown_p22 σ x0)
  else (
    if x0 < (18 : Int32) then (
      Chk_isKnown_p87 σ)
    else (
      Chk_isKnown_p22 σ x0))
theorem V.gX11_isKnown_p10 {X : CX}  (σ : HS) (x0 : Int32) : G X RX11 "isKnown" cX11_isKnown 1 (some .boolean) 0 0 enI 10 [(0, iv x0)] [] σ (Chk_isKnown_p10 σ x0) := by
  unfold Chk_isKnown_p10
  refine g_iload_n 0 0 dX11_isKnown_10 rfl rfl ?_
  refine g_bipush (v := 10) dX11_isKnown_11 (by decide) ?_
  refine g_icmp_le 22 dX11_isKnown_13 (by decide) ?_ ?_
  · exact gX11_isKnown_p22 _ _
  · refine g_iload_n 0 0 dX11_isKnown_16 rfl rfl ?_
    refine g_bipush (v := 18) dX11_isKnown_17 (by decide) ?_
    refine g_icmp_lt 87 dX11_isKnown_19 (by decide) ?_ ?_
    · refine G.sub [] rfl ?_
      exact gX11_isKnown_p87 _
    · exact gX11_isKnown_p22 _ _
def V.Chk_isKnown (σ : HS) (x0 : Int32) : Option (Int32 × HS) :=
  if x0 < 0 then (
    Chk_isKnown_p10 σ x0)
  else (
    if x0 < (6 : Int32) then (
      Chk_isKnown_p87 σ)
    else (
      Chk_isKnown_p10 σ x0))
theorem V.ctX11_isKnown (x0 : Int32) : Ct yX11_isKnown  cX11_isKnown 1 (some .boolean) 0 0 eI [iv x0] (fun σ => Chk_isKnown σ x0) := by
  refine Ct.of (own := RX11) (nm := "isKnown") (desc := "(I)Z") rfl (by decide) (Nat.le_of_ble_eq_true rfl) (by decide) (fun X σ => ?_)
  show G X RX11 "isKnown" cX11_isKnown 1 (some .boolean) 0 0 enI 0 [(0, iv x0)] [] σ (Chk_isKnown σ x0)
  unfold Chk_isKnown
  refine g_iload_n 0 0 dX11_isKnown_0 rfl rfl ?_
  refine g_if_lt 10 dX11_isKnown_1 (by decide) ?_ ?_
  · exact gX11_isKnown_p10 _ _
  · refine g_iload_n 0 0 dX11_isKnown_4 rfl rfl ?_
    refine g_bipush (v := 6) dX11_isKnown_5 (by decide) ?_
    refine g_icmp_lt 87 dX11_isKnown_7 (by decide) ?_ ?_
    · refine G.sub [] rfl ?_
      exact gX11_isKnown_p87 _
    · exact gX11_isKnown_p10 _ _
theorem V.dX11_isReference_0 : decode cX11_isReference 0 = .ok (.iload_n 0, 1) := by decide +kernel
theorem V.dX11_isReference_1 : decode cX11_isReference 1 = .ok (.bipush 112, 2) := by decide +kernel
theorem V.dX11_isReference_3 : decode cX11_isReference 3 = .ok (.if_icmp .eq 9, 3) := by decide +kernel
theorem V.dX11_isReference_6 : decode cX11_isReference 6 = .ok (.iload_n 0, 1) := by decide +kernel
theorem V.dX11_isReference_7 : decode cX11_isReference 7 = .ok (.bipush 111, 2) := by decide +kernel
theorem V.dX11_isReference_9 : decode cX11_isReference 9 = .ok (.if_icmp .ne 7, 3) := by decide +kernel
theorem V.dX11_isReference_12 : decode cX11_isReference 12 = .ok (.iconst 1, 1) := by decide +kernel
theorem V.dX11_isReference_13 : decode cX11_isReference 13 = .ok (.goto 4, 3) := by decide +kernel
theorem V.dX11_isReference_16 : decode cX11_isReference 16 = .ok (.iconst 0, 1) := by decide +kernel
theorem V.dX11_isReference_17 : decode cX11_isReference 17 = .ok (.ireturn, 1) := by decide +kernel
/-! ModuleEngine$Checker.isReference(I)Z -/
def V.Chk_isReference_p12  (σ : HS)  : Option (Int32 × HS) :=
  some ((1 : Int32), σ)
theorem V.gX11_isReference_p12 {X : CX}  (σ : HS)  : G X RX11 "isReference" cX11_isReference 1 (some .boolean) 0 0 enI 12 [] [] σ (Chk_isReference_p12 σ ) := by
  unfold Chk_isReference_p12
  refine g_iconst (v := 1) dX11_isReference_12 (by decide) ?_
  refine g_goto 17 dX11_isReference_13 (by decide) ?_
  exact g_zreturn rfl (by decide +kernel) dX11_isReference_17
def V.Chk_isReference (σ : HS) (x0 : Int32) : Option (Int32 × HS) :=
  if x0 = (112 : Int32) then (
    Chk_isReference_p12 σ)
  else (
    if x0 = (111 : Int32) then (
      Chk_isReference_p12 σ)
    else (
      some ((0 : Int32), σ)))
theorem V.ctX11_isReference (x0 : Int32) : Ct yX11_isReference  cX11_isReference 1 (some .boolean) 0 0 eI [iv x0] (fun σ => Chk_isReference σ x0) := by
  refine Ct.of (own := RX11) (nm := "isReference") (desc := "(I)Z") rfl (by decide) (Nat.le_of_ble_eq_true rfl) (by decide) (fun X σ => ?_)
  show G X RX11 "isReference" cX11_isReference 1 (some .boolean) 0 0 enI 0 [(0, iv x0)] [] σ (Chk_isReference σ x0)
  unfold Chk_isReference
  refine g_iload_n 0 0 dX11_isReference_0 rfl rfl ?_
  refine g_bipush (v := 112) dX11_isReference_1 (by decide) ?_
  refine g_icmp_eq 12 dX11_isReference_3 (by decide) ?_ ?_
  · refine G.sub [] rfl ?_
    exact gX11_isReference_p12 _
  · refine g_iload_n 0 0 dX11_isReference_6 rfl rfl ?_
    refine g_bipush (v := 111) dX11_isReference_7 (by decide) ?_
    refine g_icmp_ne 16 dX11_isReference_9 (by decide) ?_ ?_
    · refine g_iconst (v := 0) dX11_isReference_16 (by decide) ?_
      exact g_zreturn rfl (by decide +kernel) dX11_isReference_17
    · refine G.sub [] rfl ?_
      exact gX11_isReference_p12 _
theorem V.dX11_isValue_0 : decode cX11_isValue 0 = .ok (.iload_n 0, 1) := by decide +kernel
theorem V.dX11_isValue_1 : decode cX11_isValue 1 = .ok (.bipush 124, 2) := by decide +kernel
theorem V.dX11_isValue_3 : decode cX11_isValue 3 = .ok (.if_icmp .lt 9, 3) := by decide +kernel
theorem V.dX11_isValue_6 : decode cX11_isValue 6 = .ok (.iload_n 0, 1) := by decide +kernel
theorem V.dX11_isValue_7 : decode cX11_isValue 7 = .ok (.bipush 127, 2) := by decide +kernel
theorem V.dX11_isValue_9 : decode cX11_isValue 9 = .ok (.if_icmp .le 10, 3) := by decide +kernel
theorem V.dX11_isValue_12 : decode cX11_isValue 12 = .ok (.iload_n 0, 1) := by decide +kernel
theorem V.dX11_isValue_13 : decode cX11_isValue 13 = .ok (.invokestatic 55, 3) := by decide +kernel
theorem V.dX11_isValue_16 : decode cX11_isValue 16 = .ok (.ifCond .eq 7, 3) := by decide +kernel
theorem V.dX11_isValue_19 : decode cX11_isValue 19 = .ok (.iconst 1, 1) := by decide +kernel
theorem V.dX11_isValue_20 : decode cX11_isValue 20 = .ok (.goto 4, 3) := by decide +kernel
theorem V.dX11_isValue_23 : decode cX11_isValue 23 = .ok (.iconst 0, 1) := by decide +kernel
theorem V.dX11_isValue_24 : decode cX11_isValue 24 = .ok (.ireturn, 1) := by decide +kernel
theorem V.mdX11_55 : MD RX11 55 yX11_isReference cX11_isReference 1 (some .boolean) 1 := ⟨Or.inl q1801, q371, q1803, by decide, by decide, by decide +kernel⟩
/-! ModuleEngine$Checker.isValue(I)Z -/
def V.Chk_isValue_p19  (σ : HS)  : Option (Int32 × HS) :=
  some ((1 : Int32), σ)
theorem V.gX11_isValue_p19 {X : CX}  (σ : HS)  : G X RX11 "isValue" cX11_isValue 1 (some .boolean) 1 20 enI 19 [] [] σ (Chk_isValue_p19 σ ) := by
  unfold Chk_isValue_p19
  refine g_iconst (v := 1) dX11_isValue_19 (by decide) ?_
  refine g_goto 24 dX11_isValue_20 (by decide) ?_
  exact g_zreturn rfl (by decide +kernel) dX11_isValue_24
def V.Chk_isValue_p12  (σ : HS) (x0 : Int32) : Option (Int32 × HS) :=
  cl (Chk_isReference σ x0) fun r2 σ1 =>
  if r2 = 0 then (
    some ((0 : Int32), σ1))
  else (
    Chk_isValue_p19 σ1)
theorem V.gX11_isValue_p12 {X : CX}  (σ : HS) (x0 : Int32) : G X RX11 "isValue" cX11_isValue 1 (some .boolean) 1 20 enI 12 [(0, iv x0)] [] σ (Chk_isValue_p12 σ x0) := by
  unfold Chk_isValue_p12
  refine g_iload_n 0 0 dX11_isValue_12 rfl rfl ?_
  refine g_callS (fc := fun sς => Chk_isReference sς x0) (as := [iv x0]) q1802 mdX11_55 (ctX11_isReference x0) rfl (Nat.le_of_ble_eq_true rfl) (Nat.le_of_ble_eq_true rfl) (Nat.le_of_ble_eq_true rfl) pu_I dX11_isValue_13 (fun r2 σ1 => ?_)
  refine g_if_eq 23 dX11_isValue_16 (by decide) ?_ ?_
  · refine g_iconst (v := 0) dX11_isValue_23 (by decide) ?_
    exact g_zreturn rfl (by decide +kernel) dX11_isValue_24
  · refine G.sub [] rfl ?_
    exact gX11_isValue_p19 _
def V.Chk_isValue (σ : HS) (x0 : Int32) : Option (Int32 × HS) :=
  if x0 < (124 : Int32) then (
    Chk_isValue_p12 σ x0)
  else (
    if x0 ≤ (127 : Int32) then (
      Chk_isValue_p19 σ)
    else (
      Chk_isValue_p12 σ x0))
theorem V.ctX11_isValue (x0 : Int32) : Ct yX11_isValue  cX11_isValue 1 (some .boolean) 1 20 eI [iv x0] (fun σ => Chk_isValue σ x0) := by
  refine Ct.of (own := RX11) (nm := "isValue") (desc := "(I)Z") rfl (by decide) (Nat.le_of_ble_eq_true rfl) (by decide) (fun X σ => ?_)
  show G X RX11 "isValue" cX11_isValue 1 (some .boolean) 1 20 enI 0 [(0, iv x0)] [] σ (Chk_isValue σ x0)
  unfold Chk_isValue
  refine g_iload_n 0 0 dX11_isValue_0 rfl rfl ?_
  refine g_bipush (v := 124) dX11_isValue_1 (by decide) ?_
  refine g_icmp_lt 12 dX11_isValue_3 (by decide) ?_ ?_
  · exact gX11_isValue_p12 _ _
  · refine g_iload_n 0 0 dX11_isValue_6 rfl rfl ?_
    refine g_bipush (v := 127) dX11_isValue_7 (by decide) ?_
    refine g_icmp_le 19 dX11_isValue_9 (by decide) ?_ ?_
    · refine G.sub [] rfl ?_
      exact gX11_isValue_p19 _
    · exact gX11_isValue_p12 _ _
theorem V.dX11_isForm_0 : decode cX11_isForm 0 = .ok (.iload_n 0, 1) := by decide +kernel
theorem V.dX11_isForm_1 : decode cX11_isForm 1 = .ok (.iconst 1, 1) := by decide +kernel
theorem V.dX11_isForm_2 : decode cX11_isForm 2 = .ok (.if_icmp .le 35, 3) := by decide +kernel
theorem V.dX11_isForm_5 : decode cX11_isForm 5 = .ok (.iload_n 0, 1) := by decide +kernel
theorem V.dX11_isForm_6 : decode cX11_isForm 6 = .ok (.iconst 5, 1) := by decide +kernel
theorem V.dX11_isForm_7 : decode cX11_isForm 7 = .ok (.if_icmp .ge 30, 3) := by decide +kernel
theorem V.dX11_isForm_10 : decode cX11_isForm 10 = .ok (.iload_n 1, 1) := by decide +kernel
theorem V.dX11_isForm_11 : decode cX11_isForm 11 = .ok (.ifCond .ge 20, 3) := by decide +kernel
theorem V.dX11_isForm_14 : decode cX11_isForm 14 = .ok (.iload_n 1, 1) := by decide +kernel
theorem V.dX11_isForm_15 : decode cX11_isForm 15 = .ok (.bipush (-64), 2) := by decide +kernel
theorem V.dX11_isForm_17 : decode cX11_isForm 17 = .ok (.if_icmp .eq 14, 3) := by decide +kernel
theorem V.dX11_isForm_20 : decode cX11_isForm 20 = .ok (.iload_n 1, 1) := by decide +kernel
theorem V.dX11_isForm_21 : decode cX11_isForm 21 = .ok (.sipush 128, 3) := by decide +kernel
theorem V.dX11_isForm_24 : decode cX11_isForm 24 = .ok (.iadd, 1) := by decide +kernel
theorem V.dX11_isForm_25 : decode cX11_isForm 25 = .ok (.invokestatic 288, 3) := by decide +kernel
theorem V.dX11_isForm_28 : decode cX11_isForm 28 = .ok (.ifCond .eq 7, 3) := by decide +kernel
theorem V.dX11_isForm_31 : decode cX11_isForm 31 = .ok (.iconst 1, 1) := by decide +kernel
theorem V.dX11_isForm_32 : decode cX11_isForm 32 = .ok (.goto 4, 3) := by decide +kernel
theorem V.dX11_isForm_35 : decode cX11_isForm 35 = .ok (.iconst 0, 1) := by decide +kernel
theorem V.dX11_isForm_36 : decode cX11_isForm 36 = .ok (.ireturn, 1) := by decide +kernel
theorem V.dX11_isForm_37 : decode cX11_isForm 37 = .ok (.iload_n 0, 1) := by decide +kernel
theorem V.dX11_isForm_38 : decode cX11_isForm 38 = .ok (.bipush 28, 2) := by decide +kernel
theorem V.dX11_isForm_40 : decode cX11_isForm 40 = .ok (.if_icmp .ne 10, 3) := by decide +kernel
theorem V.dX11_isForm_43 : decode cX11_isForm 43 = .ok (.iload_n 1, 1) := by decide +kernel
theorem V.dX11_isForm_44 : decode cX11_isForm 44 = .ok (.invokestatic 288, 3) := by decide +kernel
theorem V.dX11_isForm_47 : decode cX11_isForm 47 = .ok (.goto 22, 3) := by decide +kernel
theorem V.dX11_isForm_50 : decode cX11_isForm 50 = .ok (.iload_n 0, 1) := by decide +kernel
theorem V.dX11_isForm_51 : decode cX11_isForm 51 = .ok (.sipush 208, 3) := by decide +kernel
theorem V.dX11_isForm_54 : decode cX11_isForm 54 = .ok (.if_icmp .ne 10, 3) := by decide +kernel
theorem V.dX11_isForm_57 : decode cX11_isForm 57 = .ok (.iload_n 1, 1) := by decide +kernel
theorem V.dX11_isForm_58 : decode cX11_isForm 58 = .ok (.invokestatic 55, 3) := by decide +kernel
theorem V.dX11_isForm_61 : decode cX11_isForm 61 = .ok (.ifCond .eq 7, 3) := by decide +kernel
theorem V.dX11_isForm_64 : decode cX11_isForm 64 = .ok (.iconst 1, 1) := by decide +kernel
theorem V.dX11_isForm_65 : decode cX11_isForm 65 = .ok (.goto 4, 3) := by decide +kernel
theorem V.dX11_isForm_68 : decode cX11_isForm 68 = .ok (.iconst 0, 1) := by decide +kernel
theorem V.dX11_isForm_69 : decode cX11_isForm 69 = .ok (.ireturn, 1) := by decide +kernel
theorem V.mdX11_288 : MD RX11 288 yX11_isValue cX11_isValue 1 (some .boolean) 1 := ⟨Or.inl q1798, q371, q1800, by decide, by decide, by decide +kernel⟩
/-! ModuleEngine$Checker.isForm(II)Z -/
def V.Chk_isForm_p64  (σ : HS)  : Option (Int32 × HS) :=
  some ((1 : Int32), σ)
theorem V.gX11_isForm_p64 {X : CX}  (σ : HS)  : G X RX11 "isForm" cX11_isForm 2 (some .boolean) 2 40 enI 64 [] [] σ (Chk_isForm_p64 σ ) := by
  unfold Chk_isForm_p64
  refine g_iconst (v := 1) dX11_isForm_64 (by decide) ?_
  refine g_goto 69 dX11_isForm_65 (by decide) ?_
  exact g_zreturn rfl (by decide +kernel) dX11_isForm_69
def V.Chk_isForm_p37  (σ : HS) (x0 : Int32) (x1 : Int32) : Option (Int32 × HS) :=
  if x0 = (28 : Int32) then (
    cl (Chk_isValue σ x1) fun r4 σ3 =>
    ck (zb r4) (some (r4, σ3)))
  else (
    if x0 = (208 : Int32) then (
      cl (Chk_isReference σ x1) fun r2 σ1 =>
      if r2 = 0 then (
        some ((0 : Int32), σ1))
      else (
        Chk_isForm_p64 σ1))
    else (
      Chk_isForm_p64 σ))
theorem V.gX11_isForm_p37 {X : CX}  (σ : HS) (x0 : Int32) (x1 : Int32) : G X RX11 "isForm" cX11_isForm 2 (some .boolean) 2 40 enI 37 [(0, iv x0), (1, iv x1)] [] σ (Chk_isForm_p37 σ x0 x1) := by
  unfold Chk_isForm_p37
  refine g_iload_n 0 0 dX11_isForm_37 rfl rfl ?_
  refine g_bipush (v := 28) dX11_isForm_38 (by decide) ?_
  refine g_icmp_ne 50 dX11_isForm_40 (by decide) ?_ ?_
  · refine g_iload_n 0 0 dX11_isForm_50 rfl rfl ?_
    refine g_sipush (v := 208) dX11_isForm_51 (by decide) ?_
    refine g_icmp_ne 64 dX11_isForm_54 (by decide) ?_ ?_
    · refine G.sub [] rfl ?_
      exact gX11_isForm_p64 _
    · refine g_iload_n 1 1 dX11_isForm_57 rfl rfl ?_
      refine g_callS (fc := fun sς => Chk_isReference sς x1) (as := [iv x1]) q1802 mdX11_55 (ctX11_isReference x1) rfl (Nat.le_of_ble_eq_true rfl) (Nat.le_of_ble_eq_true rfl) (Nat.le_of_ble_eq_true rfl) pu_I dX11_isForm_58 (fun r2 σ1 => ?_)
      refine g_if_eq 68 dX11_isForm_61 (by decide) ?_ ?_
      · refine g_iconst (v := 0) dX11_isForm_68 (by decide) ?_
        exact g_zreturn rfl (by decide +kernel) dX11_isForm_69
      · refine G.sub [] rfl ?_
        exact gX11_isForm_p64 _
  · refine g_iload_n 1 1 dX11_isForm_43 rfl rfl ?_
    refine g_callS (fc := fun sς => Chk_isValue sς x1) (as := [iv x1]) q1799 mdX11_288 (ctX11_isValue x1) rfl (Nat.le_of_ble_eq_true rfl) (Nat.le_of_ble_eq_true rfl) (Nat.le_of_ble_eq_true rfl) pu_I dX11_isForm_44 (fun r4 σ3 => ?_)
    refine g_goto 69 dX11_isForm_47 (by decide) ?_
    exact g_zreturnc rfl dX11_isForm_69
def V.Chk_isForm_p31  (σ : HS)  : Option (Int32 × HS) :=
  some ((1 : Int32), σ)
theorem V.gX11_isForm_p31 {X : CX}  (σ : HS)  : G X RX11 "isForm" cX11_isForm 2 (some .boolean) 2 40 enI 31 [] [] σ (Chk_isForm_p31 σ ) := by
  unfold Chk_isForm_p31
  refine g_iconst (v := 1) dX11_isForm_31 (by decide) ?_
  refine g_goto 36 dX11_isForm_32 (by decide) ?_
  exact g_zreturn rfl (by decide +kernel) dX11_isForm_36
def V.Chk_isForm (σ : HS) (x0 : Int32) (x1 : Int32) : Option (Int32 × HS) :=
  if x0 ≤ (1 : Int32) then (
    Chk_isForm_p37 σ x0 x1)
  else (
    if (5 : Int32) ≤ x0 then (
      Chk_isForm_p37 σ x0 x1)
    else (
      if 0 ≤ x1 then (
        Chk_isForm_p31 σ)
      else (
        if x1 = (-64 : Int32) then (
          Chk_isForm_p31 σ)
        else (
          cl (Chk_isValue σ (x1 + (128 : Int32))) fun r2 σ1 =>
          if r2 = 0 then (
            some ((0 : Int32), σ1))
          else (
            Chk_isForm_p31 σ1)))))
theorem V.ctX11_isForm (x0 : Int32) (x1 : Int32) : Ct yX11_isForm  cX11_isForm 2 (some .boolean) 2 40 eI [iv x0, iv x1] (fun σ => Chk_isForm σ x0 x1) := by
  refine Ct.of (own := RX11) (nm := "isForm") (desc := "(II)Z") rfl (by decide) (Nat.le_of_ble_eq_true rfl) (by decide) (fun X σ => ?_)
  show G X RX11 "isForm" cX11_isForm 2 (some .boolean) 2 40 enI 0 [(0, iv x0), (1, iv x1)] [] σ (Chk_isForm σ x0 x1)
  unfold Chk_isForm
  refine g_iload_n 0 0 dX11_isForm_0 rfl rfl ?_
  refine g_iconst (v := 1) dX11_isForm_1 (by decide) ?_
  refine g_icmp_le 37 dX11_isForm_2 (by decide) ?_ ?_
  · exact gX11_isForm_p37 _ _ _
  · refine g_iload_n 0 0 dX11_isForm_5 rfl rfl ?_
    refine g_iconst (v := 5) dX11_isForm_6 (by decide) ?_
    refine g_icmp_ge 37 dX11_isForm_7 (by decide) ?_ ?_
    · exact gX11_isForm_p37 _ _ _
    · refine g_iload_n 1 1 dX11_isForm_10 rfl rfl ?_
      refine g_if_ge 31 dX11_isForm_11 (by decide) ?_ ?_
      · refine G.sub [] rfl ?_
        exact gX11_isForm_p31 _
      · refine g_iload_n 1 1 dX11_isForm_14 rfl rfl ?_
        refine g_bipush (v := (-64)) dX11_isForm_15 (by decide) ?_
        refine g_icmp_eq 31 dX11_isForm_17 (by decide) ?_ ?_
        · refine G.sub [] rfl ?_
          exact gX11_isForm_p31 _
        · refine g_iload_n 1 1 dX11_isForm_20 rfl rfl ?_
          refine g_sipush (v := 128) dX11_isForm_21 (by decide) ?_
          refine g_iadd dX11_isForm_24 ?_
          refine g_callS (fc := fun sς => Chk_isValue sς (x1 + (128 : Int32))) (as := [iv (x1 + (128 : Int32))]) q1799 mdX11_288 (ctX11_isValue (x1 + (128 : Int32))) rfl (Nat.le_of_ble_eq_true rfl) (Nat.le_of_ble_eq_true rfl) (Nat.le_of_ble_eq_true rfl) pu_I dX11_isForm_25 (fun r2 σ1 => ?_)
          refine g_if_eq 35 dX11_isForm_28 (by decide) ?_ ?_
          · refine g_iconst (v := 0) dX11_isForm_35 (by decide) ?_
            exact g_zreturn rfl (by decide +kernel) dX11_isForm_36
          · refine G.sub [] rfl ?_
            exact gX11_isForm_p31 _
theorem V.dX11_inner_0 : decode cX11_inner 0 = .ok (.aload_n 0, 1) := by decide +kernel
theorem V.dX11_inner_1 : decode cX11_inner 1 = .ok (.getfield 16, 3) := by decide +kernel
theorem V.dX11_inner_4 : decode cX11_inner 4 = .ok (.invokevirtual 107, 3) := by decide +kernel
theorem V.dX11_inner_7 : decode cX11_inner 7 = .ok (.iconst 1, 1) := by decide +kernel
theorem V.dX11_inner_8 : decode cX11_inner 8 = .ok (.isub, 1) := by decide +kernel
theorem V.dX11_inner_9 : decode cX11_inner 9 = .ok (.ireturn, 1) := by decide +kernel
/-! ModuleEngine$Checker.inner()I -/
def V.Chk_inner (σ : HS) (x0 : Nat) : Option (Int32 × HS) :=
  ck (tg σ x0 = 12) <|
  ck (tg σ (gR σ x0 5) = 4) <| cl (Row_size σ (gR σ x0 5) ) fun r2 σ1 =>
  some (r2 - (1 : Int32), σ1)
theorem V.ctX11_inner (x0 : Nat) : Ct yX11_inner  cX11_inner 1 (some .int) 1 20 eI [av x0] (fun σ => Chk_inner σ x0) := by
  refine Ct.of (own := RX11) (nm := "inner") (desc := "()I") rfl (by decide) (Nat.le_of_ble_eq_true rfl) (by decide) (fun X σ => ?_)
  show G X RX11 "inner" cX11_inner 1 (some .int) 1 20 enI 0 [(0, av x0)] [] σ (Chk_inner σ x0)
  unfold Chk_inner
  refine g_aload_n 0 0 dX11_inner_0 rfl rfl ?_
  refine g_getR fdX11_16 dX11_inner_1 ?_
  refine g_callV (fc := fun sς => Row_size sς (gR σ x0 5) ) (ci := 3) (as := []) rfl rfl rfl q1421 q1422 mdX11_107 (ctX3_size (gR σ x0 5) ) rfl (Nat.le_of_ble_eq_true rfl) (Nat.le_of_ble_eq_true rfl) (Nat.le_of_ble_eq_true rfl) pu_I dX11_inner_4 (fun r2 σ1 => ?_)
  refine g_iconst (v := 1) dX11_inner_7 (by decide) ?_
  refine g_isub dX11_inner_8 ?_
  exact g_ireturn rfl dX11_inner_9
theorem V.dX11_die_0 : decode cX11_die 0 = .ok (.aload_n 0, 1) := by decide +kernel
theorem V.dX11_die_1 : decode cX11_die 1 = .ok (.getfield 10, 3) := by decide +kernel
theorem V.dX11_die_4 : decode cX11_die 4 = .ok (.aload_n 0, 1) := by decide +kernel
theorem V.dX11_die_5 : decode cX11_die 5 = .ok (.getfield 22, 3) := by decide +kernel
theorem V.dX11_die_8 : decode cX11_die 8 = .ok (.invokevirtual 140, 3) := by decide +kernel
theorem V.dX11_die_11 : decode cX11_die 11 = .ok (.invokevirtual 81, 3) := by decide +kernel
theorem V.dX11_die_14 : decode cX11_die 14 = .ok (.aload_n 0, 1) := by decide +kernel
theorem V.dX11_die_15 : decode cX11_die 15 = .ok (.getfield 25, 3) := by decide +kernel
theorem V.dX11_die_18 : decode cX11_die 18 = .ok (.aload_n 0, 1) := by decide +kernel
theorem V.dX11_die_19 : decode cX11_die 19 = .ok (.invokevirtual 137, 3) := by decide +kernel
theorem V.dX11_die_22 : decode cX11_die 22 = .ok (.iconst 0, 1) := by decide +kernel
theorem V.dX11_die_23 : decode cX11_die 23 = .ok (.invokevirtual 143, 3) := by decide +kernel
theorem V.dX11_die_26 : decode cX11_die 26 = .ok (.return_, 1) := by decide +kernel
theorem V.mdX11_140 : MD RX11 140 yX3_last cX3_last 1 (some .int) 0 := ⟨Or.inl q1812, q363, q1815, by decide, by decide, by decide +kernel⟩
theorem V.mdX11_137 : MD RX11 137 yX11_inner cX11_inner 1 (some .int) 0 := ⟨Or.inl q1816, q371, q1819, by decide, by decide, by decide +kernel⟩
theorem V.mdX11_143 : MD RX11 143 yX3_set cX3_set 3 none 2 := ⟨Or.inl q1820, q363, q1441, by decide, by decide, by decide +kernel⟩
/-! ModuleEngine$Checker.die()V -/
def V.Chk_die (σ : HS) (x0 : Nat) : Option (Unit × HS) :=
  ck (tg σ x0 = 12) <|
  ck (tg σ x0 = 12) <|
  ck (tg σ (gR σ x0 7) = 4) <| cl (Row_last σ (gR σ x0 7) ) fun r2 σ1 =>
  ck (tg σ1 (gR σ x0 4) = 4) <| cl (Row_cut σ1 (gR σ x0 4) r2) fun _ σ3 =>
  ck (tg σ3 x0 = 12) <|
  ck (tg σ3 x0 = 12) <| cl (Chk_inner σ3 x0 ) fun r5 σ4 =>
  ck (tg σ4 (gR σ3 x0 8) = 4) <| cl (Row_set σ4 (gR σ3 x0 8) r5 (0 : Int32)) fun _ σ6 =>
  some ((), σ6)
theorem V.ctX11_die (x0 : Nat) : Ct yX11_die  cX11_die 1 none 2 40 eV [av x0] (fun σ => Chk_die σ x0) := by
  refine Ct.of (own := RX11) (nm := "die") (desc := "()V") rfl (by decide) (Nat.le_of_ble_eq_true rfl) (by decide) (fun X σ => ?_)
  show G X RX11 "die" cX11_die 1 none 2 40 enV 0 [(0, av x0)] [] σ (Chk_die σ x0)
  unfold Chk_die
  refine g_aload_n 0 0 dX11_die_0 rfl rfl ?_
  refine g_getR fdX11_10 dX11_die_1 ?_
  refine g_aload_n 0 0 dX11_die_4 rfl rfl ?_
  refine g_getR fdX11_22 dX11_die_5 ?_
  refine g_callV (fc := fun sς => Row_last sς (gR σ x0 7) ) (ci := 3) (as := []) rfl rfl rfl q1813 q1814 mdX11_140 (ctX3_last (gR σ x0 7) ) rfl (Nat.le_of_ble_eq_true rfl) (Nat.le_of_ble_eq_true rfl) (Nat.le_of_ble_eq_true rfl) pu_I dX11_die_8 (fun r2 σ1 => ?_)
  refine g_callV (fc := fun sς => Row_cut sς (gR σ x0 4) r2) (ci := 3) (as := [iv r2]) rfl rfl rfl q1281 q1282 mdX11_81 (ctX3_cut (gR σ x0 4) r2) rfl (Nat.le_of_ble_eq_true rfl) (Nat.le_of_ble_eq_true rfl) (Nat.le_of_ble_eq_true rfl) pu_V dX11_die_11 (fun _ σ3 => ?_)
  refine g_aload_n 0 0 dX11_die_14 rfl rfl ?_
  refine g_getR fdX11_25 dX11_die_15 ?_
  refine g_aload_n 0 0 dX11_die_18 rfl rfl ?_
  refine g_callV (fc := fun sς => Chk_inner sς x0 ) (ci := 11) (as := []) rfl rfl rfl q1818 qs78 mdX11_137 (ctX11_inner x0 ) rfl (Nat.le_of_ble_eq_true rfl) (Nat.le_of_ble_eq_true rfl) (Nat.le_of_ble_eq_true rfl) pu_I dX11_die_19 (fun r5 σ4 => ?_)
  refine g_iconst (v := 0) dX11_die_22 (by decide) ?_
  refine g_callV (fc := fun sς => Row_set sς (gR σ3 x0 8) r5 (0 : Int32)) (ci := 3) (as := [iv r5, iv (0 : Int32)]) rfl rfl rfl q1439 q1440 mdX11_143 (ctX3_set (gR σ3 x0 8) r5 (0 : Int32)) rfl (Nat.le_of_ble_eq_true rfl) (Nat.le_of_ble_eq_true rfl) (Nat.le_of_ble_eq_true rfl) pu_V dX11_die_23 (fun _ σ6 => ?_)
  exact g_return rfl dX11_die_26
theorem V.dX11_takeAny_0 : decode cX11_takeAny 0 = .ok (.aload_n 0, 1) := by decide +kernel
theorem V.dX11_takeAny_1 : decode cX11_takeAny 1 = .ok (.getfield 10, 3) := by decide +kernel
theorem V.dX11_takeAny_4 : decode cX11_takeAny 4 = .ok (.invokevirtual 107, 3) := by decide +kernel
theorem V.dX11_takeAny_7 : decode cX11_takeAny 7 = .ok (.aload_n 0, 1) := by decide +kernel
theorem V.dX11_takeAny_8 : decode cX11_takeAny 8 = .ok (.getfield 22, 3) := by decide +kernel
theorem V.dX11_takeAny_11 : decode cX11_takeAny 11 = .ok (.invokevirtual 140, 3) := by decide +kernel
theorem V.dX11_takeAny_14 : decode cX11_takeAny 14 = .ok (.if_icmp .ne 25, 3) := by decide +kernel
theorem V.dX11_takeAny_17 : decode cX11_takeAny 17 = .ok (.aload_n 0, 1) := by decide +kernel
theorem V.dX11_takeAny_18 : decode cX11_takeAny 18 = .ok (.aload_n 0, 1) := by decide +kernel
theorem V.dX11_takeAny_19 : decode cX11_takeAny 19 = .ok (.getfield 25, 3) := by decide +kernel
theorem V.dX11_takeAny_22 : decode cX11_takeAny 22 = .ok (.invokevirtual 140, 3) := by decide +kernel
theorem V.dX11_takeAny_25 : decode cX11_takeAny 25 = .ok (.ifCond .ne 7, 3) := by decide +kernel
theorem V.dX11_takeAny_28 : decode cX11_takeAny 28 = .ok (.iconst 1, 1) := by decide +kernel
theorem V.dX11_takeAny_29 : decode cX11_takeAny 29 = .ok (.goto 4, 3) := by decide +kernel
theorem V.dX11_takeAny_32 : decode cX11_takeAny 32 = .ok (.iconst 0, 1) := by decide +kernel
theorem V.dX11_takeAny_33 : decode cX11_takeAny 33 = .ok (.iconst 1, 1) := by decide +kernel
theorem V.dX11_takeAny_34 : decode cX11_takeAny 34 = .ok (.invokevirtual 118, 3) := by decide +kernel
theorem V.dX11_takeAny_37 : decode cX11_takeAny 37 = .ok (.iconst 0, 1) := by decide +kernel
theorem V.dX11_takeAny_38 : decode cX11_takeAny 38 = .ok (.ireturn, 1) := by decide +kernel
theorem V.dX11_takeAny_39 : decode cX11_takeAny 39 = .ok (.aload_n 0, 1) := by decide +kernel
theorem V.dX11_takeAny_40 : decode cX11_takeAny 40 = .ok (.getfield 10, 3) := by decide +kernel
theorem V.dX11_takeAny_43 : decode cX11_takeAny 43 = .ok (.invokevirtual 140, 3) := by decide +kernel
theorem V.dX11_takeAny_46 : decode cX11_takeAny 46 = .ok (.istore_n 1, 1) := by decide +kernel
theorem V.dX11_takeAny_47 : decode cX11_takeAny 47 = .ok (.aload_n 0, 1) := by decide +kernel
theorem V.dX11_takeAny_48 : decode cX11_takeAny 48 = .ok (.getfield 10, 3) := by decide +kernel
theorem V.dX11_takeAny_51 : decode cX11_takeAny 51 = .ok (.aload_n 0, 1) := by decide +kernel
theorem V.dX11_takeAny_52 : decode cX11_takeAny 52 = .ok (.getfield 10, 3) := by decide +kernel
theorem V.dX11_takeAny_55 : decode cX11_takeAny 55 = .ok (.invokevirtual 107, 3) := by decide +kernel
theorem V.dX11_takeAny_58 : decode cX11_takeAny 58 = .ok (.iconst 1, 1) := by decide +kernel
theorem V.dX11_takeAny_59 : decode cX11_takeAny 59 = .ok (.isub, 1) := by decide +kernel
theorem V.dX11_takeAny_60 : decode cX11_takeAny 60 = .ok (.invokevirtual 81, 3) := by decide +kernel
theorem V.dX11_takeAny_63 : decode cX11_takeAny 63 = .ok (.iload_n 1, 1) := by decide +kernel
theorem V.dX11_takeAny_64 : decode cX11_takeAny 64 = .ok (.ireturn, 1) := by decide +kernel
/-! ModuleEngine$Checker.takeAny()I -/
def V.Chk_takeAny_p33  (σ : HS) (s0 : Int32) (s1 : Nat) : Option ((Nat ⊕ Int32) × HS) :=
  ck (tg σ s1 = 12) <| clT (Chk_need σ s1 s0 (1 : Int32)) fun _ σ1 =>
  some (.inr (0 : Int32), σ1)
theorem V.gX11_takeAny_p33 {X : CX}  (σ : HS) (s0 : Int32) (s1 : Nat) : G X RX11 "takeAny" cX11_takeAny 2 (some .int) 8 128 (enX enI (cxz X)) 33 [] [iv s0, av s1] σ (Chk_takeAny_p33 σ s0 s1) := by
  unfold Chk_takeAny_p33
  refine g_iconst (v := 1) dX11_takeAny_33 (by decide) ?_
  refine g_callVT (fc := fun sς => Chk_need sς s1 s0 (1 : Int32)) (ci := 11) (as := [iv s0, iv (1 : Int32)]) rfl rfl rfl q1746 qs73 q1744 mdX11_118 (ctX11_need s1 s0 (1 : Int32)) rfl (Nat.le_of_ble_eq_true rfl) (Nat.le_of_ble_eq_true rfl) (Nat.le_of_ble_eq_true rfl) pu_V (by decide) dX11_takeAny_34 (fun _ σ1 => ?_)
  refine g_iconst (v := 0) dX11_takeAny_37 (by decide) ?_
  exact g_ireturn rfl dX11_takeAny_38
def V.Chk_takeAny (σ : HS) (x0 : Nat) : Option ((Nat ⊕ Int32) × HS) :=
  ck (tg σ x0 = 12) <|
  ck (tg σ (gR σ x0 4) = 4) <| cl (Row_size σ (gR σ x0 4) ) fun r2 σ1 =>
  ck (tg σ1 x0 = 12) <|
  ck (tg σ1 (gR σ1 x0 7) = 4) <| cl (Row_last σ1 (gR σ1 x0 7) ) fun r4 σ3 =>
  if r2 = r4 then (
    ck (tg σ3 x0 = 12) <|
    ck (tg σ3 (gR σ3 x0 8) = 4) <| cl (Row_last σ3 (gR σ3 x0 8) ) fun r11 σ10 =>
    if r11 = 0 then (
      Chk_takeAny_p33 σ10 (1 : Int32) x0)
    else (
      Chk_takeAny_p33 σ10 (0 : Int32) x0))
  else (
    ck (tg σ3 x0 = 12) <|
    ck (tg σ3 (gR σ3 x0 4) = 4) <| cl (Row_last σ3 (gR σ3 x0 4) ) fun r6 σ5 =>
    ck (tg σ5 x0 = 12) <|
    ck (tg σ5 x0 = 12) <|
    ck (tg σ5 (gR σ5 x0 4) = 4) <| cl (Row_size σ5 (gR σ5 x0 4) ) fun r8 σ7 =>
    ck (tg σ7 (gR σ5 x0 4) = 4) <| cl (Row_cut σ7 (gR σ5 x0 4) (r8 - (1 : Int32))) fun _ σ9 =>
    some (.inr r6, σ9))
theorem V.ctX11_takeAny (x0 : Nat) : Ct yX11_takeAny  cX11_takeAny 2 (some .int) 8 128 eXI [av x0] (fun σ => Chk_takeAny σ x0) := by
  refine Ct.of (own := RX11) (nm := "takeAny") (desc := "()I") rfl (by decide) (Nat.le_of_ble_eq_true rfl) (by decide) (fun X σ => ?_)
  show G X RX11 "takeAny" cX11_takeAny 2 (some .int) 8 128 (enX enI (cxz X)) 0 [(0, av x0)] [] σ (Chk_takeAny σ x0)
  unfold Chk_takeAny
  refine g_aload_n 0 0 dX11_takeAny_0 rfl rfl ?_
  refine g_getR fdX11_10 dX11_takeAny_1 ?_
  refine g_callV (fc := fun sς => Row_size sς (gR σ x0 4) ) (ci := 3) (as := []) rfl rfl rfl q1421 q1422 mdX11_107 (ctX3_size (gR σ x0 4) ) rfl (Nat.le_of_ble_eq_true rfl) (Nat.le_of_ble_eq_true rfl) (Nat.le_of_ble_eq_true rfl) pu_I dX11_takeAny_4 (fun r2 σ1 => ?_)
  refine g_aload_n 0 0 dX11_takeAny_7 rfl rfl ?_
  refine g_getR fdX11_22 dX11_takeAny_8 ?_
  refine g_callV (fc := fun sς => Row_last sς (gR σ1 x0 7) ) (ci := 3) (as := []) rfl rfl rfl q1813 q1814 mdX11_140 (ctX3_last (gR σ1 x0 7) ) rfl (Nat.le_of_ble_eq_true rfl) (Nat.le_of_ble_eq_true rfl) (Nat.le_of_ble_eq_true rfl) pu_I dX11_takeAny_11 (fun r4 σ3 => ?_)
  refine g_icmp_ne 39 dX11_takeAny_14 (by decide) ?_ ?_
  · refine g_aload_n 0 0 dX11_takeAny_39 rfl rfl ?_
    refine g_getR fdX11_10 dX11_takeAny_40 ?_
    refine g_callV (fc := fun sς => Row_last sς (gR σ3 x0 4) ) (ci := 3) (as := []) rfl rfl rfl q1813 q1814 mdX11_140 (ctX3_last (gR σ3 x0 4) ) rfl (Nat.le_of_ble_eq_true rfl) (Nat.le_of_ble_eq_true rfl) (Nat.le_of_ble_eq_true rfl) pu_I dX11_takeAny_43 (fun r6 σ5 => ?_)
    refine g_istore_n 1 dX11_takeAny_46 rfl (by decide) rfl ?_
    refine g_aload_n 0 1 dX11_takeAny_47 rfl rfl ?_
    refine g_getR fdX11_10 dX11_takeAny_48 ?_
    refine g_aload_n 0 1 dX11_takeAny_51 rfl rfl ?_
    refine g_getR fdX11_10 dX11_takeAny_52 ?_
    refine g_callV (fc := fun sς => Row_size sς (gR σ5 x0 4) ) (ci := 3) (as := []) rfl rfl rfl q1421 q1422 mdX11_107 (ctX3_size (gR σ5 x0 4) ) rfl (Nat.le_of_ble_eq_true rfl) (Nat.le_of_ble_eq_true rfl) (Nat.le_of_ble_eq_true rfl) pu_I dX11_takeAny_55 (fun r8 σ7 => ?_)
    refine g_iconst (v := 1) dX11_takeAny_58 (by decide) ?_
    refine g_isub dX11_takeAny_59 ?_
    refine g_callV (fc := fun sς => Row_cut sς (gR σ5 x0 4) (r8 - (1 : Int32))) (ci := 3) (as := [iv (r8 - (1 : Int32))]) rfl rfl rfl q1281 q1282 mdX11_81 (ctX3_cut (gR σ5 x0 4) (r8 - (1 : Int32))) rfl (Nat.le_of_ble_eq_true rfl) (Nat.le_of_ble_eq_true rfl) (Nat.le_of_ble_eq_true rfl) pu_V dX11_takeAny_60 (fun _ σ9 => ?_)
    refine g_iload_n 1 0 dX11_takeAny_63 rfl rfl ?_
    exact g_ireturn rfl dX11_takeAny_64
  · refine g_aload_n 0 0 dX11_takeAny_17 rfl rfl ?_
    refine g_aload_n 0 0 dX11_takeAny_18 rfl rfl ?_
    refine g_getR fdX11_25 dX11_takeAny_19 ?_
    refine g_callV (fc := fun sς => Row_last sς (gR σ3 x0 8) ) (ci := 3) (as := []) rfl rfl rfl q1813 q1814 mdX11_140 (ctX3_last (gR σ3 x0 8) ) rfl (Nat.le_of_ble_eq_true rfl) (Nat.le_of_ble_eq_true rfl) (Nat.le_of_ble_eq_true rfl) pu_I dX11_takeAny_22 (fun r11 σ10 => ?_)
    refine g_if_ne 32 dX11_takeAny_25 (by decide) ?_ ?_
    · refine g_iconst (v := 0) dX11_takeAny_32 (by decide) ?_
      refine G.sub [] rfl ?_
      exact gX11_takeAny_p33 _ _ _
    · refine g_iconst (v := 1) dX11_takeAny_28 (by decide) ?_
      refine g_goto 33 dX11_takeAny_29 (by decide) ?_
      refine G.sub [] rfl ?_
      exact gX11_takeAny_p33 _ _ _
theorem V.dX11_take_0 : decode cX11_take 0 = .ok (.aload_n 0, 1) := by decide +kernel
theorem V.dX11_take_1 : decode cX11_take 1 = .ok (.invokevirtual 146, 3) := by decide +kernel
theorem V.dX11_take_4 : decode cX11_take 4 = .ok (.istore_n 2, 1) := by decide +kernel
theorem V.dX11_take_5 : decode cX11_take 5 = .ok (.aload_n 0, 1) := by decide +kernel
theorem V.dX11_take_6 : decode cX11_take 6 = .ok (.iload_n 2, 1) := by decide +kernel
theorem V.dX11_take_7 : decode cX11_take 7 = .ok (.iload_n 1, 1) := by decide +kernel
theorem V.dX11_take_8 : decode cX11_take 8 = .ok (.if_icmp .eq 7, 3) := by decide +kernel
theorem V.dX11_take_11 : decode cX11_take 11 = .ok (.iload_n 2, 1) := by decide +kernel
theorem V.dX11_take_12 : decode cX11_take 12 = .ok (.ifCond .ne 7, 3) := by decide +kernel
theorem V.dX11_take_15 : decode cX11_take 15 = .ok (.iconst 1, 1) := by decide +kernel
theorem V.dX11_take_16 : decode cX11_take 16 = .ok (.goto 4, 3) := by decide +kernel
theorem V.dX11_take_19 : decode cX11_take 19 = .ok (.iconst 0, 1) := by decide +kernel
theorem V.dX11_take_20 : decode cX11_take 20 = .ok (.iconst 1, 1) := by decide +kernel
theorem V.dX11_take_21 : decode cX11_take 21 = .ok (.invokevirtual 118, 3) := by decide +kernel
theorem V.dX11_take_24 : decode cX11_take 24 = .ok (.iload_n 2, 1) := by decide +kernel
theorem V.dX11_take_25 : decode cX11_take 25 = .ok (.ireturn, 1) := by decide +kernel
theorem V.mdX11_146 : MD RX11 146 yX11_takeAny cX11_takeAny 2 (some .int) 0 := ⟨Or.inl q1839, q371, q1842, by decide, by decide, by decide +kernel⟩
/-! ModuleEngine$Checker.take(I)I -/
def V.Chk_take_p20  (σ : HS) (x2 : Int32) (s0 : Int32) (s1 : Nat) : Option ((Nat ⊕ Int32) × HS) :=
  ck (tg σ s1 = 12) <| clT (Chk_need σ s1 s0 (1 : Int32)) fun _ σ1 =>
  some (.inr x2, σ1)
theorem V.gX11_take_p20 {X : CX}  (σ : HS) (x2 : Int32) (s0 : Int32) (s1 : Nat) : G X RX11 "take" cX11_take 3 (some .int) 9 149 (enX enI (cxz X)) 20 [(2, iv x2)] [iv s0, av s1] σ (Chk_take_p20 σ x2 s0 s1) := by
  unfold Chk_take_p20
  refine g_iconst (v := 1) dX11_take_20 (by decide) ?_
  refine g_callVT (fc := fun sς => Chk_need sς s1 s0 (1 : Int32)) (ci := 11) (as := [iv s0, iv (1 : Int32)]) rfl rfl rfl q1746 qs73 q1744 mdX11_118 (ctX11_need s1 s0 (1 : Int32)) rfl (Nat.le_of_ble_eq_true rfl) (Nat.le_of_ble_eq_true rfl) (Nat.le_of_ble_eq_true rfl) pu_V (by decide) dX11_take_21 (fun _ σ1 => ?_)
  refine g_iload_n 2 0 dX11_take_24 rfl rfl ?_
  exact g_ireturn rfl dX11_take_25
def V.Chk_take_p15  (σ : HS) (x2 : Int32) (s0 : Nat) : Option ((Nat ⊕ Int32) × HS) :=
  Chk_take_p20 σ x2 (1 : Int32) s0
theorem V.gX11_take_p15 {X : CX}  (σ : HS) (x2 : Int32) (s0 : Nat) : G X RX11 "take" cX11_take 3 (some .int) 9 149 (enX enI (cxz X)) 15 [(2, iv x2)] [av s0] σ (Chk_take_p15 σ x2 s0) := by
  unfold Chk_take_p15
  refine g_iconst (v := 1) dX11_take_15 (by decide) ?_
  refine g_goto 20 dX11_take_16 (by decide) ?_
  exact gX11_take_p20 _ _ _ _
def V.Chk_take (σ : HS) (x0 : Nat) (x1 : Int32) : Option ((Nat ⊕ Int32) × HS) :=
  ck (tg σ x0 = 12) <| clT (Chk_takeAny σ x0 ) fun r2 σ1 =>
  if r2 = x1 then (
    Chk_take_p15 σ1 r2 x0)
  else (
    if r2 = 0 then (
      Chk_take_p15 σ1 r2 x0)
    else (
      Chk_take_p20 σ1 r2 (0 : Int32) x0))
theorem V.ctX11_take (x0 : Nat) (x1 : Int32) : Ct yX11_take  cX11_take 3 (some .int) 9 149 eXI [av x0, iv x1] (fun σ => Chk_take σ x0 x1) := by
  refine Ct.of (own := RX11) (nm := "take") (desc := "(I)I") rfl (by decide) (Nat.le_of_ble_eq_true rfl) (by decide) (fun X σ => ?_)
  show G X RX11 "take" cX11_take 3 (some .int) 9 149 (enX enI (cxz X)) 0 [(0, av x0), (1, iv x1)] [] σ (Chk_take σ x0 x1)
  unfold Chk_take
  refine g_aload_n 0 0 dX11_take_0 rfl rfl ?_
  refine g_callVT (fc := fun sς => Chk_takeAny sς x0 ) (ci := 11) (as := []) rfl rfl rfl q1841 qs81 q1839 mdX11_146 (ctX11_takeAny x0 ) rfl (Nat.le_of_ble_eq_true rfl) (Nat.le_of_ble_eq_true rfl) (Nat.le_of_ble_eq_true rfl) pu_I (by decide) dX11_take_1 (fun r2 σ1 => ?_)
  refine g_istore_n 2 dX11_take_4 rfl (by decide) rfl ?_
  refine g_aload_n 0 1 dX11_take_5 rfl rfl ?_
  refine g_iload_n 2 0 dX11_take_6 rfl rfl ?_
  refine g_iload_n 1 2 dX11_take_7 rfl rfl ?_
  refine g_icmp_eq 15 dX11_take_8 (by decide) ?_ ?_
  · refine G.sub [0] rfl ?_
    exact gX11_take_p15 _ _ _
  · refine g_iload_n 2 0 dX11_take_11 rfl rfl ?_
    refine g_if_ne 19 dX11_take_12 (by decide) ?_ ?_
    · refine g_iconst (v := 0) dX11_take_19 (by decide) ?_
      refine G.sub [0] rfl ?_
      exact gX11_take_p20 _ _ _ _
    · refine G.sub [0] rfl ?_
      exact gX11_take_p15 _ _ _
theorem V.dX11_parametersOf_0 : decode cX11_parametersOf 0 = .ok (.iload_n 1, 1) := by decide +kernel
theorem V.dX11_parametersOf_1 : decode cX11_parametersOf 1 = .ok (.ifCond .ge 7, 3) := by decide +kernel
theorem V.dX11_parametersOf_4 : decode cX11_parametersOf 4 = .ok (.iconst 0, 1) := by decide +kernel
theorem V.dX11_parametersOf_5 : decode cX11_parametersOf 5 = .ok (.goto 13, 3) := by decide +kernel
theorem V.dX11_parametersOf_8 : decode cX11_parametersOf 8 = .ok (.aload_n 0, 1) := by decide +kernel
theorem V.dX11_parametersOf_9 : decode cX11_parametersOf 9 = .ok (.getfield 40, 3) := by decide +kernel
theorem V.dX11_parametersOf_12 : decode cX11_parametersOf 12 = .ok (.iload_n 1, 1) := by decide +kernel
theorem V.dX11_parametersOf_13 : decode cX11_parametersOf 13 = .ok (.invokeinterface 91 2, 5) := by decide +kernel
theorem V.dX11_parametersOf_18 : decode cX11_parametersOf 18 = .ok (.ireturn, 1) := by decide +kernel
/-! ModuleEngine$Checker.parametersOf(I)I -/
def V.Chk_parametersOf (σ : HS) (x0 : Nat) (x1 : Int32) : Option (Int32 × HS) :=
  if 0 ≤ x1 then (
    ck (tg σ x0 = 12) <|
    ck (tg σ (gR σ x0 0) = 10) <| cl (Mty_parameters σ (gR σ x0 0) x1) fun r2 σ1 =>
    some (r2, σ1))
  else (
    some ((0 : Int32), σ))
theorem V.ctX11_parametersOf (x0 : Nat) (x1 : Int32) : Ct yX11_parametersOf  cX11_parametersOf 2 (some .int) 3 63 eI [av x0, iv x1] (fun σ => Chk_parametersOf σ x0 x1) := by
  refine Ct.of (own := RX11) (nm := "parametersOf") (desc := "(I)I") rfl (by decide) (Nat.le_of_ble_eq_true rfl) (by decide) (fun X σ => ?_)
  show G X RX11 "parametersOf" cX11_parametersOf 2 (some .int) 3 63 enI 0 [(0, av x0), (1, iv x1)] [] σ (Chk_parametersOf σ x0 x1)
  unfold Chk_parametersOf
  refine g_iload_n 1 1 dX11_parametersOf_0 rfl rfl ?_
  refine g_if_ge 8 dX11_parametersOf_1 (by decide) ?_ ?_
  · refine g_aload_n 0 0 dX11_parametersOf_8 rfl rfl ?_
    refine g_getR fdX11_40 dX11_parametersOf_9 ?_
    refine g_iload_n 1 1 dX11_parametersOf_12 rfl rfl ?_
    refine g_callF (fc := fun sς => Mty_parameters sς (gR σ x0 0) x1) (as := [iv x1]) (n := 1) (nmy := "parameters") (dsy := "(I)I") rfl rfl (by decide) q1756 q1760 q1762 q369 q1764 (by decide +kernel) (ctX9_parameters (gR σ x0 0) x1) rfl (Nat.le_of_ble_eq_true rfl) (Nat.le_of_ble_eq_true rfl) (Nat.le_of_ble_eq_true rfl) pu_I dX11_parametersOf_13 (fun r2 σ1 => ?_)
    exact g_ireturn rfl dX11_parametersOf_18
  · refine g_iconst (v := 0) dX11_parametersOf_4 (by decide) ?_
    refine g_goto 18 dX11_parametersOf_5 (by decide) ?_
    exact g_ireturn rfl dX11_parametersOf_18
theorem V.dX11_takeParameters_0 : decode cX11_takeParameters 0 = .ok (.aload_n 0, 1) := by decide +kernel
theorem V.dX11_takeParameters_1 : decode cX11_takeParameters 1 = .ok (.iload_n 1, 1) := by decide +kernel
theorem V.dX11_takeParameters_2 : decode cX11_takeParameters 2 = .ok (.invokevirtual 128, 3) := by decide +kernel
theorem V.dX11_takeParameters_5 : decode cX11_takeParameters 5 = .ok (.iconst 1, 1) := by decide +kernel
theorem V.dX11_takeParameters_6 : decode cX11_takeParameters 6 = .ok (.isub, 1) := by decide +kernel
theorem V.dX11_takeParameters_7 : decode cX11_takeParameters 7 = .ok (.istore_n 2, 1) := by decide +kernel
theorem V.dX11_takeParameters_8 : decode cX11_takeParameters 8 = .ok (.iload_n 2, 1) := by decide +kernel
theorem V.dX11_takeParameters_9 : decode cX11_takeParameters 9 = .ok (.ifCond .lt 25, 3) := by decide +kernel
theorem V.dX11_takeParameters_12 : decode cX11_takeParameters 12 = .ok (.aload_n 0, 1) := by decide +kernel
theorem V.dX11_takeParameters_13 : decode cX11_takeParameters 13 = .ok (.aload_n 0, 1) := by decide +kernel
theorem V.dX11_takeParameters_14 : decode cX11_takeParameters 14 = .ok (.getfield 40, 3) := by decide +kernel
theorem V.dX11_takeParameters_17 : decode cX11_takeParameters 17 = .ok (.iload_n 1, 1) := by decide +kernel
theorem V.dX11_takeParameters_18 : decode cX11_takeParameters 18 = .ok (.iload_n 2, 1) := by decide +kernel
theorem V.dX11_takeParameters_19 : decode cX11_takeParameters 19 = .ok (.invokeinterface 97 3, 5) := by decide +kernel
theorem V.dX11_takeParameters_24 : decode cX11_takeParameters 24 = .ok (.invokevirtual 149, 3) := by decide +kernel
theorem V.dX11_takeParameters_27 : decode cX11_takeParameters 27 = .ok (.pop, 1) := by decide +kernel
theorem V.dX11_takeParameters_28 : decode cX11_takeParameters 28 = .ok (.iinc 2 (-1), 3) := by decide +kernel
theorem V.dX11_takeParameters_31 : decode cX11_takeParameters 31 = .ok (.goto (-23), 3) := by decide +kernel
theorem V.dX11_takeParameters_34 : decode cX11_takeParameters 34 = .ok (.return_, 1) := by decide +kernel
theorem V.mdX11_128 : MD RX11 128 yX11_parametersOf cX11_parametersOf 2 (some .int) 1 := ⟨Or.inl q1847, q371, q1850, by decide, by decide, by decide +kernel⟩
theorem V.mdX11_149 : MD RX11 149 yX11_take cX11_take 3 (some .int) 1 := ⟨Or.inl q1835, q371, q1838, by decide, by decide, by decide +kernel⟩
/-! ModuleEngine$Checker.takeParameters(I)V -/
def V.Chk_takeParameters_p8  : Nat → HS → Nat → Int32 → Int32 → Option ((Nat ⊕ Unit) × HS)
  | 0, _, _, _, _ => none
  | n + 1, σ, x0, x1, x2 =>
    if x2 < 0 then (
      some (.inr (), σ))
    else (
      ck (tg σ x0 = 12) <|
      ck (tg σ (gR σ x0 0) = 10) <| cl (Mty_parameter σ (gR σ x0 0) x1 x2) fun r2 σ1 =>
      ck (tg σ1 x0 = 12) <| clT (Chk_take σ1 x0 r2) fun r4 σ3 =>
      bn (x2 + (-1 : Int32)) fun y5 =>
      Chk_takeParameters_p8 n σ3 x0 x1 y5)
theorem V.gX11_takeParameters_p8 {X : CX}  : ∀ (n : Nat) (σ : HS) (x0 : Nat) (x1 : Int32) (x2 : Int32), G X RX11 "takeParameters" cX11_takeParameters 3 none 10 171 (enX enV (cxz X)) 8 [(0, av x0), (1, iv x1), (2, iv x2)] [] σ (Chk_takeParameters_p8 n σ x0 x1 x2)
  | 0, σ, x0, x1, x2 => by rw [Chk_takeParameters_p8]; exact G.nul
  | n + 1, σ, x0, x1, x2 => by
    rw [Chk_takeParameters_p8]
    refine g_iload_n 2 2 dX11_takeParameters_8 rfl rfl ?_
    refine g_if_lt 34 dX11_takeParameters_9 (by decide) ?_ ?_
    · exact g_return rfl dX11_takeParameters_34
    · refine g_aload_n 0 0 dX11_takeParameters_12 rfl rfl ?_
      refine g_aload_n 0 0 dX11_takeParameters_13 rfl rfl ?_
      refine g_getR fdX11_40 dX11_takeParameters_14 ?_
      refine g_iload_n 1 1 dX11_takeParameters_17 rfl rfl ?_
      refine g_iload_n 2 2 dX11_takeParameters_18 rfl rfl ?_
      refine g_callF (fc := fun sς => Mty_parameter sς (gR σ x0 0) x1 x2) (as := [iv x1, iv x2]) (n := 2) (nmy := "parameter") (dsy := "(II)I") rfl rfl (by decide) q1767 q1770 q1772 q369 q1774 (by decide +kernel) (ctX9_parameter (gR σ x0 0) x1 x2) rfl (Nat.le_of_ble_eq_true rfl) (Nat.le_of_ble_eq_true rfl) (Nat.le_of_ble_eq_true rfl) pu_I dX11_takeParameters_19 (fun r2 σ1 => ?_)
      refine g_callVT (fc := fun sς => Chk_take sς x0 r2) (ci := 11) (as := [iv r2]) rfl rfl rfl q1837 qs80 q1835 mdX11_149 (ctX11_take x0 r2) rfl (Nat.le_of_ble_eq_true rfl) (Nat.le_of_ble_eq_true rfl) (Nat.le_of_ble_eq_true rfl) pu_I (by decide) dX11_takeParameters_24 (fun r4 σ3 => ?_)
      refine g_pop dX11_takeParameters_27 rfl ?_
      refine g_iincB (w := (-1)) 2 dX11_takeParameters_28 rfl (by decide) (by decide) (fun _ => rfl) (fun y5 => ?_)
      refine g_goto 8 dX11_takeParameters_31 (by decide) ?_
      refine G.sub [1, 2, 0] rfl ?_
      exact gX11_takeParameters_p8 n _ _ _ _
def V.Chk_takeParameters (σ : HS) (x0 : Nat) (x1 : Int32) : Option ((Nat ⊕ Unit) × HS) :=
  ck (tg σ x0 = 12) <| cl (Chk_parametersOf σ x0 x1) fun r2 σ1 =>
  bn (r2 - (1 : Int32)) fun y3 =>
  Chk_takeParameters_p8 FU σ1 x0 x1 y3
theorem V.ctX11_takeParameters (x0 : Nat) (x1 : Int32) : Ct yX11_takeParameters  cX11_takeParameters 3 none 10 171 eXV [av x0, iv x1] (fun σ => Chk_takeParameters σ x0 x1) := by
  refine Ct.of (own := RX11) (nm := "takeParameters") (desc := "(I)V") rfl (by decide) (Nat.le_of_ble_eq_true rfl) (by decide) (fun X σ => ?_)
  show G X RX11 "takeParameters" cX11_takeParameters 3 none 10 171 (enX enV (cxz X)) 0 [(0, av x0), (1, iv x1)] [] σ (Chk_takeParameters σ x0 x1)
  unfold Chk_takeParameters
  refine g_aload_n 0 0 dX11_takeParameters_0 rfl rfl ?_
  refine g_iload_n 1 1 dX11_takeParameters_1 rfl rfl ?_
  refine g_callV (fc := fun sς => Chk_parametersOf sς x0 x1) (ci := 11) (as := [iv x1]) rfl rfl rfl q1849 qs83 mdX11_128 (ctX11_parametersOf x0 x1) rfl (Nat.le_of_ble_eq_true rfl) (Nat.le_of_ble_eq_true rfl) (Nat.le_of_ble_eq_true rfl) pu_I dX11_takeParameters_2 (fun r2 σ1 => ?_)
  refine g_iconst (v := 1) dX11_takeParameters_5 (by decide) ?_
  refine g_isub dX11_takeParameters_6 ?_
  refine g_nmI (fun y3 => ?_)
  refine g_istore_n 2 dX11_takeParameters_7 rfl (by decide) rfl ?_
  refine G.sub [1, 2, 0] rfl ?_
  exact gX11_takeParameters_p8 FU _ _ _ _
theorem V.dX11_give_0 : decode cX11_give 0 = .ok (.aload_n 0, 1) := by decide +kernel
theorem V.dX11_give_1 : decode cX11_give 1 = .ok (.aload_n 0, 1) := by decide +kernel
theorem V.dX11_give_2 : decode cX11_give 2 = .ok (.getfield 10, 3) := by decide +kernel
theorem V.dX11_give_5 : decode cX11_give 5 = .ok (.invokevirtual 107, 3) := by decide +kernel
theorem V.dX11_give_8 : decode cX11_give 8 = .ok (.aload_n 0, 1) := by decide +kernel
theorem V.dX11_give_9 : decode cX11_give 9 = .ok (.getfield 52, 3) := by decide +kernel
theorem V.dX11_give_12 : decode cX11_give 12 = .ok (.if_icmp .ge 7, 3) := by decide +kernel
theorem V.dX11_give_15 : decode cX11_give 15 = .ok (.iconst 1, 1) := by decide +kernel
theorem V.dX11_give_16 : decode cX11_give 16 = .ok (.goto 4, 3) := by decide +kernel
theorem V.dX11_give_19 : decode cX11_give 19 = .ok (.iconst 0, 1) := by decide +kernel
theorem V.dX11_give_20 : decode cX11_give 20 = .ok (.bipush 15, 2) := by decide +kernel
theorem V.dX11_give_22 : decode cX11_give 22 = .ok (.invokevirtual 118, 3) := by decide +kernel
theorem V.dX11_give_25 : decode cX11_give 25 = .ok (.aload_n 0, 1) := by decide +kernel
theorem V.dX11_give_26 : decode cX11_give 26 = .ok (.getfield 10, 3) := by decide +kernel
theorem V.dX11_give_29 : decode cX11_give 29 = .ok (.iload_n 1, 1) := by decide +kernel
theorem V.dX11_give_30 : decode cX11_give 30 = .ok (.invokevirtual 104, 3) := by decide +kernel
theorem V.dX11_give_33 : decode cX11_give 33 = .ok (.return_, 1) := by decide +kernel
theorem V.fdX11_52 : FD RX11 52 11 3 0 := ⟨(RX11, TX11, 17), tyX11, rfl, rfl, in_X11, by decide, Or.inl q821, rfl⟩
/-! ModuleEngine$Checker.give(I)V -/
def V.Chk_give_p20  (σ : HS) (x0 : Nat) (x1 : Int32) (s0 : Int32) (s1 : Nat) : Option ((Nat ⊕ Unit) × HS) :=
  ck (tg σ s1 = 12) <| clT (Chk_need σ s1 s0 (15 : Int32)) fun _ σ1 =>
  ck (tg σ1 x0 = 12) <|
  ck (tg σ1 (gR σ1 x0 4) = 4) <| cl (Row_add σ1 (gR σ1 x0 4) x1) fun _ σ2 =>
  some (.inr (), σ2)
theorem V.gX11_give_p20 {X : CX}  (σ : HS) (x0 : Nat) (x1 : Int32) (s0 : Int32) (s1 : Nat) : G X RX11 "give" cX11_give 2 none 8 128 (enX enV (cxz X)) 20 [(0, av x0), (1, iv x1)] [iv s0, av s1] σ (Chk_give_p20 σ x0 x1 s0 s1) := by
  unfold Chk_give_p20
  refine g_bipush (v := 15) dX11_give_20 (by decide) ?_
  refine g_callVT (fc := fun sς => Chk_need sς s1 s0 (15 : Int32)) (ci := 11) (as := [iv s0, iv (15 : Int32)]) rfl rfl rfl q1746 qs73 q1744 mdX11_118 (ctX11_need s1 s0 (15 : Int32)) rfl (Nat.le_of_ble_eq_true rfl) (Nat.le_of_ble_eq_true rfl) (Nat.le_of_ble_eq_true rfl) pu_V (by decide) dX11_give_22 (fun _ σ1 => ?_)
  refine g_aload_n 0 0 dX11_give_25 rfl rfl ?_
  refine g_getR fdX11_10 dX11_give_26 ?_
  refine g_iload_n 1 1 dX11_give_29 rfl rfl ?_
  refine g_callV (fc := fun sς => Row_add sς (gR σ1 x0 4) x1) (ci := 3) (as := [iv x1]) rfl rfl rfl q1405 q1406 mdX11_104 (ctX3_add (gR σ1 x0 4) x1) rfl (Nat.le_of_ble_eq_true rfl) (Nat.le_of_ble_eq_true rfl) (Nat.le_of_ble_eq_true rfl) pu_V dX11_give_30 (fun _ σ2 => ?_)
  exact g_return rfl dX11_give_33
def V.Chk_give (σ : HS) (x0 : Nat) (x1 : Int32) : Option ((Nat ⊕ Unit) × HS) :=
  ck (tg σ x0 = 12) <|
  ck (tg σ (gR σ x0 4) = 4) <| cl (Row_size σ (gR σ x0 4) ) fun r2 σ1 =>
  ck (tg σ1 x0 = 12) <|
  if (gI σ1 x0 3) ≤ r2 then (
    Chk_give_p20 σ1 x0 x1 (0 : Int32) x0)
  else (
    Chk_give_p20 σ1 x0 x1 (1 : Int32) x0)
theorem V.ctX11_give (x0 : Nat) (x1 : Int32) : Ct yX11_give  cX11_give 2 none 8 128 eXV [av x0, iv x1] (fun σ => Chk_give σ x0 x1) := by
  refine Ct.of (own := RX11) (nm := "give") (desc := "(I)V") rfl (by decide) (Nat.le_of_ble_eq_true rfl) (by decide) (fun X σ => ?_)
  show G X RX11 "give" cX11_give 2 none 8 128 (enX enV (cxz X)) 0 [(0, av x0), (1, iv x1)] [] σ (Chk_give σ x0 x1)
  unfold Chk_give
  refine g_aload_n 0 0 dX11_give_0 rfl rfl ?_
  refine g_aload_n 0 0 dX11_give_1 rfl rfl ?_
  refine g_getR fdX11_10 dX11_give_2 ?_
  refine g_callV (fc := fun sς => Row_size sς (gR σ x0 4) ) (ci := 3) (as := []) rfl rfl rfl q1421 q1422 mdX11_107 (ctX3_size (gR σ x0 4) ) rfl (Nat.le_of_ble_eq_true rfl) (Nat.le_of_ble_eq_true rfl) (Nat.le_of_ble_eq_true rfl) pu_I dX11_give_5 (fun r2 σ1 => ?_)
  refine g_aload_n 0 0 dX11_give_8 rfl rfl ?_
  refine g_getI fdX11_52 dX11_give_9 ?_
  refine g_icmp_ge 19 dX11_give_12 (by decide) ?_ ?_
  · refine g_iconst (v := 0) dX11_give_19 (by decide) ?_
    exact gX11_give_p20 _ _ _ _ _
  · refine g_iconst (v := 1) dX11_give_15 (by decide) ?_
    refine g_goto 20 dX11_give_16 (by decide) ?_
    exact gX11_give_p20 _ _ _ _ _
theorem V.dX11_giveParameters_0 : decode cX11_giveParameters 0 = .ok (.iconst 0, 1) := by decide +kernel
theorem V.dX11_giveParameters_1 : decode cX11_giveParameters 1 = .ok (.istore_n 2, 1) := by decide +kernel
theorem V.dX11_giveParameters_2 : decode cX11_giveParameters 2 = .ok (.iload_n 2, 1) := by decide +kernel
theorem V.dX11_giveParameters_3 : decode cX11_giveParameters 3 = .ok (.aload_n 0, 1) := by decide +kernel
theorem V.dX11_giveParameters_4 : decode cX11_giveParameters 4 = .ok (.iload_n 1, 1) := by decide +kernel
theorem V.dX11_giveParameters_5 : decode cX11_giveParameters 5 = .ok (.invokevirtual 128, 3) := by decide +kernel
theorem V.dX11_giveParameters_8 : decode cX11_giveParameters 8 = .ok (.if_icmp .ge 24, 3) := by decide +kernel
theorem V.dX11_giveParameters_11 : decode cX11_giveParameters 11 = .ok (.aload_n 0, 1) := by decide +kernel
theorem V.dX11_giveParameters_12 : decode cX11_giveParameters 12 = .ok (.aload_n 0, 1) := by decide +kernel
theorem V.dX11_giveParameters_13 : decode cX11_giveParameters 13 = .ok (.getfield 40, 3) := by decide +kernel
theorem V.dX11_giveParameters_16 : decode cX11_giveParameters 16 = .ok (.iload_n 1, 1) := by decide +kernel
theorem V.dX11_giveParameters_17 : decode cX11_giveParameters 17 = .ok (.iload_n 2, 1) := by decide +kernel
theorem V.dX11_giveParameters_18 : decode cX11_giveParameters 18 = .ok (.invokeinterface 97 3, 5) := by decide +kernel
theorem V.dX11_giveParameters_23 : decode cX11_giveParameters 23 = .ok (.invokevirtual 152, 3) := by decide +kernel
theorem V.dX11_giveParameters_26 : decode cX11_giveParameters 26 = .ok (.iinc 2 1, 3) := by decide +kernel
theorem V.dX11_giveParameters_29 : decode cX11_giveParameters 29 = .ok (.goto (-27), 3) := by decide +kernel
theorem V.dX11_giveParameters_32 : decode cX11_giveParameters 32 = .ok (.return_, 1) := by decide +kernel
theorem V.mdX11_152 : MD RX11 152 yX11_give cX11_give 2 none 1 := ⟨Or.inl q1855, q371, q1858, by decide, by decide, by decide +kernel⟩
/-! ModuleEngine$Checker.giveParameters(I)V -/
def V.Chk_giveParameters_p2  : Nat → HS → Nat → Int32 → Int32 → Option ((Nat ⊕ Unit) × HS)
  | 0, _, _, _, _ => none
  | n + 1, σ, x0, x1, x2 =>
    ck (tg σ x0 = 12) <| cl (Chk_parametersOf σ x0 x1) fun r2 σ1 =>
    if r2 ≤ x2 then (
      some (.inr (), σ1))
    else (
      ck (tg σ1 x0 = 12) <|
      ck (tg σ1 (gR σ1 x0 0) = 10) <| cl (Mty_parameter σ1 (gR σ1 x0 0) x1 x2) fun r4 σ3 =>
      ck (tg σ3 x0 = 12) <| clT (Chk_give σ3 x0 r4) fun _ σ5 =>
      bn (x2 + (1 : Int32)) fun y6 =>
      Chk_giveParameters_p2 n σ5 x0 x1 y6)
theorem V.gX11_giveParameters_p2 {X : CX}  : ∀ (n : Nat) (σ : HS) (x0 : Nat) (x1 : Int32) (x2 : Int32), G X RX11 "giveParameters" cX11_giveParameters 3 none 9 149 (enX enV (cxz X)) 2 [(0, av x0), (1, iv x1), (2, iv x2)] [] σ (Chk_giveParameters_p2 n σ x0 x1 x2)
  | 0, σ, x0, x1, x2 => by rw [Chk_giveParameters_p2]; exact G.nul
  | n + 1, σ, x0, x1, x2 => by
    rw [Chk_giveParameters_p2]
    refine g_iload_n 2 2 dX11_giveParameters_2 rfl rfl ?_
    refine g_aload_n 0 0 dX11_giveParameters_3 rfl rfl ?_
    refine g_iload_n 1 1 dX11_giveParameters_4 rfl rfl ?_
    refine g_callV (fc := fun sς => Chk_parametersOf sς x0 x1) (ci := 11) (as := [iv x1]) rfl rfl rfl q1849 qs83 mdX11_128 (ctX11_parametersOf x0 x1) rfl (Nat.le_of_ble_eq_true rfl) (Nat.le_of_ble_eq_true rfl) (Nat.le_of_ble_eq_true rfl) pu_I dX11_giveParameters_5 (fun r2 σ1 => ?_)
    refine g_icmp_ge 32 dX11_giveParameters_8 (by decide) ?_ ?_
    · exact g_return rfl dX11_giveParameters_32
    · refine g_aload_n 0 0 dX11_giveParameters_11 rfl rfl ?_
      refine g_aload_n 0 0 dX11_giveParameters_12 rfl rfl ?_
      refine g_getR fdX11_40 dX11_giveParameters_13 ?_
      refine g_iload_n 1 1 dX11_giveParameters_16 rfl rfl ?_
      refine g_iload_n 2 2 dX11_giveParameters_17 rfl rfl ?_
      refine g_callF (fc := fun sς => Mty_parameter sς (gR σ1 x0 0) x1 x2) (as := [iv x1, iv x2]) (n := 2) (nmy := "parameter") (dsy := "(II)I") rfl rfl (by decide) q1767 q1770 q1772 q369 q1774 (by decide +kernel) (ctX9_parameter (gR σ1 x0 0) x1 x2) rfl (Nat.le_of_ble_eq_true rfl) (Nat.le_of_ble_eq_true rfl) (Nat.le_of_ble_eq_true rfl) pu_I dX11_giveParameters_18 (fun r4 σ3 => ?_)
      refine g_callVT (fc := fun sς => Chk_give sς x0 r4) (ci := 11) (as := [iv r4]) rfl rfl rfl q1857 qs85 q1855 mdX11_152 (ctX11_give x0 r4) rfl (Nat.le_of_ble_eq_true rfl) (Nat.le_of_ble_eq_true rfl) (Nat.le_of_ble_eq_true rfl) pu_V (by decide) dX11_giveParameters_23 (fun _ σ5 => ?_)
      refine g_iincB (w := 1) 2 dX11_giveParameters_26 rfl (by decide) (by decide) (fun _ => rfl) (fun y6 => ?_)
      refine g_goto 2 dX11_giveParameters_29 (by decide) ?_
      refine G.sub [1, 2, 0] rfl ?_
      exact gX11_giveParameters_p2 n _ _ _ _
def V.Chk_giveParameters (σ : HS) (x0 : Nat) (x1 : Int32) : Option ((Nat ⊕ Unit) × HS) :=
  Chk_giveParameters_p2 FU σ x0 x1 (0 : Int32)
theorem V.ctX11_giveParameters (x0 : Nat) (x1 : Int32) : Ct yX11_giveParameters  cX11_giveParameters 3 none 9 149 eXV [av x0, iv x1] (fun σ => Chk_giveParameters σ x0 x1) := by
  refine Ct.of (own := RX11) (nm := "giveParameters") (desc := "(I)V") rfl (by decide) (Nat.le_of_ble_eq_true rfl) (by decide) (fun X σ => ?_)
  show G X RX11 "giveParameters" cX11_giveParameters 3 none 9 149 (enX enV (cxz X)) 0 [(0, av x0), (1, iv x1)] [] σ (Chk_giveParameters σ x0 x1)
  unfold Chk_giveParameters
  refine g_iconst (v := 0) dX11_giveParameters_0 (by decide) ?_
  refine g_istore_n 2 dX11_giveParameters_1 rfl (by decide) rfl ?_
  refine G.sub [1, 2, 0] rfl ?_
  exact gX11_giveParameters_p2 FU _ _ _ _
theorem V.dX11_blockBegins_0 : decode cX11_blockBegins 0 = .ok (.aload_n 0, 1) := by decide +kernel
theorem V.dX11_blockBegins_1 : decode cX11_blockBegins 1 = .ok (.iload_n 2, 1) := by decide +kernel
theorem V.dX11_blockBegins_2 : decode cX11_blockBegins 2 = .ok (.aload_n 0, 1) := by decide +kernel
theorem V.dX11_blockBegins_3 : decode cX11_blockBegins 3 = .ok (.getfield 40, 3) := by decide +kernel
theorem V.dX11_blockBegins_6 : decode cX11_blockBegins 6 = .ok (.invokeinterface 164 1, 5) := by decide +kernel
theorem V.dX11_blockBegins_11 : decode cX11_blockBegins 11 = .ok (.if_icmp .ge 7, 3) := by decide +kernel
theorem V.dX11_blockBegins_14 : decode cX11_blockBegins 14 = .ok (.iconst 1, 1) := by decide +kernel
theorem V.dX11_blockBegins_15 : decode cX11_blockBegins 15 = .ok (.goto 4, 3) := by decide +kernel
theorem V.dX11_blockBegins_18 : decode cX11_blockBegins 18 = .ok (.iconst 0, 1) := by decide +kernel
theorem V.dX11_blockBegins_19 : decode cX11_blockBegins 19 = .ok (.bipush 12, 2) := by decide +kernel
theorem V.dX11_blockBegins_21 : decode cX11_blockBegins 21 = .ok (.invokevirtual 118, 3) := by decide +kernel
theorem V.dX11_blockBegins_24 : decode cX11_blockBegins 24 = .ok (.iload_n 1, 1) := by decide +kernel
theorem V.dX11_blockBegins_25 : decode cX11_blockBegins 25 = .ok (.iconst 4, 1) := by decide +kernel
theorem V.dX11_blockBegins_26 : decode cX11_blockBegins 26 = .ok (.if_icmp .ne 10, 3) := by decide +kernel
theorem V.dX11_blockBegins_29 : decode cX11_blockBegins 29 = .ok (.aload_n 0, 1) := by decide +kernel
theorem V.dX11_blockBegins_30 : decode cX11_blockBegins 30 = .ok (.bipush 127, 2) := by decide +kernel
theorem V.dX11_blockBegins_32 : decode cX11_blockBegins 32 = .ok (.invokevirtual 149, 3) := by decide +kernel
theorem V.dX11_blockBegins_35 : decode cX11_blockBegins 35 = .ok (.pop, 1) := by decide +kernel
theorem V.dX11_blockBegins_36 : decode cX11_blockBegins 36 = .ok (.aload_n 0, 1) := by decide +kernel
theorem V.dX11_blockBegins_37 : decode cX11_blockBegins 37 = .ok (.iload_n 2, 1) := by decide +kernel
theorem V.dX11_blockBegins_38 : decode cX11_blockBegins 38 = .ok (.invokevirtual 167, 3) := by decide +kernel
theorem V.dX11_blockBegins_41 : decode cX11_blockBegins 41 = .ok (.aload_n 0, 1) := by decide +kernel
theorem V.dX11_blockBegins_42 : decode cX11_blockBegins 42 = .ok (.iload_n 1, 1) := by decide +kernel
theorem V.dX11_blockBegins_43 : decode cX11_blockBegins 43 = .ok (.iload_n 2, 1) := by decide +kernel
theorem V.dX11_blockBegins_44 : decode cX11_blockBegins 44 = .ok (.invokevirtual 84, 3) := by decide +kernel
theorem V.dX11_blockBegins_47 : decode cX11_blockBegins 47 = .ok (.aload_n 0, 1) := by decide +kernel
theorem V.dX11_blockBegins_48 : decode cX11_blockBegins 48 = .ok (.iload_n 2, 1) := by decide +kernel
theorem V.dX11_blockBegins_49 : decode cX11_blockBegins 49 = .ok (.invokevirtual 170, 3) := by decide +kernel
theorem V.dX11_blockBegins_52 : decode cX11_blockBegins 52 = .ok (.return_, 1) := by decide +kernel
theorem V.mdX11_167 : MD RX11 167 yX11_takeParameters cX11_takeParameters 3 none 1 := ⟨Or.inl q1843, q371, q1846, by decide, by decide, by decide +kernel⟩
theorem V.mdX11_170 : MD RX11 170 yX11_giveParameters cX11_giveParameters 3 none 1 := ⟨Or.inl q1851, q371, q1854, by decide, by decide, by decide +kernel⟩
/-! ModuleEngine$Checker.blockBegins(II)V -/
def V.Chk_blockBegins_p36  (σ : HS) (x0 : Nat) (x1 : Int32) (x2 : Int32) : Option ((Nat ⊕ Unit) × HS) :=
  ck (tg σ x0 = 12) <| clT (Chk_takeParameters σ x0 x2) fun _ σ1 =>
  ck (tg σ1 x0 = 12) <| clT (Chk_open σ1 x0 x1 x2) fun _ σ2 =>
  ck (tg σ2 x0 = 12) <| clT (Chk_giveParameters σ2 x0 x2) fun _ σ3 =>
  some (.inr (), σ3)
theorem V.gX11_blockBegins_p36 {X : CX}  (σ : HS) (x0 : Nat) (x1 : Int32) (x2 : Int32) : G X RX11 "blockBegins" cX11_blockBegins 3 none 11 193 (enX enV (cxz X)) 36 [(0, av x0), (1, iv x1), (2, iv x2)] [] σ (Chk_blockBegins_p36 σ x0 x1 x2) := by
  unfold Chk_blockBegins_p36
  refine g_aload_n 0 0 dX11_blockBegins_36 rfl rfl ?_
  refine g_iload_n 2 2 dX11_blockBegins_37 rfl rfl ?_
  refine g_callVT (fc := fun sς => Chk_takeParameters sς x0 x2) (ci := 11) (as := [iv x2]) rfl rfl rfl q1845 qs82 q1843 mdX11_167 (ctX11_takeParameters x0 x2) rfl (Nat.le_of_ble_eq_true rfl) (Nat.le_of_ble_eq_true rfl) (Nat.le_of_ble_eq_true rfl) pu_V (by decide) dX11_blockBegins_38 (fun _ σ1 => ?_)
  refine g_aload_n 0 0 dX11_blockBegins_41 rfl rfl ?_
  refine g_iload_n 1 1 dX11_blockBegins_42 rfl rfl ?_
  refine g_iload_n 2 2 dX11_blockBegins_43 rfl rfl ?_
  refine g_callVT (fc := fun sς => Chk_open sς x0 x1 x2) (ci := 11) (as := [iv x1, iv x2]) rfl rfl rfl q1741 qs72 q1739 mdX11_84 (ctX11_open x0 x1 x2) rfl (Nat.le_of_ble_eq_true rfl) (Nat.le_of_ble_eq_true rfl) (Nat.le_of_ble_eq_true rfl) pu_V (by decide) dX11_blockBegins_44 (fun _ σ2 => ?_)
  refine g_aload_n 0 0 dX11_blockBegins_47 rfl rfl ?_
  refine g_iload_n 2 2 dX11_blockBegins_48 rfl rfl ?_
  refine g_callVT (fc := fun sς => Chk_giveParameters sς x0 x2) (ci := 11) (as := [iv x2]) rfl rfl rfl q1853 qs84 q1851 mdX11_170 (ctX11_giveParameters x0 x2) rfl (Nat.le_of_ble_eq_true rfl) (Nat.le_of_ble_eq_true rfl) (Nat.le_of_ble_eq_true rfl) pu_V (by decide) dX11_blockBegins_49 (fun _ σ3 => ?_)
  exact g_return rfl dX11_blockBegins_52
def V.Chk_blockBegins_p19  (σ : HS) (x0 : Nat) (x1 : Int32) (x2 : Int32) (s0 : Int32) (s1 : Nat) : Option ((Nat ⊕ Unit) × HS) :=
  ck (tg σ s1 = 12) <| clT (Chk_need σ s1 s0 (12 : Int32)) fun _ σ1 =>
  if x1 = (4 : Int32) then (
    ck (tg σ1 x0 = 12) <| clT (Chk_take σ1 x0 (127 : Int32)) fun r3 σ2 =>
    Chk_blockBegins_p36 σ2 x0 x1 x2)
  else (
    Chk_blockBegins_p36 σ1 x0 x1 x2)
theorem V.gX11_blockBegins_p19 {X : CX}  (σ : HS) (x0 : Nat) (x1 : Int32) (x2 : Int32) (s0 : Int32) (s1 : Nat) : G X RX11 "blockBegins" cX11_blockBegins 3 none 11 193 (enX enV (cxz X)) 19 [(0, av x0), (1, iv x1), (2, iv x2)] [iv s0, av s1] σ (Chk_blockBegins_p19 σ x0 x1 x2 s0 s1) := by
  unfold Chk_blockBegins_p19
  refine g_bipush (v := 12) dX11_blockBegins_19 (by decide) ?_
  refine g_callVT (fc := fun sς => Chk_need sς s1 s0 (12 : Int32)) (ci := 11) (as := [iv s0, iv (12 : Int32)]) rfl rfl rfl q1746 qs73 q1744 mdX11_118 (ctX11_need s1 s0 (12 : Int32)) rfl (Nat.le_of_ble_eq_true rfl) (Nat.le_of_ble_eq_true rfl) (Nat.le_of_ble_eq_true rfl) pu_V (by decide) dX11_blockBegins_21 (fun _ σ1 => ?_)
  refine g_iload_n 1 1 dX11_blockBegins_24 rfl rfl ?_
  refine g_iconst (v := 4) dX11_blockBegins_25 (by decide) ?_
  refine g_icmp_ne 36 dX11_blockBegins_26 (by decide) ?_ ?_
  · exact gX11_blockBegins_p36 _ _ _ _
  · refine g_aload_n 0 0 dX11_blockBegins_29 rfl rfl ?_
    refine g_bipush (v := 127) dX11_blockBegins_30 (by decide) ?_
    refine g_callVT (fc := fun sς => Chk_take sς x0 (127 : Int32)) (ci := 11) (as := [iv (127 : Int32)]) rfl rfl rfl q1837 qs80 q1835 mdX11_149 (ctX11_take x0 (127 : Int32)) rfl (Nat.le_of_ble_eq_true rfl) (Nat.le_of_ble_eq_true rfl) (Nat.le_of_ble_eq_true rfl) pu_I (by decide) dX11_blockBegins_32 (fun r3 σ2 => ?_)
    refine g_pop dX11_blockBegins_35 rfl ?_
    exact gX11_blockBegins_p36 _ _ _ _
def V.Chk_blockBegins (σ : HS) (x0 : Nat) (x1 : Int32) (x2 : Int32) : Option ((Nat ⊕ Unit) × HS) :=
  ck (tg σ x0 = 12) <|
  ck (tg σ (gR σ x0 0) = 10) <| cl (Mty_count σ (gR σ x0 0) ) fun r2 σ1 =>
  if r2 ≤ x2 then (
    Chk_blockBegins_p19 σ1 x0 x1 x2 (0 : Int32) x0)
  else (
    Chk_blockBegins_p19 σ1 x0 x1 x2 (1 : Int32) x0)
theorem V.ctX11_blockBegins (x0 : Nat) (x1 : Int32) (x2 : Int32) : Ct yX11_blockBegins  cX11_blockBegins 3 none 11 193 eXV [av x0, iv x1, iv x2] (fun σ => Chk_blockBegins σ x0 x1 x2) := by
  refine Ct.of (own := RX11) (nm := "blockBegins") (desc := "(II)V") rfl (by decide) (Nat.le_of_ble_eq_true rfl) (by decide) (fun X σ => ?_)
  show G X RX11 "blockBegins" cX11_blockBegins 3 none 11 193 (enX enV (cxz X)) 0 [(0, av x0), (1, iv x1), (2, iv x2)] [] σ (Chk_blockBegins σ x0 x1 x2)
  unfold Chk_blockBegins
  refine g_aload_n 0 0 dX11_blockBegins_0 rfl rfl ?_
  refine g_iload_n 2 2 dX11_blockBegins_1 rfl rfl ?_
  refine g_aload_n 0 0 dX11_blockBegins_2 rfl rfl ?_
  refine g_getR fdX11_40 dX11_blockBegins_3 ?_
  refine g_callF (fc := fun sς => Mty_count sς (gR σ x0 0) ) (as := []) (n := 0) (nmy := "count") (dsy := "()I") rfl rfl (by decide) q1826 q1829 q1831 q369 q1833 (by decide +kernel) (ctX9_count (gR σ x0 0) ) rfl (Nat.le_of_ble_eq_true rfl) (Nat.le_of_ble_eq_true rfl) (Nat.le_of_ble_eq_true rfl) pu_I dX11_blockBegins_6 (fun r2 σ1 => ?_)
  refine g_icmp_ge 18 dX11_blockBegins_11 (by decide) ?_ ?_
  · refine g_iconst (v := 0) dX11_blockBegins_18 (by decide) ?_
    exact gX11_blockBegins_p19 _ _ _ _ _ _
  · refine g_iconst (v := 1) dX11_blockBegins_14 (by decide) ?_
    refine g_goto 19 dX11_blockBegins_15 (by decide) ?_
    exact gX11_blockBegins_p19 _ _ _ _ _ _
theorem V.dX11_resultsOf_0 : decode cX11_resultsOf 0 = .ok (.iload_n 1, 1) := by decide +kernel
theorem V.dX11_resultsOf_1 : decode cX11_resultsOf 1 = .ok (.ifCond .lt 16, 3) := by decide +kernel
theorem V.dX11_resultsOf_4 : decode cX11_resultsOf 4 = .ok (.aload_n 0, 1) := by decide +kernel
theorem V.dX11_resultsOf_5 : decode cX11_resultsOf 5 = .ok (.getfield 40, 3) := by decide +kernel
theorem V.dX11_resultsOf_8 : decode cX11_resultsOf 8 = .ok (.iload_n 1, 1) := by decide +kernel
theorem V.dX11_resultsOf_9 : decode cX11_resultsOf 9 = .ok (.invokeinterface 122 2, 5) := by decide +kernel
theorem V.dX11_resultsOf_14 : decode cX11_resultsOf 14 = .ok (.goto 14, 3) := by decide +kernel
theorem V.dX11_resultsOf_17 : decode cX11_resultsOf 17 = .ok (.iload_n 1, 1) := by decide +kernel
theorem V.dX11_resultsOf_18 : decode cX11_resultsOf 18 = .ok (.bipush (-64), 2) := by decide +kernel
theorem V.dX11_resultsOf_20 : decode cX11_resultsOf 20 = .ok (.if_icmp .ne 7, 3) := by decide +kernel
theorem V.dX11_resultsOf_23 : decode cX11_resultsOf 23 = .ok (.iconst 0, 1) := by decide +kernel
theorem V.dX11_resultsOf_24 : decode cX11_resultsOf 24 = .ok (.goto 4, 3) := by decide +kernel
theorem V.dX11_resultsOf_27 : decode cX11_resultsOf 27 = .ok (.iconst 1, 1) := by decide +kernel
theorem V.dX11_resultsOf_28 : decode cX11_resultsOf 28 = .ok (.ireturn, 1) := by decide +kernel
/-! ModuleEngine$Checker.resultsOf(I)I -/
def V.Chk_resultsOf (σ : HS) (x0 : Nat) (x1 : Int32) : Option (Int32 × HS) :=
  if x1 < 0 then (
    if x1 = (-64 : Int32) then (
      some ((0 : Int32), σ))
    else (
      some ((1 : Int32), σ)))
  else (
    ck (tg σ x0 = 12) <|
    ck (tg σ (gR σ x0 0) = 10) <| cl (Mty_results σ (gR σ x0 0) x1) fun r2 σ1 =>
    some (r2, σ1))
theorem V.ctX11_resultsOf (x0 : Nat) (x1 : Int32) : Ct yX11_resultsOf  cX11_resultsOf 2 (some .int) 4 84 eI [av x0, iv x1] (fun σ => Chk_resultsOf σ x0 x1) := by
  refine Ct.of (own := RX11) (nm := "resultsOf") (desc := "(I)I") rfl (by decide) (Nat.le_of_ble_eq_true rfl) (by decide) (fun X σ => ?_)
  show G X RX11 "resultsOf" cX11_resultsOf 2 (some .int) 4 84 enI 0 [(0, av x0), (1, iv x1)] [] σ (Chk_resultsOf σ x0 x1)
  unfold Chk_resultsOf
  refine g_iload_n 1 1 dX11_resultsOf_0 rfl rfl ?_
  refine g_if_lt 17 dX11_resultsOf_1 (by decide) ?_ ?_
  · refine g_iload_n 1 1 dX11_resultsOf_17 rfl rfl ?_
    refine g_bipush (v := (-64)) dX11_resultsOf_18 (by decide) ?_
    refine g_icmp_ne 27 dX11_resultsOf_20 (by decide) ?_ ?_
    · refine g_iconst (v := 1) dX11_resultsOf_27 (by decide) ?_
      exact g_ireturn rfl dX11_resultsOf_28
    · refine g_iconst (v := 0) dX11_resultsOf_23 (by decide) ?_
      refine g_goto 28 dX11_resultsOf_24 (by decide) ?_
      exact g_ireturn rfl dX11_resultsOf_28
  · refine g_aload_n 0 0 dX11_resultsOf_4 rfl rfl ?_
    refine g_getR fdX11_40 dX11_resultsOf_5 ?_
    refine g_iload_n 1 1 dX11_resultsOf_8 rfl rfl ?_
    refine g_callF (fc := fun sς => Mty_results sς (gR σ x0 0) x1) (as := [iv x1]) (n := 1) (nmy := "results") (dsy := "(I)I") rfl rfl (by decide) q1876 q1879 q1881 q369 q1883 (by decide +kernel) (ctX9_results (gR σ x0 0) x1) rfl (Nat.le_of_ble_eq_true rfl) (Nat.le_of_ble_eq_true rfl) (Nat.le_of_ble_eq_true rfl) pu_I dX11_resultsOf_9 (fun r2 σ1 => ?_)
    refine g_goto 28 dX11_resultsOf_14 (by decide) ?_
    exact g_ireturn rfl dX11_resultsOf_28
theorem V.dX11_resultOf_0 : decode cX11_resultOf 0 = .ok (.iload_n 1, 1) := by decide +kernel
theorem V.dX11_resultOf_1 : decode cX11_resultOf 1 = .ok (.ifCond .lt 17, 3) := by decide +kernel
theorem V.dX11_resultOf_4 : decode cX11_resultOf 4 = .ok (.aload_n 0, 1) := by decide +kernel
theorem V.dX11_resultOf_5 : decode cX11_resultOf 5 = .ok (.getfield 40, 3) := by decide +kernel
theorem V.dX11_resultOf_8 : decode cX11_resultOf 8 = .ok (.iload_n 1, 1) := by decide +kernel
theorem V.dX11_resultOf_9 : decode cX11_resultOf 9 = .ok (.iload_n 2, 1) := by decide +kernel
theorem V.dX11_resultOf_10 : decode cX11_resultOf 10 = .ok (.invokeinterface 125 3, 5) := by decide +kernel
theorem V.dX11_resultOf_15 : decode cX11_resultOf 15 = .ok (.goto 8, 3) := by decide +kernel
theorem V.dX11_resultOf_18 : decode cX11_resultOf 18 = .ok (.iload_n 1, 1) := by decide +kernel
theorem V.dX11_resultOf_19 : decode cX11_resultOf 19 = .ok (.sipush 128, 3) := by decide +kernel
theorem V.dX11_resultOf_22 : decode cX11_resultOf 22 = .ok (.iadd, 1) := by decide +kernel
theorem V.dX11_resultOf_23 : decode cX11_resultOf 23 = .ok (.ireturn, 1) := by decide +kernel
/-! ModuleEngine$Checker.resultOf(II)I -/
def V.Chk_resultOf (σ : HS) (x0 : Nat) (x1 : Int32) (x2 : Int32) : Option (Int32 × HS) :=
  if x1 < 0 then (
    some (x1 + (128 : Int32), σ))
  else (
    ck (tg σ x0 = 12) <|
    ck (tg σ (gR σ x0 0) = 10) <| cl (Mty_result σ (gR σ x0 0) x1 x2) fun r2 σ1 =>
    some (r2, σ1))
theorem V.ctX11_resultOf (x0 : Nat) (x1 : Int32) (x2 : Int32) : Ct yX11_resultOf  cX11_resultOf 3 (some .int) 4 86 eI [av x0, iv x1, iv x2] (fun σ => Chk_resultOf σ x0 x1 x2) := by
  refine Ct.of (own := RX11) (nm := "resultOf") (desc := "(II)I") rfl (by decide) (Nat.le_of_ble_eq_true rfl) (by decide) (fun X σ => ?_)
  show G X RX11 "resultOf" cX11_resultOf 3 (some .int) 4 86 enI 0 [(0, av x0), (1, iv x1), (2, iv x2)] [] σ (Chk_resultOf σ x0 x1 x2)
  unfold Chk_resultOf
  refine g_iload_n 1 1 dX11_resultOf_0 rfl rfl ?_
  refine g_if_lt 18 dX11_resultOf_1 (by decide) ?_ ?_
  · refine g_iload_n 1 1 dX11_resultOf_18 rfl rfl ?_
    refine g_sipush (v := 128) dX11_resultOf_19 (by decide) ?_
    refine g_iadd dX11_resultOf_22 ?_
    exact g_ireturn rfl dX11_resultOf_23
  · refine g_aload_n 0 0 dX11_resultOf_4 rfl rfl ?_
    refine g_getR fdX11_40 dX11_resultOf_5 ?_
    refine g_iload_n 1 1 dX11_resultOf_8 rfl rfl ?_
    refine g_iload_n 2 2 dX11_resultOf_9 rfl rfl ?_
    refine g_callF (fc := fun sς => Mty_result sς (gR σ x0 0) x1 x2) (as := [iv x1, iv x2]) (n := 2) (nmy := "result") (dsy := "(II)I") rfl rfl (by decide) q1890 q1893 q1895 q369 q1897 (by decide +kernel) (ctX9_result (gR σ x0 0) x1 x2) rfl (Nat.le_of_ble_eq_true rfl) (Nat.le_of_ble_eq_true rfl) (Nat.le_of_ble_eq_true rfl) pu_I dX11_resultOf_10 (fun r2 σ1 => ?_)
    refine g_goto 23 dX11_resultOf_15 (by decide) ?_
    exact g_ireturn rfl dX11_resultOf_23
theorem V.dX11_takeResults_0 : decode cX11_takeResults 0 = .ok (.aload_n 0, 1) := by decide +kernel
theorem V.dX11_takeResults_1 : decode cX11_takeResults 1 = .ok (.iload_n 1, 1) := by decide +kernel
theorem V.dX11_takeResults_2 : decode cX11_takeResults 2 = .ok (.invokevirtual 131, 3) := by decide +kernel
theorem V.dX11_takeResults_5 : decode cX11_takeResults 5 = .ok (.iconst 1, 1) := by decide +kernel
theorem V.dX11_takeResults_6 : decode cX11_takeResults 6 = .ok (.isub, 1) := by decide +kernel
theorem V.dX11_takeResults_7 : decode cX11_takeResults 7 = .ok (.istore_n 2, 1) := by decide +kernel
theorem V.dX11_takeResults_8 : decode cX11_takeResults 8 = .ok (.iload_n 2, 1) := by decide +kernel
theorem V.dX11_takeResults_9 : decode cX11_takeResults 9 = .ok (.ifCond .lt 20, 3) := by decide +kernel
theorem V.dX11_takeResults_12 : decode cX11_takeResults 12 = .ok (.aload_n 0, 1) := by decide +kernel
theorem V.dX11_takeResults_13 : decode cX11_takeResults 13 = .ok (.aload_n 0, 1) := by decide +kernel
theorem V.dX11_takeResults_14 : decode cX11_takeResults 14 = .ok (.iload_n 1, 1) := by decide +kernel
theorem V.dX11_takeResults_15 : decode cX11_takeResults 15 = .ok (.iload_n 2, 1) := by decide +kernel
theorem V.dX11_takeResults_16 : decode cX11_takeResults 16 = .ok (.invokevirtual 134, 3) := by decide +kernel
theorem V.dX11_takeResults_19 : decode cX11_takeResults 19 = .ok (.invokevirtual 149, 3) := by decide +kernel
theorem V.dX11_takeResults_22 : decode cX11_takeResults 22 = .ok (.pop, 1) := by decide +kernel
theorem V.dX11_takeResults_23 : decode cX11_takeResults 23 = .ok (.iinc 2 (-1), 3) := by decide +kernel
theorem V.dX11_takeResults_26 : decode cX11_takeResults 26 = .ok (.goto (-18), 3) := by decide +kernel
theorem V.dX11_takeResults_29 : decode cX11_takeResults 29 = .ok (.return_, 1) := by decide +kernel
theorem V.mdX11_131 : MD RX11 131 yX11_resultsOf cX11_resultsOf 2 (some .int) 1 := ⟨Or.inl q1871, q371, q1874, by decide, by decide, by decide +kernel⟩
theorem V.mdX11_134 : MD RX11 134 yX11_resultOf cX11_resultOf 3 (some .int) 2 := ⟨Or.inl q1885, q371, q1888, by decide, by decide, by decide +kernel⟩
/-! ModuleEngine$Checker.takeResults(I)V -/
def V.Chk_takeResults_p8  : Nat → HS → Nat → Int32 → Int32 → Option ((Nat ⊕ Unit) × HS)
  | 0, _, _, _, _ => none
  | n + 1, σ, x0, x1, x2 =>
    if x2 < 0 then (
      some (.inr (), σ))
    else (
      ck (tg σ x0 = 12) <| cl (Chk_resultOf σ x0 x1 x2) fun r2 σ1 =>
      ck (tg σ1 x0 = 12) <| clT (Chk_take σ1 x0 r2) fun r4 σ3 =>
      bn (x2 + (-1 : Int32)) fun y5 =>
      Chk_takeResults_p8 n σ3 x0 x1 y5)
theorem V.gX11_takeResults_p8 {X : CX}  : ∀ (n : Nat) (σ : HS) (x0 : Nat) (x1 : Int32) (x2 : Int32), G X RX11 "takeResults" cX11_takeResults 3 none 10 171 (enX enV (cxz X)) 8 [(0, av x0), (1, iv x1), (2, iv x2)] [] σ (Chk_takeResults_p8 n σ x0 x1 x2)
  | 0, σ, x0, x1, x2 => by rw [Chk_takeResults_p8]; exact G.nul
  | n + 1, σ, x0, x1, x2 => by
    rw [Chk_takeResults_p8]
    refine g_iload_n 2 2 dX11_takeResults_8 rfl rfl ?_
    refine g_if_lt 29 dX11_takeResults_9 (by decide) ?_ ?_
    · exact g_return rfl dX11_takeResults_29
    · refine g_aload_n 0 0 dX11_takeResults_12 rfl rfl ?_
      refine g_aload_n 0 0 dX11_takeResults_13 rfl rfl ?_
      refine g_iload_n 1 1 dX11_takeResults_14 rfl rfl ?_
      refine g_iload_n 2 2 dX11_takeResults_15 rfl rfl ?_
      refine g_callV (fc := fun sς => Chk_resultOf sς x0 x1 x2) (ci := 11) (as := [iv x1, iv x2]) rfl rfl rfl q1887 qs90 mdX11_134 (ctX11_resultOf x0 x1 x2) rfl (Nat.le_of_ble_eq_true rfl) (Nat.le_of_ble_eq_true rfl) (Nat.le_of_ble_eq_true rfl) pu_I dX11_takeResults_16 (fun r2 σ1 => ?_)
      refine g_callVT (fc := fun sς => Chk_take sς x0 r2) (ci := 11) (as := [iv r2]) rfl rfl rfl q1837 qs80 q1835 mdX11_149 (ctX11_take x0 r2) rfl (Nat.le_of_ble_eq_true rfl) (Nat.le_of_ble_eq_true rfl) (Nat.le_of_ble_eq_true rfl) pu_I (by decide) dX11_takeResults_19 (fun r4 σ3 => ?_)
      refine g_pop dX11_takeResults_22 rfl ?_
      refine g_iincB (w := (-1)) 2 dX11_takeResults_23 rfl (by decide) (by decide) (fun _ => rfl) (fun y5 => ?_)
      refine g_goto 8 dX11_takeResults_26 (by decide) ?_
      refine G.sub [1, 2, 0] rfl ?_
      exact gX11_takeResults_p8 n _ _ _ _
def V.Chk_takeResults (σ : HS) (x0 : Nat) (x1 : Int32) : Option ((Nat ⊕ Unit) × HS) :=
  ck (tg σ x0 = 12) <| cl (Chk_resultsOf σ x0 x1) fun r2 σ1 =>
  bn (r2 - (1 : Int32)) fun y3 =>
  Chk_takeResults_p8 FU σ1 x0 x1 y3
theorem V.ctX11_takeResults (x0 : Nat) (x1 : Int32) : Ct yX11_takeResults  cX11_takeResults 3 none 10 171 eXV [av x0, iv x1] (fun σ => Chk_takeResults σ x0 x1) := by
  refine Ct.of (own := RX11) (nm := "takeResults") (desc := "(I)V") rfl (by decide) (Nat.le_of_ble_eq_true rfl) (by decide) (fun X σ => ?_)
  show G X RX11 "takeResults" cX11_takeResults 3 none 10 171 (enX enV (cxz X)) 0 [(0, av x0), (1, iv x1)] [] σ (Chk_takeResults σ x0 x1)
  unfold Chk_takeResults
  refine g_aload_n 0 0 dX11_takeResults_0 rfl rfl ?_
  refine g_iload_n 1 1 dX11_takeResults_1 rfl rfl ?_
  refine g_callV (fc := fun sς => Chk_resultsOf sς x0 x1) (ci := 11) (as := [iv x1]) rfl rfl rfl q1873 qs89 mdX11_131 (ctX11_resultsOf x0 x1) rfl (Nat.le_of_ble_eq_true rfl) (Nat.le_of_ble_eq_true rfl) (Nat.le_of_ble_eq_true rfl) pu_I dX11_takeResults_2 (fun r2 σ1 => ?_)
  refine g_iconst (v := 1) dX11_takeResults_5 (by decide) ?_
  refine g_isub dX11_takeResults_6 ?_
  refine g_nmI (fun y3 => ?_)
  refine g_istore_n 2 dX11_takeResults_7 rfl (by decide) rfl ?_
  refine G.sub [1, 2, 0] rfl ?_
  exact gX11_takeResults_p8 FU _ _ _ _
theorem V.dX11_blockIsDone_0 : decode cX11_blockIsDone 0 = .ok (.aload_n 0, 1) := by decide +kernel
theorem V.dX11_blockIsDone_1 : decode cX11_blockIsDone 1 = .ok (.aload_n 0, 1) := by decide +kernel
theorem V.dX11_blockIsDone_2 : decode cX11_blockIsDone 2 = .ok (.getfield 19, 3) := by decide +kernel
theorem V.dX11_blockIsDone_5 : decode cX11_blockIsDone 5 = .ok (.invokevirtual 140, 3) := by decide +kernel
theorem V.dX11_blockIsDone_8 : decode cX11_blockIsDone 8 = .ok (.invokevirtual 173, 3) := by decide +kernel
theorem V.dX11_blockIsDone_11 : decode cX11_blockIsDone 11 = .ok (.aload_n 0, 1) := by decide +kernel
theorem V.dX11_blockIsDone_12 : decode cX11_blockIsDone 12 = .ok (.aload_n 0, 1) := by decide +kernel
theorem V.dX11_blockIsDone_13 : decode cX11_blockIsDone 13 = .ok (.getfield 10, 3) := by decide +kernel
theorem V.dX11_blockIsDone_16 : decode cX11_blockIsDone 16 = .ok (.invokevirtual 107, 3) := by decide +kernel
theorem V.dX11_blockIsDone_19 : decode cX11_blockIsDone 19 = .ok (.aload_n 0, 1) := by decide +kernel
theorem V.dX11_blockIsDone_20 : decode cX11_blockIsDone 20 = .ok (.getfield 22, 3) := by decide +kernel
theorem V.dX11_blockIsDone_23 : decode cX11_blockIsDone 23 = .ok (.invokevirtual 140, 3) := by decide +kernel
theorem V.dX11_blockIsDone_26 : decode cX11_blockIsDone 26 = .ok (.if_icmp .ne 7, 3) := by decide +kernel
theorem V.dX11_blockIsDone_29 : decode cX11_blockIsDone 29 = .ok (.iconst 1, 1) := by decide +kernel
theorem V.dX11_blockIsDone_30 : decode cX11_blockIsDone 30 = .ok (.goto 4, 3) := by decide +kernel
theorem V.dX11_blockIsDone_33 : decode cX11_blockIsDone 33 = .ok (.iconst 0, 1) := by decide +kernel
theorem V.dX11_blockIsDone_34 : decode cX11_blockIsDone 34 = .ok (.iconst 3, 1) := by decide +kernel
theorem V.dX11_blockIsDone_35 : decode cX11_blockIsDone 35 = .ok (.invokevirtual 118, 3) := by decide +kernel
theorem V.dX11_blockIsDone_38 : decode cX11_blockIsDone 38 = .ok (.return_, 1) := by decide +kernel
theorem V.mdX11_173 : MD RX11 173 yX11_takeResults cX11_takeResults 3 none 1 := ⟨Or.inl q1867, q371, q1870, by decide, by decide, by decide +kernel⟩
/-! ModuleEngine$Checker.blockIsDone()V -/
def V.Chk_blockIsDone_p34  (σ : HS) (s0 : Int32) (s1 : Nat) : Option ((Nat ⊕ Unit) × HS) :=
  ck (tg σ s1 = 12) <| clT (Chk_need σ s1 s0 (3 : Int32)) fun _ σ1 =>
  some (.inr (), σ1)
theorem V.gX11_blockIsDone_p34 {X : CX}  (σ : HS) (s0 : Int32) (s1 : Nat) : G X RX11 "blockIsDone" cX11_blockIsDone 1 none 11 193 (enX enV (cxz X)) 34 [] [iv s0, av s1] σ (Chk_blockIsDone_p34 σ s0 s1) := by
  unfold Chk_blockIsDone_p34
  refine g_iconst (v := 3) dX11_blockIsDone_34 (by decide) ?_
  refine g_callVT (fc := fun sς => Chk_need sς s1 s0 (3 : Int32)) (ci := 11) (as := [iv s0, iv (3 : Int32)]) rfl rfl rfl q1746 qs73 q1744 mdX11_118 (ctX11_need s1 s0 (3 : Int32)) rfl (Nat.le_of_ble_eq_true rfl) (Nat.le_of_ble_eq_true rfl) (Nat.le_of_ble_eq_true rfl) pu_V (by decide) dX11_blockIsDone_35 (fun _ σ1 => ?_)
  exact g_return rfl dX11_blockIsDone_38
def V.Chk_blockIsDone (σ : HS) (x0 : Nat) : Option ((Nat ⊕ Unit) × HS) :=
  ck (tg σ x0 = 12) <|
  ck (tg σ (gR σ x0 6) = 4) <| cl (Row_last σ (gR σ x0 6) ) fun r2 σ1 =>
  ck (tg σ1 x0 = 12) <| clT (Chk_takeResults σ1 x0 r2) fun _ σ3 =>
  ck (tg σ3 x0 = 12) <|
  ck (tg σ3 (gR σ3 x0 4) = 4) <| cl (Row_size σ3 (gR σ3 x0 4) ) fun r5 σ4 =>
  ck (tg σ4 x0 = 12) <|
  ck (tg σ4 (gR σ4 x0 7) = 4) <| cl (Row_last σ4 (gR σ4 x0 7) ) fun r7 σ6 =>
  if r5 = r7 then (
    Chk_blockIsDone_p34 σ6 (1 : Int32) x0)
  else (
    Chk_blockIsDone_p34 σ6 (0 : Int32) x0)
theorem V.ctX11_blockIsDone (x0 : Nat) : Ct yX11_blockIsDone  cX11_blockIsDone 1 none 11 193 eXV [av x0] (fun σ => Chk_blockIsDone σ x0) := by
  refine Ct.of (own := RX11) (nm := "blockIsDone") (desc := "()V") rfl (by decide) (Nat.le_of_ble_eq_true rfl) (by decide) (fun X σ => ?_)
  show G X RX11 "blockIsDone" cX11_blockIsDone 1 none 11 193 (enX enV (cxz X)) 0 [(0, av x0)] [] σ (Chk_blockIsDone σ x0)
  unfold Chk_blockIsDone
  refine g_aload_n 0 0 dX11_blockIsDone_0 rfl rfl ?_
  refine g_aload_n 0 0 dX11_blockIsDone_1 rfl rfl ?_
  refine g_getR fdX11_19 dX11_blockIsDone_2 ?_
  refine g_callV (fc := fun sς => Row_last sς (gR σ x0 6) ) (ci := 3) (as := []) rfl rfl rfl q1813 q1814 mdX11_140 (ctX3_last (gR σ x0 6) ) rfl (Nat.le_of_ble_eq_true rfl) (Nat.le_of_ble_eq_true rfl) (Nat.le_of_ble_eq_true rfl) pu_I dX11_blockIsDone_5 (fun r2 σ1 => ?_)
  refine g_callVT (fc := fun sς => Chk_takeResults sς x0 r2) (ci := 11) (as := [iv r2]) rfl rfl rfl q1869 qs88 q1867 mdX11_173 (ctX11_takeResults x0 r2) rfl (Nat.le_of_ble_eq_true rfl) (Nat.le_of_ble_eq_true rfl) (Nat.le_of_ble_eq_true rfl) pu_V (by decide) dX11_blockIsDone_8 (fun _ σ3 => ?_)
  refine g_aload_n 0 0 dX11_blockIsDone_11 rfl rfl ?_
  refine g_aload_n 0 0 dX11_blockIsDone_12 rfl rfl ?_
  refine g_getR fdX11_10 dX11_blockIsDone_13 ?_
  refine g_callV (fc := fun sς => Row_size sς (gR σ3 x0 4) ) (ci := 3) (as := []) rfl rfl rfl q1421 q1422 mdX11_107 (ctX3_size (gR σ3 x0 4) ) rfl (Nat.le_of_ble_eq_true rfl) (Nat.le_of_ble_eq_true rfl) (Nat.le_of_ble_eq_true rfl) pu_I dX11_blockIsDone_16 (fun r5 σ4 => ?_)
  refine g_aload_n 0 0 dX11_blockIsDone_19 rfl rfl ?_
  refine g_getR fdX11_22 dX11_blockIsDone_20 ?_
  refine g_callV (fc := fun sς => Row_last sς (gR σ4 x0 7) ) (ci := 3) (as := []) rfl rfl rfl q1813 q1814 mdX11_140 (ctX3_last (gR σ4 x0 7) ) rfl (Nat.le_of_ble_eq_true rfl) (Nat.le_of_ble_eq_true rfl) (Nat.le_of_ble_eq_true rfl) pu_I dX11_blockIsDone_23 (fun r7 σ6 => ?_)
  refine g_icmp_ne 33 dX11_blockIsDone_26 (by decide) ?_ ?_
  · refine g_iconst (v := 0) dX11_blockIsDone_33 (by decide) ?_
    refine G.sub [] rfl ?_
    exact gX11_blockIsDone_p34 _ _ _
  · refine g_iconst (v := 1) dX11_blockIsDone_29 (by decide) ?_
    refine g_goto 34 dX11_blockIsDone_30 (by decide) ?_
    refine G.sub [] rfl ?_
    exact gX11_blockIsDone_p34 _ _ _
theorem V.dX11_otherPart_0 : decode cX11_otherPart 0 = .ok (.aload_n 0, 1) := by decide +kernel
theorem V.dX11_otherPart_1 : decode cX11_otherPart 1 = .ok (.aload_n 0, 1) := by decide +kernel
theorem V.dX11_otherPart_2 : decode cX11_otherPart 2 = .ok (.getfield 16, 3) := by decide +kernel
theorem V.dX11_otherPart_5 : decode cX11_otherPart 5 = .ok (.invokevirtual 140, 3) := by decide +kernel
theorem V.dX11_otherPart_8 : decode cX11_otherPart 8 = .ok (.iconst 4, 1) := by decide +kernel
theorem V.dX11_otherPart_9 : decode cX11_otherPart 9 = .ok (.if_icmp .ne 7, 3) := by decide +kernel
theorem V.dX11_otherPart_12 : decode cX11_otherPart 12 = .ok (.iconst 1, 1) := by decide +kernel
theorem V.dX11_otherPart_13 : decode cX11_otherPart 13 = .ok (.goto 4, 3) := by decide +kernel
theorem V.dX11_otherPart_16 : decode cX11_otherPart 16 = .ok (.iconst 0, 1) := by decide +kernel
theorem V.dX11_otherPart_17 : decode cX11_otherPart 17 = .ok (.iconst 2, 1) := by decide +kernel
theorem V.dX11_otherPart_18 : decode cX11_otherPart 18 = .ok (.invokevirtual 118, 3) := by decide +kernel
theorem V.dX11_otherPart_21 : decode cX11_otherPart 21 = .ok (.aload_n 0, 1) := by decide +kernel
theorem V.dX11_otherPart_22 : decode cX11_otherPart 22 = .ok (.invokevirtual 176, 3) := by decide +kernel
theorem V.dX11_otherPart_25 : decode cX11_otherPart 25 = .ok (.aload_n 0, 1) := by decide +kernel
theorem V.dX11_otherPart_26 : decode cX11_otherPart 26 = .ok (.getfield 16, 3) := by decide +kernel
theorem V.dX11_otherPart_29 : decode cX11_otherPart 29 = .ok (.aload_n 0, 1) := by decide +kernel
theorem V.dX11_otherPart_30 : decode cX11_otherPart 30 = .ok (.invokevirtual 137, 3) := by decide +kernel
theorem V.dX11_otherPart_33 : decode cX11_otherPart 33 = .ok (.iconst 5, 1) := by decide +kernel
theorem V.dX11_otherPart_34 : decode cX11_otherPart 34 = .ok (.invokevirtual 143, 3) := by decide +kernel
theorem V.dX11_otherPart_37 : decode cX11_otherPart 37 = .ok (.aload_n 0, 1) := by decide +kernel
theorem V.dX11_otherPart_38 : decode cX11_otherPart 38 = .ok (.getfield 25, 3) := by decide +kernel
theorem V.dX11_otherPart_41 : decode cX11_otherPart 41 = .ok (.aload_n 0, 1) := by decide +kernel
theorem V.dX11_otherPart_42 : decode cX11_otherPart 42 = .ok (.invokevirtual 137, 3) := by decide +kernel
theorem V.dX11_otherPart_45 : decode cX11_otherPart 45 = .ok (.iconst 1, 1) := by decide +kernel
theorem V.dX11_otherPart_46 : decode cX11_otherPart 46 = .ok (.invokevirtual 143, 3) := by decide +kernel
theorem V.dX11_otherPart_49 : decode cX11_otherPart 49 = .ok (.aload_n 0, 1) := by decide +kernel
theorem V.dX11_otherPart_50 : decode cX11_otherPart 50 = .ok (.aload_n 0, 1) := by decide +kernel
theorem V.dX11_otherPart_51 : decode cX11_otherPart 51 = .ok (.getfield 19, 3) := by decide +kernel
theorem V.dX11_otherPart_54 : decode cX11_otherPart 54 = .ok (.invokevirtual 140, 3) := by decide +kernel
theorem V.dX11_otherPart_57 : decode cX11_otherPart 57 = .ok (.invokevirtual 170, 3) := by decide +kernel
theorem V.dX11_otherPart_60 : decode cX11_otherPart 60 = .ok (.return_, 1) := by decide +kernel
theorem V.mdX11_176 : MD RX11 176 yX11_blockIsDone cX11_blockIsDone 1 none 0 := ⟨Or.inl q1863, q371, q1866, by decide, by decide, by decide +kernel⟩
/-! ModuleEngine$Checker.otherPart()V -/
def V.Chk_otherPart_p17  (σ : HS) (x0 : Nat) (s0 : Int32) (s1 : Nat) : Option ((Nat ⊕ Unit) × HS) :=
  ck (tg σ s1 = 12) <| clT (Chk_need σ s1 s0 (2 : Int32)) fun _ σ1 =>
  ck (tg σ1 x0 = 12) <| clT (Chk_blockIsDone σ1 x0 ) fun _ σ2 =>
  ck (tg σ2 x0 = 12) <|
  ck (tg σ2 x0 = 12) <| cl (Chk_inner σ2 x0 ) fun r4 σ3 =>
  ck (tg σ3 (gR σ2 x0 5) = 4) <| cl (Row_set σ3 (gR σ2 x0 5) r4 (5 : Int32)) fun _ σ5 =>
  ck (tg σ5 x0 = 12) <|
  ck (tg σ5 x0 = 12) <| cl (Chk_inner σ5 x0 ) fun r7 σ6 =>
  ck (tg σ6 (gR σ5 x0 8) = 4) <| cl (Row_set σ6 (gR σ5 x0 8) r7 (1 : Int32)) fun _ σ8 =>
  ck (tg σ8 x0 = 12) <|
  ck (tg σ8 (gR σ8 x0 6) = 4) <| cl (Row_last σ8 (gR σ8 x0 6) ) fun r10 σ9 =>
  ck (tg σ9 x0 = 12) <| clT (Chk_giveParameters σ9 x0 r10) fun _ σ11 =>
  some (.inr (), σ11)
theorem V.gX11_otherPart_p17 {X : CX}  (σ : HS) (x0 : Nat) (s0 : Int32) (s1 : Nat) : G X RX11 "otherPart" cX11_otherPart 1 none 12 213 (enX enV (cxz X)) 17 [(0, av x0)] [iv s0, av s1] σ (Chk_otherPart_p17 σ x0 s0 s1) := by
  unfold Chk_otherPart_p17
  refine g_iconst (v := 2) dX11_otherPart_17 (by decide) ?_
  refine g_callVT (fc := fun sς => Chk_need sς s1 s0 (2 : Int32)) (ci := 11) (as := [iv s0, iv (2 : Int32)]) rfl rfl rfl q1746 qs73 q1744 mdX11_118 (ctX11_need s1 s0 (2 : Int32)) rfl (Nat.le_of_ble_eq_true rfl) (Nat.le_of_ble_eq_true rfl) (Nat.le_of_ble_eq_true rfl) pu_V (by decide) dX11_otherPart_18 (fun _ σ1 => ?_)
  refine g_aload_n 0 0 dX11_otherPart_21 rfl rfl ?_
  refine g_callVT (fc := fun sς => Chk_blockIsDone sς x0 ) (ci := 11) (as := []) rfl rfl rfl q1865 qs87 q1863 mdX11_176 (ctX11_blockIsDone x0 ) rfl (Nat.le_of_ble_eq_true rfl) (Nat.le_of_ble_eq_true rfl) (Nat.le_of_ble_eq_true rfl) pu_V (by decide) dX11_otherPart_22 (fun _ σ2 => ?_)
  refine g_aload_n 0 0 dX11_otherPart_25 rfl rfl ?_
  refine g_getR fdX11_16 dX11_otherPart_26 ?_
  refine g_aload_n 0 0 dX11_otherPart_29 rfl rfl ?_
  refine g_callV (fc := fun sς => Chk_inner sς x0 ) (ci := 11) (as := []) rfl rfl rfl q1818 qs78 mdX11_137 (ctX11_inner x0 ) rfl (Nat.le_of_ble_eq_true rfl) (Nat.le_of_ble_eq_true rfl) (Nat.le_of_ble_eq_true rfl) pu_I dX11_otherPart_30 (fun r4 σ3 => ?_)
  refine g_iconst (v := 5) dX11_otherPart_33 (by decide) ?_
  refine g_callV (fc := fun sς => Row_set sς (gR σ2 x0 5) r4 (5 : Int32)) (ci := 3) (as := [iv r4, iv (5 : Int32)]) rfl rfl rfl q1439 q1440 mdX11_143 (ctX3_set (gR σ2 x0 5) r4 (5 : Int32)) rfl (Nat.le_of_ble_eq_true rfl) (Nat.le_of_ble_eq_true rfl) (Nat.le_of_ble_eq_true rfl) pu_V dX11_otherPart_34 (fun _ σ5 => ?_)
  refine g_aload_n 0 0 dX11_otherPart_37 rfl rfl ?_
  refine g_getR fdX11_25 dX11_otherPart_38 ?_
  refine g_aload_n 0 0 dX11_otherPart_41 rfl rfl ?_
  refine g_callV (fc := fun sς => Chk_inner sς x0 ) (ci := 11) (as := []) rfl rfl rfl q1818 qs78 mdX11_137 (ctX11_inner x0 ) rfl (Nat.le_of_ble_eq_true rfl) (Nat.le_of_ble_eq_true rfl) (Nat.le_of_ble_eq_true rfl) pu_I dX11_otherPart_42 (fun r7 σ6 => ?_)
  refine g_iconst (v := 1) dX11_otherPart_45 (by decide) ?_
  refine g_callV (fc := fun sς => Row_set sς (gR σ5 x0 8) r7 (1 : Int32)) (ci := 3) (as := [iv r7, iv (1 : Int32)]) rfl rfl rfl q1439 q1440 mdX11_143 (ctX3_set (gR σ5 x0 8) r7 (1 : Int32)) rfl (Nat.le_of_ble_eq_true rfl) (Nat.le_of_ble_eq_true rfl) (Nat.le_of_ble_eq_true rfl) pu_V dX11_otherPart_46 (fun _ σ8 => ?_)
  refine g_aload_n 0 0 dX11_otherPart_49 rfl rfl ?_
  refine g_aload_n 0 0 dX11_otherPart_50 rfl rfl ?_
  refine g_getR fdX11_19 dX11_otherPart_51 ?_
  refine g_callV (fc := fun sς => Row_last sς (gR σ8 x0 6) ) (ci := 3) (as := []) rfl rfl rfl q1813 q1814 mdX11_140 (ctX3_last (gR σ8 x0 6) ) rfl (Nat.le_of_ble_eq_true rfl) (Nat.le_of_ble_eq_true rfl) (Nat.le_of_ble_eq_true rfl) pu_I dX11_otherPart_54 (fun r10 σ9 => ?_)
  refine g_callVT (fc := fun sς => Chk_giveParameters sς x0 r10) (ci := 11) (as := [iv r10]) rfl rfl rfl q1853 qs84 q1851 mdX11_170 (ctX11_giveParameters x0 r10) rfl (Nat.le_of_ble_eq_true rfl) (Nat.le_of_ble_eq_true rfl) (Nat.le_of_ble_eq_true rfl) pu_V (by decide) dX11_otherPart_57 (fun _ σ11 => ?_)
  exact g_return rfl dX11_otherPart_60
def V.Chk_otherPart (σ : HS) (x0 : Nat) : Option ((Nat ⊕ Unit) × HS) :=
  ck (tg σ x0 = 12) <|
  ck (tg σ (gR σ x0 5) = 4) <| cl (Row_last σ (gR σ x0 5) ) fun r2 σ1 =>
  if r2 = (4 : Int32) then (
    Chk_otherPart_p17 σ1 x0 (1 : Int32) x0)
  else (
    Chk_otherPart_p17 σ1 x0 (0 : Int32) x0)
theorem V.ctX11_otherPart (x0 : Nat) : Ct yX11_otherPart  cX11_otherPart 1 none 12 213 eXV [av x0] (fun σ => Chk_otherPart σ x0) := by
  refine Ct.of (own := RX11) (nm := "otherPart") (desc := "()V") rfl (by decide) (Nat.le_of_ble_eq_true rfl) (by decide) (fun X σ => ?_)
  show G X RX11 "otherPart" cX11_otherPart 1 none 12 213 (enX enV (cxz X)) 0 [(0, av x0)] [] σ (Chk_otherPart σ x0)
  unfold Chk_otherPart
  refine g_aload_n 0 0 dX11_otherPart_0 rfl rfl ?_
  refine g_aload_n 0 0 dX11_otherPart_1 rfl rfl ?_
  refine g_getR fdX11_16 dX11_otherPart_2 ?_
  refine g_callV (fc := fun sς => Row_last sς (gR σ x0 5) ) (ci := 3) (as := []) rfl rfl rfl q1813 q1814 mdX11_140 (ctX3_last (gR σ x0 5) ) rfl (Nat.le_of_ble_eq_true rfl) (Nat.le_of_ble_eq_true rfl) (Nat.le_of_ble_eq_true rfl) pu_I dX11_otherPart_5 (fun r2 σ1 => ?_)
  refine g_iconst (v := 4) dX11_otherPart_8 (by decide) ?_
  refine g_icmp_ne 16 dX11_otherPart_9 (by decide) ?_ ?_
  · refine g_iconst (v := 0) dX11_otherPart_16 (by decide) ?_
    exact gX11_otherPart_p17 _ _ _ _
  · refine g_iconst (v := 1) dX11_otherPart_12 (by decide) ?_
    refine g_goto 17 dX11_otherPart_13 (by decide) ?_
    exact gX11_otherPart_p17 _ _ _ _
theorem V.dX11_isAlike_0 : decode cX11_isAlike 0 = .ok (.aload_n 0, 1) := by decide +kernel
theorem V.dX11_isAlike_1 : decode cX11_isAlike 1 = .ok (.iload_n 1, 1) := by decide +kernel
theorem V.dX11_isAlike_2 : decode cX11_isAlike 2 = .ok (.invokevirtual 128, 3) := by decide +kernel
theorem V.dX11_isAlike_5 : decode cX11_isAlike 5 = .ok (.istore_n 2, 1) := by decide +kernel
theorem V.dX11_isAlike_6 : decode cX11_isAlike 6 = .ok (.iload_n 2, 1) := by decide +kernel
theorem V.dX11_isAlike_7 : decode cX11_isAlike 7 = .ok (.aload_n 0, 1) := by decide +kernel
theorem V.dX11_isAlike_8 : decode cX11_isAlike 8 = .ok (.iload_n 1, 1) := by decide +kernel
theorem V.dX11_isAlike_9 : decode cX11_isAlike 9 = .ok (.invokevirtual 131, 3) := by decide +kernel
theorem V.dX11_isAlike_12 : decode cX11_isAlike 12 = .ok (.if_icmp .eq 5, 3) := by decide +kernel
theorem V.dX11_isAlike_15 : decode cX11_isAlike 15 = .ok (.iconst 0, 1) := by decide +kernel
theorem V.dX11_isAlike_16 : decode cX11_isAlike 16 = .ok (.ireturn, 1) := by decide +kernel
theorem V.dX11_isAlike_17 : decode cX11_isAlike 17 = .ok (.iconst 0, 1) := by decide +kernel
theorem V.dX11_isAlike_18 : decode cX11_isAlike 18 = .ok (.istore_n 3, 1) := by decide +kernel
theorem V.dX11_isAlike_19 : decode cX11_isAlike 19 = .ok (.iload_n 3, 1) := by decide +kernel
theorem V.dX11_isAlike_20 : decode cX11_isAlike 20 = .ok (.iload_n 2, 1) := by decide +kernel
theorem V.dX11_isAlike_21 : decode cX11_isAlike 21 = .ok (.if_icmp .ge 31, 3) := by decide +kernel
theorem V.dX11_isAlike_24 : decode cX11_isAlike 24 = .ok (.aload_n 0, 1) := by decide +kernel
theorem V.dX11_isAlike_25 : decode cX11_isAlike 25 = .ok (.getfield 40, 3) := by decide +kernel
theorem V.dX11_isAlike_28 : decode cX11_isAlike 28 = .ok (.iload_n 1, 1) := by decide +kernel
theorem V.dX11_isAlike_29 : decode cX11_isAlike 29 = .ok (.iload_n 3, 1) := by decide +kernel
theorem V.dX11_isAlike_30 : decode cX11_isAlike 30 = .ok (.invokeinterface 97 3, 5) := by decide +kernel
theorem V.dX11_isAlike_35 : decode cX11_isAlike 35 = .ok (.aload_n 0, 1) := by decide +kernel
theorem V.dX11_isAlike_36 : decode cX11_isAlike 36 = .ok (.iload_n 1, 1) := by decide +kernel
theorem V.dX11_isAlike_37 : decode cX11_isAlike 37 = .ok (.iload_n 3, 1) := by decide +kernel
theorem V.dX11_isAlike_38 : decode cX11_isAlike 38 = .ok (.invokevirtual 134, 3) := by decide +kernel
theorem V.dX11_isAlike_41 : decode cX11_isAlike 41 = .ok (.if_icmp .eq 5, 3) := by decide +kernel
theorem V.dX11_isAlike_44 : decode cX11_isAlike 44 = .ok (.iconst 0, 1) := by decide +kernel
theorem V.dX11_isAlike_45 : decode cX11_isAlike 45 = .ok (.ireturn, 1) := by decide +kernel
theorem V.dX11_isAlike_46 : decode cX11_isAlike 46 = .ok (.iinc 3 1, 3) := by decide +kernel
theorem V.dX11_isAlike_49 : decode cX11_isAlike 49 = .ok (.goto (-30), 3) := by decide +kernel
theorem V.dX11_isAlike_52 : decode cX11_isAlike 52 = .ok (.iconst 1, 1) := by decide +kernel
theorem V.dX11_isAlike_53 : decode cX11_isAlike 53 = .ok (.ireturn, 1) := by decide +kernel
/-! ModuleEngine$Checker.isAlike(I)Z -/
def V.Chk_isAlike_p19  : Nat → HS → Nat → Int32 → Int32 → Int32 → Option (Int32 × HS)
  | 0, _, _, _, _, _ => none
  | n + 1, σ, x0, x1, x2, x3 =>
    if x2 ≤ x3 then (
      some ((1 : Int32), σ))
    else (
      ck (tg σ x0 = 12) <|
      ck (tg σ (gR σ x0 0) = 10) <| cl (Mty_parameter σ (gR σ x0 0) x1 x3) fun r2 σ1 =>
      ck (tg σ1 x0 = 12) <| cl (Chk_resultOf σ1 x0 x1 x3) fun r4 σ3 =>
      if r2 = r4 then (
        bn (x3 + (1 : Int32)) fun y5 =>
        Chk_isAlike_p19 n σ3 x0 x1 x2 y5)
      else (
        some ((0 : Int32), σ3)))
theorem V.gX11_isAlike_p19 {X : CX}  : ∀ (n : Nat) (σ : HS) (x0 : Nat) (x1 : Int32) (x2 : Int32) (x3 : Int32), G X RX11 "isAlike" cX11_isAlike 4 (some .boolean) 5 108 enI 19 [(0, av x0), (1, iv x1), (2, iv x2), (3, iv x3)] [] σ (Chk_isAlike_p19 n σ x0 x1 x2 x3)
  | 0, σ, x0, x1, x2, x3 => by rw [Chk_isAlike_p19]; exact G.nul
  | n + 1, σ, x0, x1, x2, x3 => by
    rw [Chk_isAlike_p19]
    refine g_iload_n 3 3 dX11_isAlike_19 rfl rfl ?_
    refine g_iload_n 2 2 dX11_isAlike_20 rfl rfl ?_
    refine g_icmp_ge 52 dX11_isAlike_21 (by decide) ?_ ?_
    · refine g_iconst (v := 1) dX11_isAlike_52 (by decide) ?_
      exact g_zreturn rfl (by decide +kernel) dX11_isAlike_53
    · refine g_aload_n 0 0 dX11_isAlike_24 rfl rfl ?_
      refine g_getR fdX11_40 dX11_isAlike_25 ?_
      refine g_iload_n 1 1 dX11_isAlike_28 rfl rfl ?_
      refine g_iload_n 3 3 dX11_isAlike_29 rfl rfl ?_
      refine g_callF (fc := fun sς => Mty_parameter sς (gR σ x0 0) x1 x3) (as := [iv x1, iv x3]) (n := 2) (nmy := "parameter") (dsy := "(II)I") rfl rfl (by decide) q1767 q1770 q1772 q369 q1774 (by decide +kernel) (ctX9_parameter (gR σ x0 0) x1 x3) rfl (Nat.le_of_ble_eq_true rfl) (Nat.le_of_ble_eq_true rfl) (Nat.le_of_ble_eq_true rfl) pu_I dX11_isAlike_30 (fun r2 σ1 => ?_)
      refine g_aload_n 0 0 dX11_isAlike_35 rfl rfl ?_
      refine g_iload_n 1 1 dX11_isAlike_36 rfl rfl ?_
      refine g_iload_n 3 3 dX11_isAlike_37 rfl rfl ?_
      refine g_callV (fc := fun sς => Chk_resultOf sς x0 x1 x3) (ci := 11) (as := [iv x1, iv x3]) rfl rfl rfl q1887 qs90 mdX11_134 (ctX11_resultOf x0 x1 x3) rfl (Nat.le_of_ble_eq_true rfl) (Nat.le_of_ble_eq_true rfl) (Nat.le_of_ble_eq_true rfl) pu_I dX11_isAlike_38 (fun r4 σ3 => ?_)
      refine g_icmp_eq 46 dX11_isAlike_41 (by decide) ?_ ?_
      · refine g_iincB (w := 1) 3 dX11_isAlike_46 rfl (by decide) (by decide) (fun _ => rfl) (fun y5 => ?_)
        refine g_goto 19 dX11_isAlike_49 (by decide) ?_
        refine G.sub [1, 2, 3, 0] rfl ?_
        exact gX11_isAlike_p19 n _ _ _ _ _
      · refine g_iconst (v := 0) dX11_isAlike_44 (by decide) ?_
        exact g_zreturn rfl (by decide +kernel) dX11_isAlike_45
def V.Chk_isAlike (σ : HS) (x0 : Nat) (x1 : Int32) : Option (Int32 × HS) :=
  ck (tg σ x0 = 12) <| cl (Chk_parametersOf σ x0 x1) fun r2 σ1 =>
  ck (tg σ1 x0 = 12) <| cl (Chk_resultsOf σ1 x0 x1) fun r4 σ3 =>
  if r2 = r4 then (
    Chk_isAlike_p19 FU σ3 x0 x1 r2 (0 : Int32))
  else (
    some ((0 : Int32), σ3))
theorem V.ctX11_isAlike (x0 : Nat) (x1 : Int32) : Ct yX11_isAlike  cX11_isAlike 4 (some .boolean) 5 108 eI [av x0, iv x1] (fun σ => Chk_isAlike σ x0 x1) := by
  refine Ct.of (own := RX11) (nm := "isAlike") (desc := "(I)Z") rfl (by decide) (Nat.le_of_ble_eq_true rfl) (by decide) (fun X σ => ?_)
  show G X RX11 "isAlike" cX11_isAlike 4 (some .boolean) 5 108 enI 0 [(0, av x0), (1, iv x1)] [] σ (Chk_isAlike σ x0 x1)
  unfold Chk_isAlike
  refine g_aload_n 0 0 dX11_isAlike_0 rfl rfl ?_
  refine g_iload_n 1 1 dX11_isAlike_1 rfl rfl ?_
  refine g_callV (fc := fun sς => Chk_parametersOf sς x0 x1) (ci := 11) (as := [iv x1]) rfl rfl rfl q1849 qs83 mdX11_128 (ctX11_parametersOf x0 x1) rfl (Nat.le_of_ble_eq_true rfl) (Nat.le_of_ble_eq_true rfl) (Nat.le_of_ble_eq_true rfl) pu_I dX11_isAlike_2 (fun r2 σ1 => ?_)
  refine g_istore_n 2 dX11_isAlike_5 rfl (by decide) rfl ?_
  refine g_iload_n 2 0 dX11_isAlike_6 rfl rfl ?_
  refine g_aload_n 0 1 dX11_isAlike_7 rfl rfl ?_
  refine g_iload_n 1 2 dX11_isAlike_8 rfl rfl ?_
  refine g_callV (fc := fun sς => Chk_resultsOf sς x0 x1) (ci := 11) (as := [iv x1]) rfl rfl rfl q1873 qs89 mdX11_131 (ctX11_resultsOf x0 x1) rfl (Nat.le_of_ble_eq_true rfl) (Nat.le_of_ble_eq_true rfl) (Nat.le_of_ble_eq_true rfl) pu_I dX11_isAlike_9 (fun r4 σ3 => ?_)
  refine g_icmp_eq 17 dX11_isAlike_12 (by decide) ?_ ?_
  · refine g_iconst (v := 0) dX11_isAlike_17 (by decide) ?_
    refine g_istore_n 3 dX11_isAlike_18 rfl (by decide) rfl ?_
    refine G.sub [2, 3, 1, 0] rfl ?_
    exact gX11_isAlike_p19 FU _ _ _ _ _
  · refine g_iconst (v := 0) dX11_isAlike_15 (by decide) ?_
    exact g_zreturn rfl (by decide +kernel) dX11_isAlike_16
theorem V.dX11_giveResults_0 : decode cX11_giveResults 0 = .ok (.iconst 0, 1) := by decide +kernel
theorem V.dX11_giveResults_1 : decode cX11_giveResults 1 = .ok (.istore_n 2, 1) := by decide +kernel
theorem V.dX11_giveResults_2 : decode cX11_giveResults 2 = .ok (.iload_n 2, 1) := by decide +kernel
theorem V.dX11_giveResults_3 : decode cX11_giveResults 3 = .ok (.aload_n 0, 1) := by decide +kernel
theorem V.dX11_giveResults_4 : decode cX11_giveResults 4 = .ok (.iload_n 1, 1) := by decide +kernel
theorem V.dX11_giveResults_5 : decode cX11_giveResults 5 = .ok (.invokevirtual 131, 3) := by decide +kernel
theorem V.dX11_giveResults_8 : decode cX11_giveResults 8 = .ok (.if_icmp .ge 19, 3) := by decide +kernel
theorem V.dX11_giveResults_11 : decode cX11_giveResults 11 = .ok (.aload_n 0, 1) := by decide +kernel
theorem V.dX11_giveResults_12 : decode cX11_giveResults 12 = .ok (.aload_n 0, 1) := by decide +kernel
theorem V.dX11_giveResults_13 : decode cX11_giveResults 13 = .ok (.iload_n 1, 1) := by decide +kernel
theorem V.dX11_giveResults_14 : decode cX11_giveResults 14 = .ok (.iload_n 2, 1) := by decide +kernel
theorem V.dX11_giveResults_15 : decode cX11_giveResults 15 = .ok (.invokevirtual 134, 3) := by decide +kernel
theorem V.dX11_giveResults_18 : decode cX11_giveResults 18 = .ok (.invokevirtual 152, 3) := by decide +kernel
theorem V.dX11_giveResults_21 : decode cX11_giveResults 21 = .ok (.iinc 2 1, 3) := by decide +kernel
theorem V.dX11_giveResults_24 : decode cX11_giveResults 24 = .ok (.goto (-22), 3) := by decide +kernel
theorem V.dX11_giveResults_27 : decode cX11_giveResults 27 = .ok (.return_, 1) := by decide +kernel
/-! ModuleEngine$Checker.giveResults(I)V -/
def V.Chk_giveResults_p2  : Nat → HS → Nat → Int32 → Int32 → Option ((Nat ⊕ Unit) × HS)
  | 0, _, _, _, _ => none
  | n + 1, σ, x0, x1, x2 =>
    ck (tg σ x0 = 12) <| cl (Chk_resultsOf σ x0 x1) fun r2 σ1 =>
    if r2 ≤ x2 then (
      some (.inr (), σ1))
    else (
      ck (tg σ1 x0 = 12) <| cl (Chk_resultOf σ1 x0 x1 x2) fun r4 σ3 =>
      ck (tg σ3 x0 = 12) <| clT (Chk_give σ3 x0 r4) fun _ σ5 =>
      bn (x2 + (1 : Int32)) fun y6 =>
      Chk_giveResults_p2 n σ5 x0 x1 y6)
theorem V.gX11_giveResults_p2 {X : CX}  : ∀ (n : Nat) (σ : HS) (x0 : Nat) (x1 : Int32) (x2 : Int32), G X RX11 "giveResults" cX11_giveResults 3 none 9 149 (enX enV (cxz X)) 2 [(0, av x0), (1, iv x1), (2, iv x2)] [] σ (Chk_giveResults_p2 n σ x0 x1 x2)
  | 0, σ, x0, x1, x2 => by rw [Chk_giveResults_p2]; exact G.nul
  | n + 1, σ, x0, x1, x2 => by
    rw [Chk_giveResults_p2]
    refine g_iload_n 2 2 dX11_giveResults_2 rfl rfl ?_
    refine g_aload_n 0 0 dX11_giveResults_3 rfl rfl ?_
    refine g_iload_n 1 1 dX11_giveResults_4 rfl rfl ?_
    refine g_callV (fc := fun sς => Chk_resultsOf sς x0 x1) (ci := 11) (as := [iv x1]) rfl rfl rfl q1873 qs89 mdX11_131 (ctX11_resultsOf x0 x1) rfl (Nat.le_of_ble_eq_true rfl) (Nat.le_of_ble_eq_true rfl) (Nat.le_of_ble_eq_true rfl) pu_I dX11_giveResults_5 (fun r2 σ1 => ?_)
    refine g_icmp_ge 27 dX11_giveResults_8 (by decide) ?_ ?_
    · exact g_return rfl dX11_giveResults_27
    · refine g_aload_n 0 0 dX11_giveResults_11 rfl rfl ?_
      refine g_aload_n 0 0 dX11_giveResults_12 rfl rfl ?_
      refine g_iload_n 1 1 dX11_giveResults_13 rfl rfl ?_
      refine g_iload_n 2 2 dX11_giveResults_14 rfl rfl ?_
      refine g_callV (fc := fun sς => Chk_resultOf sς x0 x1 x2) (ci := 11) (as := [iv x1, iv x2]) rfl rfl rfl q1887 qs90 mdX11_134 (ctX11_resultOf x0 x1 x2) rfl (Nat.le_of_ble_eq_true rfl) (Nat.le_of_ble_eq_true rfl) (Nat.le_of_ble_eq_true rfl) pu_I dX11_giveResults_15 (fun r4 σ3 => ?_)
      refine g_callVT (fc := fun sς => Chk_give sς x0 r4) (ci := 11) (as := [iv r4]) rfl rfl rfl q1857 qs85 q1855 mdX11_152 (ctX11_give x0 r4) rfl (Nat.le_of_ble_eq_true rfl) (Nat.le_of_ble_eq_true rfl) (Nat.le_of_ble_eq_true rfl) pu_V (by decide) dX11_giveResults_18 (fun _ σ5 => ?_)
      refine g_iincB (w := 1) 2 dX11_giveResults_21 rfl (by decide) (by decide) (fun _ => rfl) (fun y6 => ?_)
      refine g_goto 2 dX11_giveResults_24 (by decide) ?_
      refine G.sub [1, 2, 0] rfl ?_
      exact gX11_giveResults_p2 n _ _ _ _
def V.Chk_giveResults (σ : HS) (x0 : Nat) (x1 : Int32) : Option ((Nat ⊕ Unit) × HS) :=
  Chk_giveResults_p2 FU σ x0 x1 (0 : Int32)
theorem V.ctX11_giveResults (x0 : Nat) (x1 : Int32) : Ct yX11_giveResults  cX11_giveResults 3 none 9 149 eXV [av x0, iv x1] (fun σ => Chk_giveResults σ x0 x1) := by
  refine Ct.of (own := RX11) (nm := "giveResults") (desc := "(I)V") rfl (by decide) (Nat.le_of_ble_eq_true rfl) (by decide) (fun X σ => ?_)
  show G X RX11 "giveResults" cX11_giveResults 3 none 9 149 (enX enV (cxz X)) 0 [(0, av x0), (1, iv x1)] [] σ (Chk_giveResults σ x0 x1)
  unfold Chk_giveResults
  refine g_iconst (v := 0) dX11_giveResults_0 (by decide) ?_
  refine g_istore_n 2 dX11_giveResults_1 rfl (by decide) rfl ?_
  refine G.sub [1, 2, 0] rfl ?_
  exact gX11_giveResults_p2 FU _ _ _ _
theorem V.dX11_blockEnds_0 : decode cX11_blockEnds 0 = .ok (.aload_n 0, 1) := by decide +kernel
theorem V.dX11_blockEnds_1 : decode cX11_blockEnds 1 = .ok (.invokevirtual 176, 3) := by decide +kernel
theorem V.dX11_blockEnds_4 : decode cX11_blockEnds 4 = .ok (.aload_n 0, 1) := by decide +kernel
theorem V.dX11_blockEnds_5 : decode cX11_blockEnds 5 = .ok (.getfield 19, 3) := by decide +kernel
theorem V.dX11_blockEnds_8 : decode cX11_blockEnds 8 = .ok (.invokevirtual 140, 3) := by decide +kernel
theorem V.dX11_blockEnds_11 : decode cX11_blockEnds 11 = .ok (.istore_n 1, 1) := by decide +kernel
theorem V.dX11_blockEnds_12 : decode cX11_blockEnds 12 = .ok (.aload_n 0, 1) := by decide +kernel
theorem V.dX11_blockEnds_13 : decode cX11_blockEnds 13 = .ok (.aload_n 0, 1) := by decide +kernel
theorem V.dX11_blockEnds_14 : decode cX11_blockEnds 14 = .ok (.getfield 16, 3) := by decide +kernel
theorem V.dX11_blockEnds_17 : decode cX11_blockEnds 17 = .ok (.invokevirtual 140, 3) := by decide +kernel
theorem V.dX11_blockEnds_20 : decode cX11_blockEnds 20 = .ok (.iconst 4, 1) := by decide +kernel
theorem V.dX11_blockEnds_21 : decode cX11_blockEnds 21 = .ok (.if_icmp .ne 11, 3) := by decide +kernel
theorem V.dX11_blockEnds_24 : decode cX11_blockEnds 24 = .ok (.aload_n 0, 1) := by decide +kernel
theorem V.dX11_blockEnds_25 : decode cX11_blockEnds 25 = .ok (.iload_n 1, 1) := by decide +kernel
theorem V.dX11_blockEnds_26 : decode cX11_blockEnds 26 = .ok (.invokevirtual 179, 3) := by decide +kernel
theorem V.dX11_blockEnds_29 : decode cX11_blockEnds 29 = .ok (.ifCond .eq 7, 3) := by decide +kernel
theorem V.dX11_blockEnds_32 : decode cX11_blockEnds 32 = .ok (.iconst 1, 1) := by decide +kernel
theorem V.dX11_blockEnds_33 : decode cX11_blockEnds 33 = .ok (.goto 4, 3) := by decide +kernel
theorem V.dX11_blockEnds_36 : decode cX11_blockEnds 36 = .ok (.iconst 0, 1) := by decide +kernel
theorem V.dX11_blockEnds_37 : decode cX11_blockEnds 37 = .ok (.iconst 4, 1) := by decide +kernel
theorem V.dX11_blockEnds_38 : decode cX11_blockEnds 38 = .ok (.invokevirtual 118, 3) := by decide +kernel
theorem V.dX11_blockEnds_41 : decode cX11_blockEnds 41 = .ok (.aload_n 0, 1) := by decide +kernel
theorem V.dX11_blockEnds_42 : decode cX11_blockEnds 42 = .ok (.invokevirtual 137, 3) := by decide +kernel
theorem V.dX11_blockEnds_45 : decode cX11_blockEnds 45 = .ok (.istore_n 2, 1) := by decide +kernel
theorem V.dX11_blockEnds_46 : decode cX11_blockEnds 46 = .ok (.aload_n 0, 1) := by decide +kernel
theorem V.dX11_blockEnds_47 : decode cX11_blockEnds 47 = .ok (.getfield 16, 3) := by decide +kernel
theorem V.dX11_blockEnds_50 : decode cX11_blockEnds 50 = .ok (.iload_n 2, 1) := by decide +kernel
theorem V.dX11_blockEnds_51 : decode cX11_blockEnds 51 = .ok (.invokevirtual 81, 3) := by decide +kernel
theorem V.dX11_blockEnds_54 : decode cX11_blockEnds 54 = .ok (.aload_n 0, 1) := by decide +kernel
theorem V.dX11_blockEnds_55 : decode cX11_blockEnds 55 = .ok (.getfield 19, 3) := by decide +kernel
theorem V.dX11_blockEnds_58 : decode cX11_blockEnds 58 = .ok (.iload_n 2, 1) := by decide +kernel
theorem V.dX11_blockEnds_59 : decode cX11_blockEnds 59 = .ok (.invokevirtual 81, 3) := by decide +kernel
theorem V.dX11_blockEnds_62 : decode cX11_blockEnds 62 = .ok (.aload_n 0, 1) := by decide +kernel
theorem V.dX11_blockEnds_63 : decode cX11_blockEnds 63 = .ok (.getfield 22, 3) := by decide +kernel
theorem V.dX11_blockEnds_66 : decode cX11_blockEnds 66 = .ok (.iload_n 2, 1) := by decide +kernel
theorem V.dX11_blockEnds_67 : decode cX11_blockEnds 67 = .ok (.invokevirtual 81, 3) := by decide +kernel
theorem V.dX11_blockEnds_70 : decode cX11_blockEnds 70 = .ok (.aload_n 0, 1) := by decide +kernel
theorem V.dX11_blockEnds_71 : decode cX11_blockEnds 71 = .ok (.getfield 25, 3) := by decide +kernel
theorem V.dX11_blockEnds_74 : decode cX11_blockEnds 74 = .ok (.iload_n 2, 1) := by decide +kernel
theorem V.dX11_blockEnds_75 : decode cX11_blockEnds 75 = .ok (.invokevirtual 81, 3) := by decide +kernel
theorem V.dX11_blockEnds_78 : decode cX11_blockEnds 78 = .ok (.iload_n 2, 1) := by decide +kernel
theorem V.dX11_blockEnds_79 : decode cX11_blockEnds 79 = .ok (.ifCond .le 11, 3) := by decide +kernel
theorem V.dX11_blockEnds_82 : decode cX11_blockEnds 82 = .ok (.aload_n 0, 1) := by decide +kernel
theorem V.dX11_blockEnds_83 : decode cX11_blockEnds 83 = .ok (.iload_n 1, 1) := by decide +kernel
theorem V.dX11_blockEnds_84 : decode cX11_blockEnds 84 = .ok (.invokevirtual 182, 3) := by decide +kernel
theorem V.dX11_blockEnds_87 : decode cX11_blockEnds 87 = .ok (.goto 13, 3) := by decide +kernel
theorem V.dX11_blockEnds_90 : decode cX11_blockEnds 90 = .ok (.aload_n 0, 1) := by decide +kernel
theorem V.dX11_blockEnds_91 : decode cX11_blockEnds 91 = .ok (.iconst 0, 1) := by decide +kernel
theorem V.dX11_blockEnds_92 : decode cX11_blockEnds 92 = .ok (.putfield 71, 3) := by decide +kernel
theorem V.dX11_blockEnds_95 : decode cX11_blockEnds 95 = .ok (.aload_n 0, 1) := by decide +kernel
theorem V.dX11_blockEnds_96 : decode cX11_blockEnds 96 = .ok (.iconst 1, 1) := by decide +kernel
theorem V.dX11_blockEnds_97 : decode cX11_blockEnds 97 = .ok (.putfield 75, 3) := by decide +kernel
theorem V.dX11_blockEnds_100 : decode cX11_blockEnds 100 = .ok (.return_, 1) := by decide +kernel
theorem V.mdX11_179 : MD RX11 179 yX11_isAlike cX11_isAlike 4 (some .boolean) 1 := ⟨Or.inl q1906, q371, q1909, by decide, by decide, by decide +kernel⟩
theorem V.mdX11_182 : MD RX11 182 yX11_giveResults cX11_giveResults 3 none 1 := ⟨Or.inl q1910, q371, q1913, by decide, by decide, by decide +kernel⟩
/-! ModuleEngine$Checker.blockEnds()V -/
def V.Chk_blockEnds_p37  (σ : HS) (x0 : Nat) (x1 : Int32) (s0 : Int32) (s1 : Nat) : Option ((Nat ⊕ Unit) × HS) :=
  ck (tg σ s1 = 12) <| clT (Chk_need σ s1 s0 (4 : Int32)) fun _ σ1 =>
  ck (tg σ1 x0 = 12) <| cl (Chk_inner σ1 x0 ) fun r3 σ2 =>
  ck (tg σ2 x0 = 12) <|
  ck (tg σ2 (gR σ2 x0 5) = 4) <| cl (Row_cut σ2 (gR σ2 x0 5) r3) fun _ σ4 =>
  ck (tg σ4 x0 = 12) <|
  ck (tg σ4 (gR σ4 x0 6) = 4) <| cl (Row_cut σ4 (gR σ4 x0 6) r3) fun _ σ5 =>
  ck (tg σ5 x0 = 12) <|
  ck (tg σ5 (gR σ5 x0 7) = 4) <| cl (Row_cut σ5 (gR σ5 x0 7) r3) fun _ σ6 =>
  ck (tg σ6 x0 = 12) <|
  ck (tg σ6 (gR σ6 x0 8) = 4) <| cl (Row_cut σ6 (gR σ6 x0 8) r3) fun _ σ7 =>
  if r3 ≤ 0 then (
    ck (tg σ7 x0 = 12) <| bn (sI σ7 x0 13 (0 : Int32)) fun σ8 =>
    ck (tg σ8 x0 = 12) <| bn (sI σ8 x0 14 (1 : Int32)) fun σ9 =>
    some (.inr (), σ9))
  else (
    ck (tg σ7 x0 = 12) <| clT (Chk_giveResults σ7 x0 x1) fun _ σ10 =>
    some (.inr (), σ10))
theorem V.gX11_blockEnds_p37 {X : CX}  (σ : HS) (x0 : Nat) (x1 : Int32) (s0 : Int32) (s1 : Nat) : G X RX11 "blockEnds" cX11_blockEnds 3 none 12 213 (enX enV (cxz X)) 37 [(0, av x0), (1, iv x1)] [iv s0, av s1] σ (Chk_blockEnds_p37 σ x0 x1 s0 s1) := by
  unfold Chk_blockEnds_p37
  refine g_iconst (v := 4) dX11_blockEnds_37 (by decide) ?_
  refine g_callVT (fc := fun sς => Chk_need sς s1 s0 (4 : Int32)) (ci := 11) (as := [iv s0, iv (4 : Int32)]) rfl rfl rfl q1746 qs73 q1744 mdX11_118 (ctX11_need s1 s0 (4 : Int32)) rfl (Nat.le_of_ble_eq_true rfl) (Nat.le_of_ble_eq_true rfl) (Nat.le_of_ble_eq_true rfl) pu_V (by decide) dX11_blockEnds_38 (fun _ σ1 => ?_)
  refine g_aload_n 0 0 dX11_blockEnds_41 rfl rfl ?_
  refine g_callV (fc := fun sς => Chk_inner sς x0 ) (ci := 11) (as := []) rfl rfl rfl q1818 qs78 mdX11_137 (ctX11_inner x0 ) rfl (Nat.le_of_ble_eq_true rfl) (Nat.le_of_ble_eq_true rfl) (Nat.le_of_ble_eq_true rfl) pu_I dX11_blockEnds_42 (fun r3 σ2 => ?_)
  refine g_istore_n 2 dX11_blockEnds_45 rfl (by decide) rfl ?_
  refine g_aload_n 0 1 dX11_blockEnds_46 rfl rfl ?_
  refine g_getR fdX11_16 dX11_blockEnds_47 ?_
  refine g_iload_n 2 0 dX11_blockEnds_50 rfl rfl ?_
  refine g_callV (fc := fun sς => Row_cut sς (gR σ2 x0 5) r3) (ci := 3) (as := [iv r3]) rfl rfl rfl q1281 q1282 mdX11_81 (ctX3_cut (gR σ2 x0 5) r3) rfl (Nat.le_of_ble_eq_true rfl) (Nat.le_of_ble_eq_true rfl) (Nat.le_of_ble_eq_true rfl) pu_V dX11_blockEnds_51 (fun _ σ4 => ?_)
  refine g_aload_n 0 1 dX11_blockEnds_54 rfl rfl ?_
  refine g_getR fdX11_19 dX11_blockEnds_55 ?_
  refine g_iload_n 2 0 dX11_blockEnds_58 rfl rfl ?_
  refine g_callV (fc := fun sς => Row_cut sς (gR σ4 x0 6) r3) (ci := 3) (as := [iv r3]) rfl rfl rfl q1281 q1282 mdX11_81 (ctX3_cut (gR σ4 x0 6) r3) rfl (Nat.le_of_ble_eq_true rfl) (Nat.le_of_ble_eq_true rfl) (Nat.le_of_ble_eq_true rfl) pu_V dX11_blockEnds_59 (fun _ σ5 => ?_)
  refine g_aload_n 0 1 dX11_blockEnds_62 rfl rfl ?_
  refine g_getR fdX11_22 dX11_blockEnds_63 ?_
  refine g_iload_n 2 0 dX11_blockEnds_66 rfl rfl ?_
  refine g_callV (fc := fun sς => Row_cut sς (gR σ5 x0 7) r3) (ci := 3) (as := [iv r3]) rfl rfl rfl q1281 q1282 mdX11_81 (ctX3_cut (gR σ5 x0 7) r3) rfl (Nat.le_of_ble_eq_true rfl) (Nat.le_of_ble_eq_true rfl) (Nat.le_of_ble_eq_true rfl) pu_V dX11_blockEnds_67 (fun _ σ6 => ?_)
  refine g_aload_n 0 1 dX11_blockEnds_70 rfl rfl ?_
  refine g_getR fdX11_25 dX11_blockEnds_71 ?_
  refine g_iload_n 2 0 dX11_blockEnds_74 rfl rfl ?_
  refine g_callV (fc := fun sς => Row_cut sς (gR σ6 x0 8) r3) (ci := 3) (as := [iv r3]) rfl rfl rfl q1281 q1282 mdX11_81 (ctX3_cut (gR σ6 x0 8) r3) rfl (Nat.le_of_ble_eq_true rfl) (Nat.le_of_ble_eq_true rfl) (Nat.le_of_ble_eq_true rfl) pu_V dX11_blockEnds_75 (fun _ σ7 => ?_)
  refine g_iload_n 2 0 dX11_blockEnds_78 rfl rfl ?_
  refine g_if_le 90 dX11_blockEnds_79 (by decide) ?_ ?_
  · refine g_aload_n 0 1 dX11_blockEnds_90 rfl rfl ?_
    refine g_iconst (v := 0) dX11_blockEnds_91 (by decide) ?_
    refine g_putZ fpX11_71 ⟨by decide +kernel, by decide +kernel⟩ dX11_blockEnds_92 (fun σ8 => ?_)
    refine g_aload_n 0 1 dX11_blockEnds_95 rfl rfl ?_
    refine g_iconst (v := 1) dX11_blockEnds_96 (by decide) ?_
    refine g_putZ fpX11_75 ⟨by decide +kernel, by decide +kernel⟩ dX11_blockEnds_97 (fun σ9 => ?_)
    exact g_return rfl dX11_blockEnds_100
  · refine g_aload_n 0 1 dX11_blockEnds_82 rfl rfl ?_
    refine g_iload_n 1 2 dX11_blockEnds_83 rfl rfl ?_
    refine g_callVT (fc := fun sς => Chk_giveResults sς x0 x1) (ci := 11) (as := [iv x1]) rfl rfl rfl q1912 qs93 q1910 mdX11_182 (ctX11_giveResults x0 x1) rfl (Nat.le_of_ble_eq_true rfl) (Nat.le_of_ble_eq_true rfl) (Nat.le_of_ble_eq_true rfl) pu_V (by decide) dX11_blockEnds_84 (fun _ σ10 => ?_)
    refine g_goto 100 dX11_blockEnds_87 (by decide) ?_
    exact g_return rfl dX11_blockEnds_100
def V.Chk_blockEnds_p32  (σ : HS) (x0 : Nat) (x1 : Int32) (s0 : Nat) : Option ((Nat ⊕ Unit) × HS) :=
  Chk_blockEnds_p37 σ x0 x1 (1 : Int32) s0
theorem V.gX11_blockEnds_p32 {X : CX}  (σ : HS) (x0 : Nat) (x1 : Int32) (s0 : Nat) : G X RX11 "blockEnds" cX11_blockEnds 3 none 12 213 (enX enV (cxz X)) 32 [(0, av x0), (1, iv x1)] [av s0] σ (Chk_blockEnds_p32 σ x0 x1 s0) := by
  unfold Chk_blockEnds_p32
  refine g_iconst (v := 1) dX11_blockEnds_32 (by decide) ?_
  refine g_goto 37 dX11_blockEnds_33 (by decide) ?_
  exact gX11_blockEnds_p37 _ _ _ _ _
def V.Chk_blockEnds (σ : HS) (x0 : Nat) : Option ((Nat ⊕ Unit) × HS) :=
  ck (tg σ x0 = 12) <| clT (Chk_blockIsDone σ x0 ) fun _ σ1 =>
  ck (tg σ1 x0 = 12) <|
  ck (tg σ1 (gR σ1 x0 6) = 4) <| cl (Row_last σ1 (gR σ1 x0 6) ) fun r3 σ2 =>
  ck (tg σ2 x0 = 12) <|
  ck (tg σ2 (gR σ2 x0 5) = 4) <| cl (Row_last σ2 (gR σ2 x0 5) ) fun r5 σ4 =>
  if r5 = (4 : Int32) then (
    ck (tg σ4 x0 = 12) <| cl (Chk_isAlike σ4 x0 r3) fun r7 σ6 =>
    if r7 = 0 then (
      Chk_blockEnds_p37 σ6 x0 r3 (0 : Int32) x0)
    else (
      Chk_blockEnds_p32 σ6 x0 r3 x0))
  else (
    Chk_blockEnds_p32 σ4 x0 r3 x0)
theorem V.ctX11_blockEnds (x0 : Nat) : Ct yX11_blockEnds  cX11_blockEnds 3 none 12 213 eXV [av x0] (fun σ => Chk_blockEnds σ x0) := by
  refine Ct.of (own := RX11) (nm := "blockEnds") (desc := "()V") rfl (by decide) (Nat.le_of_ble_eq_true rfl) (by decide) (fun X σ => ?_)
  show G X RX11 "blockEnds" cX11_blockEnds 3 none 12 213 (enX enV (cxz X)) 0 [(0, av x0)] [] σ (Chk_blockEnds σ x0)
  unfold Chk_blockEnds
  refine g_aload_n 0 0 dX11_blockEnds_0 rfl rfl ?_
  refine g_callVT (fc := fun sς => Chk_blockIsDone sς x0 ) (ci := 11) (as := []) rfl rfl rfl q1865 qs87 q1863 mdX11_176 (ctX11_blockIsDone x0 ) rfl (Nat.le_of_ble_eq_true rfl) (Nat.le_of_ble_eq_true rfl) (Nat.le_of_ble_eq_true rfl) pu_V (by decide) dX11_blockEnds_1 (fun _ σ1 => ?_)
  refine g_aload_n 0 0 dX11_blockEnds_4 rfl rfl ?_
  refine g_getR fdX11_19 dX11_blockEnds_5 ?_
  refine g_callV (fc := fun sς => Row_last sς (gR σ1 x0 6) ) (ci := 3) (as := []) rfl rfl rfl q1813 q1814 mdX11_140 (ctX3_last (gR σ1 x0 6) ) rfl (Nat.le_of_ble_eq_true rfl) (Nat.le_of_ble_eq_true rfl) (Nat.le_of_ble_eq_true rfl) pu_I dX11_blockEnds_8 (fun r3 σ2 => ?_)
  refine g_istore_n 1 dX11_blockEnds_11 rfl (by decide) rfl ?_
  refine g_aload_n 0 1 dX11_blockEnds_12 rfl rfl ?_
  refine g_aload_n 0 1 dX11_blockEnds_13 rfl rfl ?_
  refine g_getR fdX11_16 dX11_blockEnds_14 ?_
  refine g_callV (fc := fun sς => Row_last sς (gR σ2 x0 5) ) (ci := 3) (as := []) rfl rfl rfl q1813 q1814 mdX11_140 (ctX3_last (gR σ2 x0 5) ) rfl (Nat.le_of_ble_eq_true rfl) (Nat.le_of_ble_eq_true rfl) (Nat.le_of_ble_eq_true rfl) pu_I dX11_blockEnds_17 (fun r5 σ4 => ?_)
  refine g_iconst (v := 4) dX11_blockEnds_20 (by decide) ?_
  refine g_icmp_ne 32 dX11_blockEnds_21 (by decide) ?_ ?_
  · refine G.sub [1, 0] rfl ?_
    exact gX11_blockEnds_p32 _ _ _ _
  · refine g_aload_n 0 1 dX11_blockEnds_24 rfl rfl ?_
    refine g_iload_n 1 0 dX11_blockEnds_25 rfl rfl ?_
    refine g_callV (fc := fun sς => Chk_isAlike sς x0 r3) (ci := 11) (as := [iv r3]) rfl rfl rfl q1908 qs92 mdX11_179 (ctX11_isAlike x0 r3) rfl (Nat.le_of_ble_eq_true rfl) (Nat.le_of_ble_eq_true rfl) (Nat.le_of_ble_eq_true rfl) pu_I dX11_blockEnds_26 (fun r7 σ6 => ?_)
    refine g_if_eq 36 dX11_blockEnds_29 (by decide) ?_ ?_
    · refine g_iconst (v := 0) dX11_blockEnds_36 (by decide) ?_
      refine G.sub [1, 0] rfl ?_
      exact gX11_blockEnds_p37 _ _ _ _ _
    · refine G.sub [1, 0] rfl ?_
      exact gX11_blockEnds_p32 _ _ _ _
theorem V.dX11_wide_0 : decode cX11_wide 0 = .ok (.iload_n 0, 1) := by decide +kernel
theorem V.dX11_wide_1 : decode cX11_wide 1 = .ok (.i2l, 1) := by decide +kernel
theorem V.dX11_wide_2 : decode cX11_wide 2 = .ok (.ldc2_w 59, 3) := by decide +kernel
theorem V.dX11_wide_5 : decode cX11_wide 5 = .ok (.land, 1) := by decide +kernel
theorem V.dX11_wide_6 : decode cX11_wide 6 = .ok (.lreturn, 1) := by decide +kernel
/-! ModuleEngine$Checker.wide(I)J -/
def V.Chk_wide (σ : HS) (x0 : Int32) : Option (Int64 × HS) :=
  some (x0.toInt64 &&& (4294967295 : Int64), σ)
theorem V.ctX11_wide (x0 : Int32) : Ct yX11_wide  cX11_wide 1 (some .long) 0 0 eJ [iv x0] (fun σ => Chk_wide σ x0) := by
  refine Ct.of (own := RX11) (nm := "wide") (desc := "(I)J") rfl (by decide) (Nat.le_of_ble_eq_true rfl) (by decide) (fun X σ => ?_)
  show G X RX11 "wide" cX11_wide 1 (some .long) 0 0 enJ 0 [(0, iv x0)] [] σ (Chk_wide σ x0)
  unfold Chk_wide
  refine g_iload_n 0 0 dX11_wide_0 rfl rfl ?_
  refine g_i2l dX11_wide_1 ?_
  refine g_ldc2 q1921 dX11_wide_2 ?_
  refine g_land dX11_wide_5 ?_
  exact g_lreturn rfl dX11_wide_6
theorem V.dX11_blockOf_0 : decode cX11_blockOf 0 = .ok (.aload_n 0, 1) := by decide +kernel
theorem V.dX11_blockOf_1 : decode cX11_blockOf 1 = .ok (.iload_n 1, 1) := by decide +kernel
theorem V.dX11_blockOf_2 : decode cX11_blockOf 2 = .ok (.invokestatic 114, 3) := by decide +kernel
theorem V.dX11_blockOf_5 : decode cX11_blockOf 5 = .ok (.aload_n 0, 1) := by decide +kernel
theorem V.dX11_blockOf_6 : decode cX11_blockOf 6 = .ok (.getfield 16, 3) := by decide +kernel
theorem V.dX11_blockOf_9 : decode cX11_blockOf 9 = .ok (.invokevirtual 107, 3) := by decide +kernel
theorem V.dX11_blockOf_12 : decode cX11_blockOf 12 = .ok (.i2l, 1) := by decide +kernel
theorem V.dX11_blockOf_13 : decode cX11_blockOf 13 = .ok (.lcmp, 1) := by decide +kernel
theorem V.dX11_blockOf_14 : decode cX11_blockOf 14 = .ok (.ifCond .ge 7, 3) := by decide +kernel
theorem V.dX11_blockOf_17 : decode cX11_blockOf 17 = .ok (.iconst 1, 1) := by decide +kernel
theorem V.dX11_blockOf_18 : decode cX11_blockOf 18 = .ok (.goto 4, 3) := by decide +kernel
theorem V.dX11_blockOf_21 : decode cX11_blockOf 21 = .ok (.iconst 0, 1) := by decide +kernel
theorem V.dX11_blockOf_22 : decode cX11_blockOf 22 = .ok (.bipush 12, 2) := by decide +kernel
theorem V.dX11_blockOf_24 : decode cX11_blockOf 24 = .ok (.invokevirtual 118, 3) := by decide +kernel
theorem V.dX11_blockOf_27 : decode cX11_blockOf 27 = .ok (.aload_n 0, 1) := by decide +kernel
theorem V.dX11_blockOf_28 : decode cX11_blockOf 28 = .ok (.invokevirtual 137, 3) := by decide +kernel
theorem V.dX11_blockOf_31 : decode cX11_blockOf 31 = .ok (.iload_n 1, 1) := by decide +kernel
theorem V.dX11_blockOf_32 : decode cX11_blockOf 32 = .ok (.isub, 1) := by decide +kernel
theorem V.dX11_blockOf_33 : decode cX11_blockOf 33 = .ok (.ireturn, 1) := by decide +kernel
theorem V.mdX11_114 : MD RX11 114 yX11_wide cX11_wide 1 (some .long) 1 := ⟨Or.inl q1918, q371, q1920, by decide, by decide, by decide +kernel⟩
/-! ModuleEngine$Checker.blockOf(I)I -/
def V.Chk_blockOf_p22  (σ : HS) (x0 : Nat) (x1 : Int32) (s0 : Int32) (s1 : Nat) : Option ((Nat ⊕ Int32) × HS) :=
  ck (tg σ s1 = 12) <| clT (Chk_need σ s1 s0 (12 : Int32)) fun _ σ1 =>
  ck (tg σ1 x0 = 12) <| cl (Chk_inner σ1 x0 ) fun r3 σ2 =>
  some (.inr (r3 - x1), σ2)
theorem V.gX11_blockOf_p22 {X : CX}  (σ : HS) (x0 : Nat) (x1 : Int32) (s0 : Int32) (s1 : Nat) : G X RX11 "blockOf" cX11_blockOf 2 (some .int) 8 128 (enX enI (cxz X)) 22 [(0, av x0), (1, iv x1)] [iv s0, av s1] σ (Chk_blockOf_p22 σ x0 x1 s0 s1) := by
  unfold Chk_blockOf_p22
  refine g_bipush (v := 12) dX11_blockOf_22 (by decide) ?_
  refine g_callVT (fc := fun sς => Chk_need sς s1 s0 (12 : Int32)) (ci := 11) (as := [iv s0, iv (12 : Int32)]) rfl rfl rfl q1746 qs73 q1744 mdX11_118 (ctX11_need s1 s0 (12 : Int32)) rfl (Nat.le_of_ble_eq_true rfl) (Nat.le_of_ble_eq_true rfl) (Nat.le_of_ble_eq_true rfl) pu_V (by decide) dX11_blockOf_24 (fun _ σ1 => ?_)
  refine g_aload_n 0 0 dX11_blockOf_27 rfl rfl ?_
  refine g_callV (fc := fun sς => Chk_inner sς x0 ) (ci := 11) (as := []) rfl rfl rfl q1818 qs78 mdX11_137 (ctX11_inner x0 ) rfl (Nat.le_of_ble_eq_true rfl) (Nat.le_of_ble_eq_true rfl) (Nat.le_of_ble_eq_true rfl) pu_I dX11_blockOf_28 (fun r3 σ2 => ?_)
  refine g_iload_n 1 1 dX11_blockOf_31 rfl rfl ?_
  refine g_isub dX11_blockOf_32 ?_
  exact g_ireturn rfl dX11_blockOf_33
def V.Chk_blockOf (σ : HS) (x0 : Nat) (x1 : Int32) : Option ((Nat ⊕ Int32) × HS) :=
  cl (Chk_wide σ x1) fun r2 σ1 =>
  ck (tg σ1 x0 = 12) <|
  ck (tg σ1 (gR σ1 x0 5) = 4) <| cl (Row_size σ1 (gR σ1 x0 5) ) fun r4 σ3 =>
  if r4.toInt64 ≤ r2 then (
    Chk_blockOf_p22 σ3 x0 x1 (0 : Int32) x0)
  else (
    Chk_blockOf_p22 σ3 x0 x1 (1 : Int32) x0)
theorem V.ctX11_blockOf (x0 : Nat) (x1 : Int32) : Ct yX11_blockOf  cX11_blockOf 2 (some .int) 8 128 eXI [av x0, iv x1] (fun σ => Chk_blockOf σ x0 x1) := by
  refine Ct.of (own := RX11) (nm := "blockOf") (desc := "(I)I") rfl (by decide) (Nat.le_of_ble_eq_true rfl) (by decide) (fun X σ => ?_)
  show G X RX11 "blockOf" cX11_blockOf 2 (some .int) 8 128 (enX enI (cxz X)) 0 [(0, av x0), (1, iv x1)] [] σ (Chk_blockOf σ x0 x1)
  unfold Chk_blockOf
  refine g_aload_n 0 0 dX11_blockOf_0 rfl rfl ?_
  refine g_iload_n 1 1 dX11_blockOf_1 rfl rfl ?_
  refine g_callS (fc := fun sς => Chk_wide sς x1) (as := [iv x1]) q1919 mdX11_114 (ctX11_wide x1) rfl (Nat.le_of_ble_eq_true rfl) (Nat.le_of_ble_eq_true rfl) (Nat.le_of_ble_eq_true rfl) pu_J dX11_blockOf_2 (fun r2 σ1 => ?_)
  refine g_aload_n 0 0 dX11_blockOf_5 rfl rfl ?_
  refine g_getR fdX11_16 dX11_blockOf_6 ?_
  refine g_callV (fc := fun sς => Row_size sς (gR σ1 x0 5) ) (ci := 3) (as := []) rfl rfl rfl q1421 q1422 mdX11_107 (ctX3_size (gR σ1 x0 5) ) rfl (Nat.le_of_ble_eq_true rfl) (Nat.le_of_ble_eq_true rfl) (Nat.le_of_ble_eq_true rfl) pu_I dX11_blockOf_9 (fun r4 σ3 => ?_)
  refine g_i2l dX11_blockOf_12 ?_
  refine g_lcmp_ge 21 dX11_blockOf_13 dX11_blockOf_14 (by decide) ?_ ?_
  · refine g_iconst (v := 0) dX11_blockOf_21 (by decide) ?_
    exact gX11_blockOf_p22 _ _ _ _ _
  · refine g_iconst (v := 1) dX11_blockOf_17 (by decide) ?_
    refine g_goto 22 dX11_blockOf_18 (by decide) ?_
    exact gX11_blockOf_p22 _ _ _ _ _
theorem V.dX11_labelSize_0 : decode cX11_labelSize 0 = .ok (.aload_n 0, 1) := by decide +kernel
theorem V.dX11_labelSize_1 : decode cX11_labelSize 1 = .ok (.getfield 16, 3) := by decide +kernel
theorem V.dX11_labelSize_4 : decode cX11_labelSize 4 = .ok (.iload_n 1, 1) := by decide +kernel
theorem V.dX11_labelSize_5 : decode cX11_labelSize 5 = .ok (.invokevirtual 111, 3) := by decide +kernel
theorem V.dX11_labelSize_8 : decode cX11_labelSize 8 = .ok (.iconst 3, 1) := by decide +kernel
theorem V.dX11_labelSize_9 : decode cX11_labelSize 9 = .ok (.if_icmp .ne 18, 3) := by decide +kernel
theorem V.dX11_labelSize_12 : decode cX11_labelSize 12 = .ok (.aload_n 0, 1) := by decide +kernel
theorem V.dX11_labelSize_13 : decode cX11_labelSize 13 = .ok (.aload_n 0, 1) := by decide +kernel
theorem V.dX11_labelSize_14 : decode cX11_labelSize 14 = .ok (.getfield 19, 3) := by decide +kernel
theorem V.dX11_labelSize_17 : decode cX11_labelSize 17 = .ok (.iload_n 1, 1) := by decide +kernel
theorem V.dX11_labelSize_18 : decode cX11_labelSize 18 = .ok (.invokevirtual 111, 3) := by decide +kernel
theorem V.dX11_labelSize_21 : decode cX11_labelSize 21 = .ok (.invokevirtual 128, 3) := by decide +kernel
theorem V.dX11_labelSize_24 : decode cX11_labelSize 24 = .ok (.goto 15, 3) := by decide +kernel
theorem V.dX11_labelSize_27 : decode cX11_labelSize 27 = .ok (.aload_n 0, 1) := by decide +kernel
theorem V.dX11_labelSize_28 : decode cX11_labelSize 28 = .ok (.aload_n 0, 1) := by decide +kernel
theorem V.dX11_labelSize_29 : decode cX11_labelSize 29 = .ok (.getfield 19, 3) := by decide +kernel
theorem V.dX11_labelSize_32 : decode cX11_labelSize 32 = .ok (.iload_n 1, 1) := by decide +kernel
theorem V.dX11_labelSize_33 : decode cX11_labelSize 33 = .ok (.invokevirtual 111, 3) := by decide +kernel
theorem V.dX11_labelSize_36 : decode cX11_labelSize 36 = .ok (.invokevirtual 131, 3) := by decide +kernel
theorem V.dX11_labelSize_39 : decode cX11_labelSize 39 = .ok (.ireturn, 1) := by decide +kernel
theorem V.mdX11_111 : MD RX11 111 yX3_at cX3_at 2 (some .int) 1 := ⟨Or.inl q1930, q363, q1411, by decide, by decide, by decide +kernel⟩
/-! ModuleEngine$Checker.labelSize(I)I -/
def V.Chk_labelSize (σ : HS) (x0 : Nat) (x1 : Int32) : Option (Int32 × HS) :=
  ck (tg σ x0 = 12) <|
  ck (tg σ (gR σ x0 5) = 4) <| cl (Row_at σ (gR σ x0 5) x1) fun r2 σ1 =>
  if r2 = (3 : Int32) then (
    ck (tg σ1 x0 = 12) <|
    ck (tg σ1 (gR σ1 x0 6) = 4) <| cl (Row_at σ1 (gR σ1 x0 6) x1) fun r8 σ7 =>
    ck (tg σ7 x0 = 12) <| cl (Chk_parametersOf σ7 x0 r8) fun r10 σ9 =>
    some (r10, σ9))
  else (
    ck (tg σ1 x0 = 12) <|
    ck (tg σ1 (gR σ1 x0 6) = 4) <| cl (Row_at σ1 (gR σ1 x0 6) x1) fun r4 σ3 =>
    ck (tg σ3 x0 = 12) <| cl (Chk_resultsOf σ3 x0 r4) fun r6 σ5 =>
    some (r6, σ5))
theorem V.ctX11_labelSize (x0 : Nat) (x1 : Int32) : Ct yX11_labelSize  cX11_labelSize 2 (some .int) 5 105 eI [av x0, iv x1] (fun σ => Chk_labelSize σ x0 x1) := by
  refine Ct.of (own := RX11) (nm := "labelSize") (desc := "(I)I") rfl (by decide) (Nat.le_of_ble_eq_true rfl) (by decide) (fun X σ => ?_)
  show G X RX11 "labelSize" cX11_labelSize 2 (some .int) 5 105 enI 0 [(0, av x0), (1, iv x1)] [] σ (Chk_labelSize σ x0 x1)
  unfold Chk_labelSize
  refine g_aload_n 0 0 dX11_labelSize_0 rfl rfl ?_
  refine g_getR fdX11_16 dX11_labelSize_1 ?_
  refine g_iload_n 1 1 dX11_labelSize_4 rfl rfl ?_
  refine g_callV (fc := fun sς => Row_at sς (gR σ x0 5) x1) (ci := 3) (as := [iv x1]) rfl rfl rfl q1409 q1410 mdX11_111 (ctX3_at (gR σ x0 5) x1) rfl (Nat.le_of_ble_eq_true rfl) (Nat.le_of_ble_eq_true rfl) (Nat.le_of_ble_eq_true rfl) pu_I dX11_labelSize_5 (fun r2 σ1 => ?_)
  refine g_iconst (v := 3) dX11_labelSize_8 (by decide) ?_
  refine g_icmp_ne 27 dX11_labelSize_9 (by decide) ?_ ?_
  · refine g_aload_n 0 0 dX11_labelSize_27 rfl rfl ?_
    refine g_aload_n 0 0 dX11_labelSize_28 rfl rfl ?_
    refine g_getR fdX11_19 dX11_labelSize_29 ?_
    refine g_iload_n 1 1 dX11_labelSize_32 rfl rfl ?_
    refine g_callV (fc := fun sς => Row_at sς (gR σ1 x0 6) x1) (ci := 3) (as := [iv x1]) rfl rfl rfl q1409 q1410 mdX11_111 (ctX3_at (gR σ1 x0 6) x1) rfl (Nat.le_of_ble_eq_true rfl) (Nat.le_of_ble_eq_true rfl) (Nat.le_of_ble_eq_true rfl) pu_I dX11_labelSize_33 (fun r4 σ3 => ?_)
    refine g_callV (fc := fun sς => Chk_resultsOf sς x0 r4) (ci := 11) (as := [iv r4]) rfl rfl rfl q1873 qs89 mdX11_131 (ctX11_resultsOf x0 r4) rfl (Nat.le_of_ble_eq_true rfl) (Nat.le_of_ble_eq_true rfl) (Nat.le_of_ble_eq_true rfl) pu_I dX11_labelSize_36 (fun r6 σ5 => ?_)
    exact g_ireturn rfl dX11_labelSize_39
  · refine g_aload_n 0 0 dX11_labelSize_12 rfl rfl ?_
    refine g_aload_n 0 0 dX11_labelSize_13 rfl rfl ?_
    refine g_getR fdX11_19 dX11_labelSize_14 ?_
    refine g_iload_n 1 1 dX11_labelSize_17 rfl rfl ?_
    refine g_callV (fc := fun sς => Row_at sς (gR σ1 x0 6) x1) (ci := 3) (as := [iv x1]) rfl rfl rfl q1409 q1410 mdX11_111 (ctX3_at (gR σ1 x0 6) x1) rfl (Nat.le_of_ble_eq_true rfl) (Nat.le_of_ble_eq_true rfl) (Nat.le_of_ble_eq_true rfl) pu_I dX11_labelSize_18 (fun r8 σ7 => ?_)
    refine g_callV (fc := fun sς => Chk_parametersOf sς x0 r8) (ci := 11) (as := [iv r8]) rfl rfl rfl q1849 qs83 mdX11_128 (ctX11_parametersOf x0 r8) rfl (Nat.le_of_ble_eq_true rfl) (Nat.le_of_ble_eq_true rfl) (Nat.le_of_ble_eq_true rfl) pu_I dX11_labelSize_21 (fun r10 σ9 => ?_)
    refine g_goto 39 dX11_labelSize_24 (by decide) ?_
    exact g_ireturn rfl dX11_labelSize_39
theorem V.dX11_labelType_0 : decode cX11_labelType 0 = .ok (.aload_n 0, 1) := by decide +kernel
theorem V.dX11_labelType_1 : decode cX11_labelType 1 = .ok (.getfield 16, 3) := by decide +kernel
theorem V.dX11_labelType_4 : decode cX11_labelType 4 = .ok (.iload_n 1, 1) := by decide +kernel
theorem V.dX11_labelType_5 : decode cX11_labelType 5 = .ok (.invokevirtual 111, 3) := by decide +kernel
theorem V.dX11_labelType_8 : decode cX11_labelType 8 = .ok (.iconst 3, 1) := by decide +kernel
theorem V.dX11_labelType_9 : decode cX11_labelType 9 = .ok (.if_icmp .ne 24, 3) := by decide +kernel
theorem V.dX11_labelType_12 : decode cX11_labelType 12 = .ok (.aload_n 0, 1) := by decide +kernel
theorem V.dX11_labelType_13 : decode cX11_labelType 13 = .ok (.getfield 40, 3) := by decide +kernel
theorem V.dX11_labelType_16 : decode cX11_labelType 16 = .ok (.aload_n 0, 1) := by decide +kernel
theorem V.dX11_labelType_17 : decode cX11_labelType 17 = .ok (.getfield 19, 3) := by decide +kernel
theorem V.dX11_labelType_20 : decode cX11_labelType 20 = .ok (.iload_n 1, 1) := by decide +kernel
theorem V.dX11_labelType_21 : decode cX11_labelType 21 = .ok (.invokevirtual 111, 3) := by decide +kernel
theorem V.dX11_labelType_24 : decode cX11_labelType 24 = .ok (.iload_n 2, 1) := by decide +kernel
theorem V.dX11_labelType_25 : decode cX11_labelType 25 = .ok (.invokeinterface 97 3, 5) := by decide +kernel
theorem V.dX11_labelType_30 : decode cX11_labelType 30 = .ok (.goto 16, 3) := by decide +kernel
theorem V.dX11_labelType_33 : decode cX11_labelType 33 = .ok (.aload_n 0, 1) := by decide +kernel
theorem V.dX11_labelType_34 : decode cX11_labelType 34 = .ok (.aload_n 0, 1) := by decide +kernel
theorem V.dX11_labelType_35 : decode cX11_labelType 35 = .ok (.getfield 19, 3) := by decide +kernel
theorem V.dX11_labelType_38 : decode cX11_labelType 38 = .ok (.iload_n 1, 1) := by decide +kernel
theorem V.dX11_labelType_39 : decode cX11_labelType 39 = .ok (.invokevirtual 111, 3) := by decide +kernel
theorem V.dX11_labelType_42 : decode cX11_labelType 42 = .ok (.iload_n 2, 1) := by decide +kernel
theorem V.dX11_labelType_43 : decode cX11_labelType 43 = .ok (.invokevirtual 134, 3) := by decide +kernel
theorem V.dX11_labelType_46 : decode cX11_labelType 46 = .ok (.ireturn, 1) := by decide +kernel
/-! ModuleEngine$Checker.labelType(II)I -/
def V.Chk_labelType (σ : HS) (x0 : Nat) (x1 : Int32) (x2 : Int32) : Option (Int32 × HS) :=
  ck (tg σ x0 = 12) <|
  ck (tg σ (gR σ x0 5) = 4) <| cl (Row_at σ (gR σ x0 5) x1) fun r2 σ1 =>
  if r2 = (3 : Int32) then (
    ck (tg σ1 x0 = 12) <|
    ck (tg σ1 x0 = 12) <|
    ck (tg σ1 (gR σ1 x0 6) = 4) <| cl (Row_at σ1 (gR σ1 x0 6) x1) fun r8 σ7 =>
    ck (tg σ7 (gR σ1 x0 0) = 10) <| cl (Mty_parameter σ7 (gR σ1 x0 0) r8 x2) fun r10 σ9 =>
    some (r10, σ9))
  else (
    ck (tg σ1 x0 = 12) <|
    ck (tg σ1 (gR σ1 x0 6) = 4) <| cl (Row_at σ1 (gR σ1 x0 6) x1) fun r4 σ3 =>
    ck (tg σ3 x0 = 12) <| cl (Chk_resultOf σ3 x0 r4 x2) fun r6 σ5 =>
    some (r6, σ5))
theorem V.ctX11_labelType (x0 : Nat) (x1 : Int32) (x2 : Int32) : Ct yX11_labelType  cX11_labelType 3 (some .int) 5 108 eI [av x0, iv x1, iv x2] (fun σ => Chk_labelType σ x0 x1 x2) := by
  refine Ct.of (own := RX11) (nm := "labelType") (desc := "(II)I") rfl (by decide) (Nat.le_of_ble_eq_true rfl) (by decide) (fun X σ => ?_)
  show G X RX11 "labelType" cX11_labelType 3 (some .int) 5 108 enI 0 [(0, av x0), (1, iv x1), (2, iv x2)] [] σ (Chk_labelType σ x0 x1 x2)
  unfold Chk_labelType
  refine g_aload_n 0 0 dX11_labelType_0 rfl rfl ?_
  refine g_getR fdX11_16 dX11_labelType_1 ?_
  refine g_iload_n 1 1 dX11_labelType_4 rfl rfl ?_
  refine g_callV (fc := fun sς => Row_at sς (gR σ x0 5) x1) (ci := 3) (as := [iv x1]) rfl rfl rfl q1409 q1410 mdX11_111 (ctX3_at (gR σ x0 5) x1) rfl (Nat.le_of_ble_eq_true rfl) (Nat.le_of_ble_eq_true rfl) (Nat.le_of_ble_eq_true rfl) pu_I dX11_labelType_5 (fun r2 σ1 => ?_)
  refine g_iconst (v := 3) dX11_labelType_8 (by decide) ?_
  refine g_icmp_ne 33 dX11_labelType_9 (by decide) ?_ ?_
  · refine g_aload_n 0 0 dX11_labelType_33 rfl rfl ?_
    refine g_aload_n 0 0 dX11_labelType_34 rfl rfl ?_
    refine g_getR fdX11_19 dX11_labelType_35 ?_
    refine g_iload_n 1 1 dX11_labelType_38 rfl rfl ?_
    refine g_callV (fc := fun sς => Row_at sς (gR σ1 x0 6) x1) (ci := 3) (as := [iv x1]) rfl rfl rfl q1409 q1410 mdX11_111 (ctX3_at (gR σ1 x0 6) x1) rfl (Nat.le_of_ble_eq_true rfl) (Nat.le_of_ble_eq_true rfl) (Nat.le_of_ble_eq_true rfl) pu_I dX11_labelType_39 (fun r4 σ3 => ?_)
    refine g_iload_n 2 2 dX11_labelType_42 rfl rfl ?_
    refine g_callV (fc := fun sς => Chk_resultOf sς x0 r4 x2) (ci := 11) (as := [iv r4, iv x2]) rfl rfl rfl q1887 qs90 mdX11_134 (ctX11_resultOf x0 r4 x2) rfl (Nat.le_of_ble_eq_true rfl) (Nat.le_of_ble_eq_true rfl) (Nat.le_of_ble_eq_true rfl) pu_I dX11_labelType_43 (fun r6 σ5 => ?_)
    exact g_ireturn rfl dX11_labelType_46
  · refine g_aload_n 0 0 dX11_labelType_12 rfl rfl ?_
    refine g_getR fdX11_40 dX11_labelType_13 ?_
    refine g_aload_n 0 0 dX11_labelType_16 rfl rfl ?_
    refine g_getR fdX11_19 dX11_labelType_17 ?_
    refine g_iload_n 1 1 dX11_labelType_20 rfl rfl ?_
    refine g_callV (fc := fun sς => Row_at sς (gR σ1 x0 6) x1) (ci := 3) (as := [iv x1]) rfl rfl rfl q1409 q1410 mdX11_111 (ctX3_at (gR σ1 x0 6) x1) rfl (Nat.le_of_ble_eq_true rfl) (Nat.le_of_ble_eq_true rfl) (Nat.le_of_ble_eq_true rfl) pu_I dX11_labelType_21 (fun r8 σ7 => ?_)
    refine g_iload_n 2 2 dX11_labelType_24 rfl rfl ?_
    refine g_callF (fc := fun sς => Mty_parameter sς (gR σ1 x0 0) r8 x2) (as := [iv r8, iv x2]) (n := 2) (nmy := "parameter") (dsy := "(II)I") rfl rfl (by decide) q1767 q1770 q1772 q369 q1774 (by decide +kernel) (ctX9_parameter (gR σ1 x0 0) r8 x2) rfl (Nat.le_of_ble_eq_true rfl) (Nat.le_of_ble_eq_true rfl) (Nat.le_of_ble_eq_true rfl) pu_I dX11_labelType_25 (fun r10 σ9 => ?_)
    refine g_goto 46 dX11_labelType_30 (by decide) ?_
    exact g_ireturn rfl dX11_labelType_46
theorem V.dX11_takeLabel_0 : decode cX11_takeLabel 0 = .ok (.aload_n 0, 1) := by decide +kernel
theorem V.dX11_takeLabel_1 : decode cX11_takeLabel 1 = .ok (.iload_n 1, 1) := by decide +kernel
theorem V.dX11_takeLabel_2 : decode cX11_takeLabel 2 = .ok (.invokevirtual 155, 3) := by decide +kernel
theorem V.dX11_takeLabel_5 : decode cX11_takeLabel 5 = .ok (.iconst 1, 1) := by decide +kernel
theorem V.dX11_takeLabel_6 : decode cX11_takeLabel 6 = .ok (.isub, 1) := by decide +kernel
theorem V.dX11_takeLabel_7 : decode cX11_takeLabel 7 = .ok (.istore_n 2, 1) := by decide +kernel
theorem V.dX11_takeLabel_8 : decode cX11_takeLabel 8 = .ok (.iload_n 2, 1) := by decide +kernel
theorem V.dX11_takeLabel_9 : decode cX11_takeLabel 9 = .ok (.ifCond .lt 20, 3) := by decide +kernel
theorem V.dX11_takeLabel_12 : decode cX11_takeLabel 12 = .ok (.aload_n 0, 1) := by decide +kernel
theorem V.dX11_takeLabel_13 : decode cX11_takeLabel 13 = .ok (.aload_n 0, 1) := by decide +kernel
theorem V.dX11_takeLabel_14 : decode cX11_takeLabel 14 = .ok (.iload_n 1, 1) := by decide +kernel
theorem V.dX11_takeLabel_15 : decode cX11_takeLabel 15 = .ok (.iload_n 2, 1) := by decide +kernel
theorem V.dX11_takeLabel_16 : decode cX11_takeLabel 16 = .ok (.invokevirtual 158, 3) := by decide +kernel
theorem V.dX11_takeLabel_19 : decode cX11_takeLabel 19 = .ok (.invokevirtual 149, 3) := by decide +kernel
theorem V.dX11_takeLabel_22 : decode cX11_takeLabel 22 = .ok (.pop, 1) := by decide +kernel
theorem V.dX11_takeLabel_23 : decode cX11_takeLabel 23 = .ok (.iinc 2 (-1), 3) := by decide +kernel
theorem V.dX11_takeLabel_26 : decode cX11_takeLabel 26 = .ok (.goto (-18), 3) := by decide +kernel
theorem V.dX11_takeLabel_29 : decode cX11_takeLabel 29 = .ok (.return_, 1) := by decide +kernel
theorem V.mdX11_155 : MD RX11 155 yX11_labelSize cX11_labelSize 2 (some .int) 1 := ⟨Or.inl q1926, q371, q1929, by decide, by decide, by decide +kernel⟩
theorem V.mdX11_158 : MD RX11 158 yX11_labelType cX11_labelType 3 (some .int) 2 := ⟨Or.inl q1931, q371, q1934, by decide, by decide, by decide +kernel⟩
/-! ModuleEngine$Checker.takeLabel(I)V -/
def V.Chk_takeLabel_p8  : Nat → HS → Nat → Int32 → Int32 → Option ((Nat ⊕ Unit) × HS)
  | 0, _, _, _, _ => none
  | n + 1, σ, x0, x1, x2 =>
    if x2 < 0 then (
      some (.inr (), σ))
    else (
      ck (tg σ x0 = 12) <| cl (Chk_labelType σ x0 x1 x2) fun r2 σ1 =>
      ck (tg σ1 x0 = 12) <| clT (Chk_take σ1 x0 r2) fun r4 σ3 =>
      bn (x2 + (-1 : Int32)) fun y5 =>
      Chk_takeLabel_p8 n σ3 x0 x1 y5)
theorem V.gX11_takeLabel_p8 {X : CX}  : ∀ (n : Nat) (σ : HS) (x0 : Nat) (x1 : Int32) (x2 : Int32), G X RX11 "takeLabel" cX11_takeLabel 3 none 10 171 (enX enV (cxz X)) 8 [(0, av x0), (1, iv x1), (2, iv x2)] [] σ (Chk_takeLabel_p8 n σ x0 x1 x2)
  | 0, σ, x0, x1, x2 => by rw [Chk_takeLabel_p8]; exact G.nul
  | n + 1, σ, x0, x1, x2 => by
    rw [Chk_takeLabel_p8]
    refine g_iload_n 2 2 dX11_takeLabel_8 rfl rfl ?_
    refine g_if_lt 29 dX11_takeLabel_9 (by decide) ?_ ?_
    · exact g_return rfl dX11_takeLabel_29
    · refine g_aload_n 0 0 dX11_takeLabel_12 rfl rfl ?_
      refine g_aload_n 0 0 dX11_takeLabel_13 rfl rfl ?_
      refine g_iload_n 1 1 dX11_takeLabel_14 rfl rfl ?_
      refine g_iload_n 2 2 dX11_takeLabel_15 rfl rfl ?_
      refine g_callV (fc := fun sς => Chk_labelType sς x0 x1 x2) (ci := 11) (as := [iv x1, iv x2]) rfl rfl rfl q1933 qs97 mdX11_158 (ctX11_labelType x0 x1 x2) rfl (Nat.le_of_ble_eq_true rfl) (Nat.le_of_ble_eq_true rfl) (Nat.le_of_ble_eq_true rfl) pu_I dX11_takeLabel_16 (fun r2 σ1 => ?_)
      refine g_callVT (fc := fun sς => Chk_take sς x0 r2) (ci := 11) (as := [iv r2]) rfl rfl rfl q1837 qs80 q1835 mdX11_149 (ctX11_take x0 r2) rfl (Nat.le_of_ble_eq_true rfl) (Nat.le_of_ble_eq_true rfl) (Nat.le_of_ble_eq_true rfl) pu_I (by decide) dX11_takeLabel_19 (fun r4 σ3 => ?_)
      refine g_pop dX11_takeLabel_22 rfl ?_
      refine g_iincB (w := (-1)) 2 dX11_takeLabel_23 rfl (by decide) (by decide) (fun _ => rfl) (fun y5 => ?_)
      refine g_goto 8 dX11_takeLabel_26 (by decide) ?_
      refine G.sub [1, 2, 0] rfl ?_
      exact gX11_takeLabel_p8 n _ _ _ _
def V.Chk_takeLabel (σ : HS) (x0 : Nat) (x1 : Int32) : Option ((Nat ⊕ Unit) × HS) :=
  ck (tg σ x0 = 12) <| cl (Chk_labelSize σ x0 x1) fun r2 σ1 =>
  bn (r2 - (1 : Int32)) fun y3 =>
  Chk_takeLabel_p8 FU σ1 x0 x1 y3
theorem V.ctX11_takeLabel (x0 : Nat) (x1 : Int32) : Ct yX11_takeLabel  cX11_takeLabel 3 none 10 171 eXV [av x0, iv x1] (fun σ => Chk_takeLabel σ x0 x1) := by
  refine Ct.of (own := RX11) (nm := "takeLabel") (desc := "(I)V") rfl (by decide) (Nat.le_of_ble_eq_true rfl) (by decide) (fun X σ => ?_)
  show G X RX11 "takeLabel" cX11_takeLabel 3 none 10 171 (enX enV (cxz X)) 0 [(0, av x0), (1, iv x1)] [] σ (Chk_takeLabel σ x0 x1)
  unfold Chk_takeLabel
  refine g_aload_n 0 0 dX11_takeLabel_0 rfl rfl ?_
  refine g_iload_n 1 1 dX11_takeLabel_1 rfl rfl ?_
  refine g_callV (fc := fun sς => Chk_labelSize sς x0 x1) (ci := 11) (as := [iv x1]) rfl rfl rfl q1928 qs96 mdX11_155 (ctX11_labelSize x0 x1) rfl (Nat.le_of_ble_eq_true rfl) (Nat.le_of_ble_eq_true rfl) (Nat.le_of_ble_eq_true rfl) pu_I dX11_takeLabel_2 (fun r2 σ1 => ?_)
  refine g_iconst (v := 1) dX11_takeLabel_5 (by decide) ?_
  refine g_isub dX11_takeLabel_6 ?_
  refine g_nmI (fun y3 => ?_)
  refine g_istore_n 2 dX11_takeLabel_7 rfl (by decide) rfl ?_
  refine G.sub [1, 2, 0] rfl ?_
  exact gX11_takeLabel_p8 FU _ _ _ _
theorem V.dX11_giveLabel_0 : decode cX11_giveLabel 0 = .ok (.iconst 0, 1) := by decide +kernel
theorem V.dX11_giveLabel_1 : decode cX11_giveLabel 1 = .ok (.istore_n 2, 1) := by decide +kernel
theorem V.dX11_giveLabel_2 : decode cX11_giveLabel 2 = .ok (.iload_n 2, 1) := by decide +kernel
theorem V.dX11_giveLabel_3 : decode cX11_giveLabel 3 = .ok (.aload_n 0, 1) := by decide +kernel
theorem V.dX11_giveLabel_4 : decode cX11_giveLabel 4 = .ok (.iload_n 1, 1) := by decide +kernel
theorem V.dX11_giveLabel_5 : decode cX11_giveLabel 5 = .ok (.invokevirtual 155, 3) := by decide +kernel
theorem V.dX11_giveLabel_8 : decode cX11_giveLabel 8 = .ok (.if_icmp .ge 19, 3) := by decide +kernel
theorem V.dX11_giveLabel_11 : decode cX11_giveLabel 11 = .ok (.aload_n 0, 1) := by decide +kernel
theorem V.dX11_giveLabel_12 : decode cX11_giveLabel 12 = .ok (.aload_n 0, 1) := by decide +kernel
theorem V.dX11_giveLabel_13 : decode cX11_giveLabel 13 = .ok (.iload_n 1, 1) := by decide +kernel
theorem V.dX11_giveLabel_14 : decode cX11_giveLabel 14 = .ok (.iload_n 2, 1) := by decide +kernel
theorem V.dX11_giveLabel_15 : decode cX11_giveLabel 15 = .ok (.invokevirtual 158, 3) := by decide +kernel
theorem V.dX11_giveLabel_18 : decode cX11_giveLabel 18 = .ok (.invokevirtual 152, 3) := by decide +kernel
theorem V.dX11_giveLabel_21 : decode cX11_giveLabel 21 = .ok (.iinc 2 1, 3) := by decide +kernel
theorem V.dX11_giveLabel_24 : decode cX11_giveLabel 24 = .ok (.goto (-22), 3) := by decide +kernel
theorem V.dX11_giveLabel_27 : decode cX11_giveLabel 27 = .ok (.return_, 1) := by decide +kernel
/-! ModuleEngine$Checker.giveLabel(I)V -/
def V.Chk_giveLabel_p2  : Nat → HS → Nat → Int32 → Int32 → Option ((Nat ⊕ Unit) × HS)
  | 0, _, _, _, _ => none
  | n + 1, σ, x0, x1, x2 =>
    ck (tg σ x0 = 12) <| cl (Chk_labelSize σ x0 x1) fun r2 σ1 =>
    if r2 ≤ x2 then (
      some (.inr (), σ1))
    else (
      ck (tg σ1 x0 = 12) <| cl (Chk_labelType σ1 x0 x1 x2) fun r4 σ3 =>
      ck (tg σ3 x0 = 12) <| clT (Chk_give σ3 x0 r4) fun _ σ5 =>
      bn (x2 + (1 : Int32)) fun y6 =>
      Chk_giveLabel_p2 n σ5 x0 x1 y6)
theorem V.gX11_giveLabel_p2 {X : CX}  : ∀ (n : Nat) (σ : HS) (x0 : Nat) (x1 : Int32) (x2 : Int32), G X RX11 "giveLabel" cX11_giveLabel 3 none 9 149 (enX enV (cxz X)) 2 [(0, av x0), (1, iv x1), (2, iv x2)] [] σ (Chk_giveLabel_p2 n σ x0 x1 x2)
  | 0, σ, x0, x1, x2 => by rw [Chk_giveLabel_p2]; exact G.nul
  | n + 1, σ, x0, x1, x2 => by
    rw [Chk_giveLabel_p2]
    refine g_iload_n 2 2 dX11_giveLabel_2 rfl rfl ?_
    refine g_aload_n 0 0 dX11_giveLabel_3 rfl rfl ?_
    refine g_iload_n 1 1 dX11_giveLabel_4 rfl rfl ?_
    refine g_callV (fc := fun sς => Chk_labelSize sς x0 x1) (ci := 11) (as := [iv x1]) rfl rfl rfl q1928 qs96 mdX11_155 (ctX11_labelSize x0 x1) rfl (Nat.le_of_ble_eq_true rfl) (Nat.le_of_ble_eq_true rfl) (Nat.le_of_ble_eq_true rfl) pu_I dX11_giveLabel_5 (fun r2 σ1 => ?_)
    refine g_icmp_ge 27 dX11_giveLabel_8 (by decide) ?_ ?_
    · exact g_return rfl dX11_giveLabel_27
    · refine g_aload_n 0 0 dX11_giveLabel_11 rfl rfl ?_
      refine g_aload_n 0 0 dX11_giveLabel_12 rfl rfl ?_
      refine g_iload_n 1 1 dX11_giveLabel_13 rfl rfl ?_
      refine g_iload_n 2 2 dX11_giveLabel_14 rfl rfl ?_
      refine g_callV (fc := fun sς => Chk_labelType sς x0 x1 x2) (ci := 11) (as := [iv x1, iv x2]) rfl rfl rfl q1933 qs97 mdX11_158 (ctX11_labelType x0 x1 x2) rfl (Nat.le_of_ble_eq_true rfl) (Nat.le_of_ble_eq_true rfl) (Nat.le_of_ble_eq_true rfl) pu_I dX11_giveLabel_15 (fun r4 σ3 => ?_)
      refine g_callVT (fc := fun sς => Chk_give sς x0 r4) (ci := 11) (as := [iv r4]) rfl rfl rfl q1857 qs85 q1855 mdX11_152 (ctX11_give x0 r4) rfl (Nat.le_of_ble_eq_true rfl) (Nat.le_of_ble_eq_true rfl) (Nat.le_of_ble_eq_true rfl) pu_V (by decide) dX11_giveLabel_18 (fun _ σ5 => ?_)
      refine g_iincB (w := 1) 2 dX11_giveLabel_21 rfl (by decide) (by decide) (fun _ => rfl) (fun y6 => ?_)
      refine g_goto 2 dX11_giveLabel_24 (by decide) ?_
      refine G.sub [1, 2, 0] rfl ?_
      exact gX11_giveLabel_p2 n _ _ _ _
def V.Chk_giveLabel (σ : HS) (x0 : Nat) (x1 : Int32) : Option ((Nat ⊕ Unit) × HS) :=
  Chk_giveLabel_p2 FU σ x0 x1 (0 : Int32)
theorem V.ctX11_giveLabel (x0 : Nat) (x1 : Int32) : Ct yX11_giveLabel  cX11_giveLabel 3 none 9 149 eXV [av x0, iv x1] (fun σ => Chk_giveLabel σ x0 x1) := by
  refine Ct.of (own := RX11) (nm := "giveLabel") (desc := "(I)V") rfl (by decide) (Nat.le_of_ble_eq_true rfl) (by decide) (fun X σ => ?_)
  show G X RX11 "giveLabel" cX11_giveLabel 3 none 9 149 (enX enV (cxz X)) 0 [(0, av x0), (1, iv x1)] [] σ (Chk_giveLabel σ x0 x1)
  unfold Chk_giveLabel
  refine g_iconst (v := 0) dX11_giveLabel_0 (by decide) ?_
  refine g_istore_n 2 dX11_giveLabel_1 rfl (by decide) rfl ?_
  refine G.sub [1, 2, 0] rfl ?_
  exact gX11_giveLabel_p2 FU _ _ _ _
theorem V.dX11_branches_0 : decode cX11_branches 0 = .ok (.iconst 0, 1) := by decide +kernel
theorem V.dX11_branches_1 : decode cX11_branches 1 = .ok (.istore_n 2, 1) := by decide +kernel
theorem V.dX11_branches_2 : decode cX11_branches 2 = .ok (.iload_n 2, 1) := by decide +kernel
theorem V.dX11_branches_3 : decode cX11_branches 3 = .ok (.aload_n 0, 1) := by decide +kernel
theorem V.dX11_branches_4 : decode cX11_branches 4 = .ok (.getfield 34, 3) := by decide +kernel
theorem V.dX11_branches_7 : decode cX11_branches 7 = .ok (.invokevirtual 107, 3) := by decide +kernel
theorem V.dX11_branches_10 : decode cX11_branches 10 = .ok (.if_icmp .ge 22, 3) := by decide +kernel
theorem V.dX11_branches_13 : decode cX11_branches 13 = .ok (.aload_n 0, 1) := by decide +kernel
theorem V.dX11_branches_14 : decode cX11_branches 14 = .ok (.aload_n 0, 1) := by decide +kernel
theorem V.dX11_branches_15 : decode cX11_branches 15 = .ok (.getfield 34, 3) := by decide +kernel
theorem V.dX11_branches_18 : decode cX11_branches 18 = .ok (.iload_n 2, 1) := by decide +kernel
theorem V.dX11_branches_19 : decode cX11_branches 19 = .ok (.invokevirtual 111, 3) := by decide +kernel
theorem V.dX11_branches_22 : decode cX11_branches 22 = .ok (.invokevirtual 185, 3) := by decide +kernel
theorem V.dX11_branches_25 : decode cX11_branches 25 = .ok (.pop, 1) := by decide +kernel
theorem V.dX11_branches_26 : decode cX11_branches 26 = .ok (.iinc 2 1, 3) := by decide +kernel
theorem V.dX11_branches_29 : decode cX11_branches 29 = .ok (.goto (-27), 3) := by decide +kernel
theorem V.dX11_branches_32 : decode cX11_branches 32 = .ok (.aload_n 0, 1) := by decide +kernel
theorem V.dX11_branches_33 : decode cX11_branches 33 = .ok (.iload_n 1, 1) := by decide +kernel
theorem V.dX11_branches_34 : decode cX11_branches 34 = .ok (.invokevirtual 185, 3) := by decide +kernel
theorem V.dX11_branches_37 : decode cX11_branches 37 = .ok (.istore_n 2, 1) := by decide +kernel
theorem V.dX11_branches_38 : decode cX11_branches 38 = .ok (.aload_n 0, 1) := by decide +kernel
theorem V.dX11_branches_39 : decode cX11_branches 39 = .ok (.bipush 127, 2) := by decide +kernel
theorem V.dX11_branches_41 : decode cX11_branches 41 = .ok (.invokevirtual 149, 3) := by decide +kernel
theorem V.dX11_branches_44 : decode cX11_branches 44 = .ok (.pop, 1) := by decide +kernel
theorem V.dX11_branches_45 : decode cX11_branches 45 = .ok (.iconst 0, 1) := by decide +kernel
theorem V.dX11_branches_46 : decode cX11_branches 46 = .ok (.istore_n 3, 1) := by decide +kernel
theorem V.dX11_branches_47 : decode cX11_branches 47 = .ok (.iload_n 3, 1) := by decide +kernel
theorem V.dX11_branches_48 : decode cX11_branches 48 = .ok (.aload_n 0, 1) := by decide +kernel
theorem V.dX11_branches_49 : decode cX11_branches 49 = .ok (.getfield 34, 3) := by decide +kernel
theorem V.dX11_branches_52 : decode cX11_branches 52 = .ok (.invokevirtual 107, 3) := by decide +kernel
theorem V.dX11_branches_55 : decode cX11_branches 55 = .ok (.if_icmp .ge 130, 3) := by decide +kernel
theorem V.dX11_branches_58 : decode cX11_branches 58 = .ok (.aload_n 0, 1) := by decide +kernel
theorem V.dX11_branches_59 : decode cX11_branches 59 = .ok (.aload_n 0, 1) := by decide +kernel
theorem V.dX11_branches_60 : decode cX11_branches 60 = .ok (.getfield 34, 3) := by decide +kernel
theorem V.dX11_branches_63 : decode cX11_branches 63 = .ok (.iload_n 3, 1) := by decide +kernel
theorem V.dX11_branches_64 : decode cX11_branches 64 = .ok (.invokevirtual 111, 3) := by decide +kernel
theorem V.dX11_branches_67 : decode cX11_branches 67 = .ok (.invokevirtual 185, 3) := by decide +kernel
theorem V.dX11_branches_70 : decode cX11_branches 70 = .ok (.istore 4, 2) := by decide +kernel
theorem V.dX11_branches_72 : decode cX11_branches 72 = .ok (.aload_n 0, 1) := by decide +kernel
theorem V.dX11_branches_73 : decode cX11_branches 73 = .ok (.aload_n 0, 1) := by decide +kernel
theorem V.dX11_branches_74 : decode cX11_branches 74 = .ok (.iload 4, 2) := by decide +kernel
theorem V.dX11_branches_76 : decode cX11_branches 76 = .ok (.invokevirtual 155, 3) := by decide +kernel
theorem V.dX11_branches_79 : decode cX11_branches 79 = .ok (.aload_n 0, 1) := by decide +kernel
theorem V.dX11_branches_80 : decode cX11_branches 80 = .ok (.iload_n 2, 1) := by decide +kernel
theorem V.dX11_branches_81 : decode cX11_branches 81 = .ok (.invokevirtual 155, 3) := by decide +kernel
theorem V.dX11_branches_84 : decode cX11_branches 84 = .ok (.if_icmp .ne 7, 3) := by decide +kernel
theorem V.dX11_branches_87 : decode cX11_branches 87 = .ok (.iconst 1, 1) := by decide +kernel
theorem V.dX11_branches_88 : decode cX11_branches 88 = .ok (.goto 4, 3) := by decide +kernel
theorem V.dX11_branches_91 : decode cX11_branches 91 = .ok (.iconst 0, 1) := by decide +kernel
theorem V.dX11_branches_92 : decode cX11_branches 92 = .ok (.iconst 5, 1) := by decide +kernel
theorem V.dX11_branches_93 : decode cX11_branches 93 = .ok (.invokevirtual 118, 3) := by decide +kernel
theorem V.dX11_branches_96 : decode cX11_branches 96 = .ok (.aload_n 0, 1) := by decide +kernel
theorem V.dX11_branches_97 : decode cX11_branches 97 = .ok (.getfield 37, 3) := by decide +kernel
theorem V.dX11_branches_100 : decode cX11_branches 100 = .ok (.iconst 0, 1) := by decide +kernel
theorem V.dX11_branches_101 : decode cX11_branches 101 = .ok (.invokevirtual 81, 3) := by decide +kernel
theorem V.dX11_branches_104 : decode cX11_branches 104 = .ok (.aload_n 0, 1) := by decide +kernel
theorem V.dX11_branches_105 : decode cX11_branches 105 = .ok (.iload 4, 2) := by decide +kernel
theorem V.dX11_branches_107 : decode cX11_branches 107 = .ok (.invokevirtual 155, 3) := by decide +kernel
theorem V.dX11_branches_110 : decode cX11_branches 110 = .ok (.iconst 1, 1) := by decide +kernel
theorem V.dX11_branches_111 : decode cX11_branches 111 = .ok (.isub, 1) := by decide +kernel
theorem V.dX11_branches_112 : decode cX11_branches 112 = .ok (.istore 5, 2) := by decide +kernel
theorem V.dX11_branches_114 : decode cX11_branches 114 = .ok (.iload 5, 2) := by decide +kernel
theorem V.dX11_branches_116 : decode cX11_branches 116 = .ok (.ifCond .lt 28, 3) := by decide +kernel
theorem V.dX11_branches_119 : decode cX11_branches 119 = .ok (.aload_n 0, 1) := by decide +kernel
theorem V.dX11_branches_120 : decode cX11_branches 120 = .ok (.getfield 37, 3) := by decide +kernel
theorem V.dX11_branches_123 : decode cX11_branches 123 = .ok (.aload_n 0, 1) := by decide +kernel
theorem V.dX11_branches_124 : decode cX11_branches 124 = .ok (.aload_n 0, 1) := by decide +kernel
theorem V.dX11_branches_125 : decode cX11_branches 125 = .ok (.iload 4, 2) := by decide +kernel
theorem V.dX11_branches_127 : decode cX11_branches 127 = .ok (.iload 5, 2) := by decide +kernel
theorem V.dX11_branches_129 : decode cX11_branches 129 = .ok (.invokevirtual 158, 3) := by decide +kernel
theorem V.dX11_branches_132 : decode cX11_branches 132 = .ok (.invokevirtual 149, 3) := by decide +kernel
theorem V.dX11_branches_135 : decode cX11_branches 135 = .ok (.invokevirtual 104, 3) := by decide +kernel
theorem V.dX11_branches_138 : decode cX11_branches 138 = .ok (.iinc 5 (-1), 3) := by decide +kernel
theorem V.dX11_branches_141 : decode cX11_branches 141 = .ok (.goto (-27), 3) := by decide +kernel
theorem V.dX11_branches_144 : decode cX11_branches 144 = .ok (.aload_n 0, 1) := by decide +kernel
theorem V.dX11_branches_145 : decode cX11_branches 145 = .ok (.getfield 37, 3) := by decide +kernel
theorem V.dX11_branches_148 : decode cX11_branches 148 = .ok (.invokevirtual 107, 3) := by decide +kernel
theorem V.dX11_branches_151 : decode cX11_branches 151 = .ok (.iconst 1, 1) := by decide +kernel
theorem V.dX11_branches_152 : decode cX11_branches 152 = .ok (.isub, 1) := by decide +kernel
theorem V.dX11_branches_153 : decode cX11_branches 153 = .ok (.istore 5, 2) := by decide +kernel
theorem V.dX11_branches_155 : decode cX11_branches 155 = .ok (.iload 5, 2) := by decide +kernel
theorem V.dX11_branches_157 : decode cX11_branches 157 = .ok (.ifCond .lt 22, 3) := by decide +kernel
theorem V.dX11_branches_160 : decode cX11_branches 160 = .ok (.aload_n 0, 1) := by decide +kernel
theorem V.dX11_branches_161 : decode cX11_branches 161 = .ok (.aload_n 0, 1) := by decide +kernel
theorem V.dX11_branches_162 : decode cX11_branches 162 = .ok (.getfield 37, 3) := by decide +kernel
theorem V.dX11_branches_165 : decode cX11_branches 165 = .ok (.iload 5, 2) := by decide +kernel
theorem V.dX11_branches_167 : decode cX11_branches 167 = .ok (.invokevirtual 111, 3) := by decide +kernel
theorem V.dX11_branches_170 : decode cX11_branches 170 = .ok (.invokevirtual 152, 3) := by decide +kernel
theorem V.dX11_branches_173 : decode cX11_branches 173 = .ok (.iinc 5 (-1), 3) := by decide +kernel
theorem V.dX11_branches_176 : decode cX11_branches 176 = .ok (.goto (-21), 3) := by decide +kernel
theorem V.dX11_branches_179 : decode cX11_branches 179 = .ok (.iinc 3 1, 3) := by decide +kernel
theorem V.dX11_branches_182 : decode cX11_branches 182 = .ok (.goto (-135), 3) := by decide +kernel
theorem V.dX11_branches_185 : decode cX11_branches 185 = .ok (.aload_n 0, 1) := by decide +kernel
theorem V.dX11_branches_186 : decode cX11_branches 186 = .ok (.iload_n 2, 1) := by decide +kernel
theorem V.dX11_branches_187 : decode cX11_branches 187 = .ok (.invokevirtual 188, 3) := by decide +kernel
theorem V.dX11_branches_190 : decode cX11_branches 190 = .ok (.aload_n 0, 1) := by decide +kernel
theorem V.dX11_branches_191 : decode cX11_branches 191 = .ok (.invokevirtual 191, 3) := by decide +kernel
theorem V.dX11_branches_194 : decode cX11_branches 194 = .ok (.return_, 1) := by decide +kernel
theorem V.mdX11_185 : MD RX11 185 yX11_blockOf cX11_blockOf 2 (some .int) 1 := ⟨Or.inl q1914, q371, q1917, by decide, by decide, by decide +kernel⟩
theorem V.mdX11_188 : MD RX11 188 yX11_takeLabel cX11_takeLabel 3 none 1 := ⟨Or.inl q1922, q371, q1925, by decide, by decide, by decide +kernel⟩
theorem V.mdX11_191 : MD RX11 191 yX11_die cX11_die 1 none 0 := ⟨Or.inl q1808, q371, q1811, by decide, by decide, by decide +kernel⟩
theorem V.fdX11_37 : FD RX11 37 11 12 2 := ⟨(RX11, TX11, 17), tyX11, rfl, rfl, in_X11, by decide, Or.inl q831, rfl⟩
/-! ModuleEngine$Checker.branches(I)V -/
def V.Chk_branches_p155 (rec47 : HS → Nat → Int32 → Int32 → Option ((Nat ⊕ Unit) × HS)) : Nat → HS → Nat → Int32 → Int32 → Int32 → Option ((Nat ⊕ Unit) × HS)
  | 0, _, _, _, _, _ => none
  | n + 1, σ, x0, x2, x3, x5 =>
    if x5 < 0 then (
      bn (x3 + (1 : Int32)) fun y1 =>
      rec47 σ x0 x2 y1)
    else (
      ck (tg σ x0 = 12) <|
      ck (tg σ (gR σ x0 12) = 4) <| cl (Row_at σ (gR σ x0 12) x5) fun r3 σ2 =>
      ck (tg σ2 x0 = 12) <| clT (Chk_give σ2 x0 r3) fun _ σ4 =>
      bn (x5 + (-1 : Int32)) fun y5 =>
      Chk_branches_p155 rec47 n σ4 x0 x2 x3 y5)
theorem V.gX11_branches_p155 {X : CX} (rec47 : HS → Nat → Int32 → Int32 → Option ((Nat ⊕ Unit) × HS)) (hrec47 : ∀ (σ : HS) (x0 : Nat) (x2 : Int32) (x3 : Int32), G X RX11 "branches" cX11_branches 6 none 11 193 (enX enV (cxz X)) 47 [(0, av x0), (2, iv x2), (3, iv x3)] [] σ (rec47 σ x0 x2 x3)) : ∀ (n : Nat) (σ : HS) (x0 : Nat) (x2 : Int32) (x3 : Int32) (x5 : Int32), G X RX11 "branches" cX11_branches 6 none 11 193 (enX enV (cxz X)) 155 [(0, av x0), (2, iv x2), (3, iv x3), (5, iv x5)] [] σ (Chk_branches_p155 rec47 n σ x0 x2 x3 x5)
  | 0, σ, x0, x2, x3, x5 => by rw [Chk_branches_p155]; exact G.nul
  | n + 1, σ, x0, x2, x3, x5 => by
    rw [Chk_branches_p155]
    refine g_iload 3 dX11_branches_155 rfl ?_
    refine g_if_lt 179 dX11_branches_157 (by decide) ?_ ?_
    · refine g_iincB (w := 1) 2 dX11_branches_179 rfl (by decide) (by decide) (fun _ => rfl) (fun y1 => ?_)
      refine g_goto 47 dX11_branches_182 (by decide) ?_
      refine G.sub [1, 2, 0] rfl ?_
      exact hrec47 _ _ _ _
    · refine g_aload_n 0 0 dX11_branches_160 rfl rfl ?_
      refine g_aload_n 0 0 dX11_branches_161 rfl rfl ?_
      refine g_getR fdX11_37 dX11_branches_162 ?_
      refine g_iload 3 dX11_branches_165 rfl ?_
      refine g_callV (fc := fun sς => Row_at sς (gR σ x0 12) x5) (ci := 3) (as := [iv x5]) rfl rfl rfl q1409 q1410 mdX11_111 (ctX3_at (gR σ x0 12) x5) rfl (Nat.le_of_ble_eq_true rfl) (Nat.le_of_ble_eq_true rfl) (Nat.le_of_ble_eq_true rfl) pu_I dX11_branches_167 (fun r3 σ2 => ?_)
      refine g_callVT (fc := fun sς => Chk_give sς x0 r3) (ci := 11) (as := [iv r3]) rfl rfl rfl q1857 qs85 q1855 mdX11_152 (ctX11_give x0 r3) rfl (Nat.le_of_ble_eq_true rfl) (Nat.le_of_ble_eq_true rfl) (Nat.le_of_ble_eq_true rfl) pu_V (by decide) dX11_branches_170 (fun _ σ4 => ?_)
      refine g_iincB (w := (-1)) 3 dX11_branches_173 rfl (by decide) (by decide) (fun _ => rfl) (fun y5 => ?_)
      refine g_goto 155 dX11_branches_176 (by decide) ?_
      refine G.sub [1, 2, 3, 0] rfl ?_
      exact gX11_branches_p155 rec47 hrec47 n _ _ _ _ _
def V.Chk_branches_p114 (rec47 : HS → Nat → Int32 → Int32 → Option ((Nat ⊕ Unit) × HS)) : Nat → HS → Nat → Int32 → Int32 → Int32 → Int32 → Option ((Nat ⊕ Unit) × HS)
  | 0, _, _, _, _, _, _ => none
  | n + 1, σ, x0, x2, x3, x4, x5 =>
    if x5 < 0 then (
      ck (tg σ x0 = 12) <|
      ck (tg σ (gR σ x0 12) = 4) <| cl (Row_size σ (gR σ x0 12) ) fun r2 σ1 =>
      bn (r2 - (1 : Int32)) fun y3 =>
      Chk_branches_p155 rec47 FU σ1 x0 x2 x3 y3)
    else (
      ck (tg σ x0 = 12) <|
      ck (tg σ x0 = 12) <| cl (Chk_labelType σ x0 x4 x5) fun r5 σ4 =>
      ck (tg σ4 x0 = 12) <| clT (Chk_take σ4 x0 r5) fun r7 σ6 =>
      ck (tg σ6 (gR σ x0 12) = 4) <| cl (Row_add σ6 (gR σ x0 12) r7) fun _ σ8 =>
      bn (x5 + (-1 : Int32)) fun y9 =>
      Chk_branches_p114 rec47 n σ8 x0 x2 x3 x4 y9)
theorem V.gX11_branches_p114 {X : CX} (rec47 : HS → Nat → Int32 → Int32 → Option ((Nat ⊕ Unit) × HS)) (hrec47 : ∀ (σ : HS) (x0 : Nat) (x2 : Int32) (x3 : Int32), G X RX11 "branches" cX11_branches 6 none 11 193 (enX enV (cxz X)) 47 [(0, av x0), (2, iv x2), (3, iv x3)] [] σ (rec47 σ x0 x2 x3)) : ∀ (n : Nat) (σ : HS) (x0 : Nat) (x2 : Int32) (x3 : Int32) (x4 : Int32) (x5 : Int32), G X RX11 "branches" cX11_branches 6 none 11 193 (enX enV (cxz X)) 114 [(0, av x0), (2, iv x2), (3, iv x3), (4, iv x4), (5, iv x5)] [] σ (Chk_branches_p114 rec47 n σ x0 x2 x3 x4 x5)
  | 0, σ, x0, x2, x3, x4, x5 => by rw [Chk_branches_p114]; exact G.nul
  | n + 1, σ, x0, x2, x3, x4, x5 => by
    rw [Chk_branches_p114]
    refine g_iload 4 dX11_branches_114 rfl ?_
    refine g_if_lt 144 dX11_branches_116 (by decide) ?_ ?_
    · refine g_aload_n 0 0 dX11_branches_144 rfl rfl ?_
      refine g_getR fdX11_37 dX11_branches_145 ?_
      refine g_callV (fc := fun sς => Row_size sς (gR σ x0 12) ) (ci := 3) (as := []) rfl rfl rfl q1421 q1422 mdX11_107 (ctX3_size (gR σ x0 12) ) rfl (Nat.le_of_ble_eq_true rfl) (Nat.le_of_ble_eq_true rfl) (Nat.le_of_ble_eq_true rfl) pu_I dX11_branches_148 (fun r2 σ1 => ?_)
      refine g_iconst (v := 1) dX11_branches_151 (by decide) ?_
      refine g_isub dX11_branches_152 ?_
      refine g_nmI (fun y3 => ?_)
      refine g_istore dX11_branches_153 (by decide) rfl ?_
      refine G.sub [1, 2, 3, 0] rfl ?_
      exact gX11_branches_p155 rec47 hrec47 FU _ _ _ _ _
    · refine g_aload_n 0 0 dX11_branches_119 rfl rfl ?_
      refine g_getR fdX11_37 dX11_branches_120 ?_
      refine g_aload_n 0 0 dX11_branches_123 rfl rfl ?_
      refine g_aload_n 0 0 dX11_branches_124 rfl rfl ?_
      refine g_iload 3 dX11_branches_125 rfl ?_
      refine g_iload 4 dX11_branches_127 rfl ?_
      refine g_callV (fc := fun sς => Chk_labelType sς x0 x4 x5) (ci := 11) (as := [iv x4, iv x5]) rfl rfl rfl q1933 qs97 mdX11_158 (ctX11_labelType x0 x4 x5) rfl (Nat.le_of_ble_eq_true rfl) (Nat.le_of_ble_eq_true rfl) (Nat.le_of_ble_eq_true rfl) pu_I dX11_branches_129 (fun r5 σ4 => ?_)
      refine g_callVT (fc := fun sς => Chk_take sς x0 r5) (ci := 11) (as := [iv r5]) rfl rfl rfl q1837 qs80 q1835 mdX11_149 (ctX11_take x0 r5) rfl (Nat.le_of_ble_eq_true rfl) (Nat.le_of_ble_eq_true rfl) (Nat.le_of_ble_eq_true rfl) pu_I (by decide) dX11_branches_132 (fun r7 σ6 => ?_)
      refine g_callV (fc := fun sς => Row_add sς (gR σ x0 12) r7) (ci := 3) (as := [iv r7]) rfl rfl rfl q1405 q1406 mdX11_104 (ctX3_add (gR σ x0 12) r7) rfl (Nat.le_of_ble_eq_true rfl) (Nat.le_of_ble_eq_true rfl) (Nat.le_of_ble_eq_true rfl) pu_V dX11_branches_135 (fun _ σ8 => ?_)
      refine g_iincB (w := (-1)) 4 dX11_branches_138 rfl (by decide) (by decide) (fun _ => rfl) (fun y9 => ?_)
      refine g_goto 114 dX11_branches_141 (by decide) ?_
      refine G.sub [1, 2, 3, 4, 0] rfl ?_
      exact gX11_branches_p114 rec47 hrec47 n _ _ _ _ _ _
def V.Chk_branches_p92 (rec47 : HS → Nat → Int32 → Int32 → Option ((Nat ⊕ Unit) × HS)) (σ : HS) (x0 : Nat) (x2 : Int32) (x3 : Int32) (x4 : Int32) (s0 : Int32) (s1 : Nat) : Option ((Nat ⊕ Unit) × HS) :=
  ck (tg σ s1 = 12) <| clT (Chk_need σ s1 s0 (5 : Int32)) fun _ σ1 =>
  ck (tg σ1 x0 = 12) <|
  ck (tg σ1 (gR σ1 x0 12) = 4) <| cl (Row_cut σ1 (gR σ1 x0 12) (0 : Int32)) fun _ σ2 =>
  ck (tg σ2 x0 = 12) <| cl (Chk_labelSize σ2 x0 x4) fun r4 σ3 =>
  bn (r4 - (1 : Int32)) fun y5 =>
  Chk_branches_p114 rec47 FU σ3 x0 x2 x3 x4 y5
theorem V.gX11_branches_p92 {X : CX} (rec47 : HS → Nat → Int32 → Int32 → Option ((Nat ⊕ Unit) × HS)) (hrec47 : ∀ (σ : HS) (x0 : Nat) (x2 : Int32) (x3 : Int32), G X RX11 "branches" cX11_branches 6 none 11 193 (enX enV (cxz X)) 47 [(0, av x0), (2, iv x2), (3, iv x3)] [] σ (rec47 σ x0 x2 x3)) (σ : HS) (x0 : Nat) (x2 : Int32) (x3 : Int32) (x4 : Int32) (s0 : Int32) (s1 : Nat) : G X RX11 "branches" cX11_branches 6 none 11 193 (enX enV (cxz X)) 92 [(0, av x0), (2, iv x2), (3, iv x3), (4, iv x4)] [iv s0, av s1] σ (Chk_branches_p92 rec47 σ x0 x2 x3 x4 s0 s1) := by
  unfold Chk_branches_p92
  refine g_iconst (v := 5) dX11_branches_92 (by decide) ?_
  refine g_callVT (fc := fun sς => Chk_need sς s1 s0 (5 : Int32)) (ci := 11) (as := [iv s0, iv (5 : Int32)]) rfl rfl rfl q1746 qs73 q1744 mdX11_118 (ctX11_need s1 s0 (5 : Int32)) rfl (Nat.le_of_ble_eq_true rfl) (Nat.le_of_ble_eq_true rfl) (Nat.le_of_ble_eq_true rfl) pu_V (by decide) dX11_branches_93 (fun _ σ1 => ?_)
  refine g_aload_n 0 0 dX11_branches_96 rfl rfl ?_
  refine g_getR fdX11_37 dX11_branches_97 ?_
  refine g_iconst (v := 0) dX11_branches_100 (by decide) ?_
  refine g_callV (fc := fun sς => Row_cut sς (gR σ1 x0 12) (0 : Int32)) (ci := 3) (as := [iv (0 : Int32)]) rfl rfl rfl q1281 q1282 mdX11_81 (ctX3_cut (gR σ1 x0 12) (0 : Int32)) rfl (Nat.le_of_ble_eq_true rfl) (Nat.le_of_ble_eq_true rfl) (Nat.le_of_ble_eq_true rfl) pu_V dX11_branches_101 (fun _ σ2 => ?_)
  refine g_aload_n 0 0 dX11_branches_104 rfl rfl ?_
  refine g_iload 3 dX11_branches_105 rfl ?_
  refine g_callV (fc := fun sς => Chk_labelSize sς x0 x4) (ci := 11) (as := [iv x4]) rfl rfl rfl q1928 qs96 mdX11_155 (ctX11_labelSize x0 x4) rfl (Nat.le_of_ble_eq_true rfl) (Nat.le_of_ble_eq_true rfl) (Nat.le_of_ble_eq_true rfl) pu_I dX11_branches_107 (fun r4 σ3 => ?_)
  refine g_iconst (v := 1) dX11_branches_110 (by decide) ?_
  refine g_isub dX11_branches_111 ?_
  refine g_nmI (fun y5 => ?_)
  refine g_istore dX11_branches_112 (by decide) rfl ?_
  refine G.sub [1, 2, 3, 4, 0] rfl ?_
  exact gX11_branches_p114 rec47 hrec47 FU _ _ _ _ _ _
def V.Chk_branches_p47  : Nat → HS → Nat → Int32 → Int32 → Option ((Nat ⊕ Unit) × HS)
  | 0, _, _, _, _ => none
  | n + 1, σ, x0, x2, x3 =>
    ck (tg σ x0 = 12) <|
    ck (tg σ (gR σ x0 11) = 4) <| cl (Row_size σ (gR σ x0 11) ) fun r2 σ1 =>
    if r2 ≤ x3 then (
      ck (tg σ1 x0 = 12) <| clT (Chk_takeLabel σ1 x0 x2) fun _ σ3 =>
      ck (tg σ3 x0 = 12) <| cl (Chk_die σ3 x0 ) fun _ σ4 =>
      some (.inr (), σ4))
    else (
      ck (tg σ1 x0 = 12) <|
      ck (tg σ1 (gR σ1 x0 11) = 4) <| cl (Row_at σ1 (gR σ1 x0 11) x3) fun r6 σ5 =>
      ck (tg σ5 x0 = 12) <| clT (Chk_blockOf σ5 x0 r6) fun r8 σ7 =>
      ck (tg σ7 x0 = 12) <| cl (Chk_labelSize σ7 x0 r8) fun r10 σ9 =>
      ck (tg σ9 x0 = 12) <| cl (Chk_labelSize σ9 x0 x2) fun r12 σ11 =>
      if r10 = r12 then (
        Chk_branches_p92 (Chk_branches_p47 n) σ11 x0 x2 x3 r8 (1 : Int32) x0)
      else (
        Chk_branches_p92 (Chk_branches_p47 n) σ11 x0 x2 x3 r8 (0 : Int32) x0))
theorem V.gX11_branches_p47 {X : CX}  : ∀ (n : Nat) (σ : HS) (x0 : Nat) (x2 : Int32) (x3 : Int32), G X RX11 "branches" cX11_branches 6 none 11 193 (enX enV (cxz X)) 47 [(0, av x0), (2, iv x2), (3, iv x3)] [] σ (Chk_branches_p47 n σ x0 x2 x3)
  | 0, σ, x0, x2, x3 => by rw [Chk_branches_p47]; exact G.nul
  | n + 1, σ, x0, x2, x3 => by
    rw [Chk_branches_p47]
    refine g_iload_n 3 2 dX11_branches_47 rfl rfl ?_
    refine g_aload_n 0 0 dX11_branches_48 rfl rfl ?_
    refine g_getR fdX11_34 dX11_branches_49 ?_
    refine g_callV (fc := fun sς => Row_size sς (gR σ x0 11) ) (ci := 3) (as := []) rfl rfl rfl q1421 q1422 mdX11_107 (ctX3_size (gR σ x0 11) ) rfl (Nat.le_of_ble_eq_true rfl) (Nat.le_of_ble_eq_true rfl) (Nat.le_of_ble_eq_true rfl) pu_I dX11_branches_52 (fun r2 σ1 => ?_)
    refine g_icmp_ge 185 dX11_branches_55 (by decide) ?_ ?_
    · refine g_aload_n 0 0 dX11_branches_185 rfl rfl ?_
      refine g_iload_n 2 1 dX11_branches_186 rfl rfl ?_
      refine g_callVT (fc := fun sς => Chk_takeLabel sς x0 x2) (ci := 11) (as := [iv x2]) rfl rfl rfl q1924 qs95 q1922 mdX11_188 (ctX11_takeLabel x0 x2) rfl (Nat.le_of_ble_eq_true rfl) (Nat.le_of_ble_eq_true rfl) (Nat.le_of_ble_eq_true rfl) pu_V (by decide) dX11_branches_187 (fun _ σ3 => ?_)
      refine g_aload_n 0 0 dX11_branches_190 rfl rfl ?_
      refine g_callV (fc := fun sς => Chk_die sς x0 ) (ci := 11) (as := []) rfl rfl rfl q1810 qs77 mdX11_191 (ctX11_die x0 ) rfl (Nat.le_of_ble_eq_true rfl) (Nat.le_of_ble_eq_true rfl) (Nat.le_of_ble_eq_true rfl) pu_V dX11_branches_191 (fun _ σ4 => ?_)
      exact g_return rfl dX11_branches_194
    · refine g_aload_n 0 0 dX11_branches_58 rfl rfl ?_
      refine g_aload_n 0 0 dX11_branches_59 rfl rfl ?_
      refine g_getR fdX11_34 dX11_branches_60 ?_
      refine g_iload_n 3 2 dX11_branches_63 rfl rfl ?_
      refine g_callV (fc := fun sς => Row_at sς (gR σ1 x0 11) x3) (ci := 3) (as := [iv x3]) rfl rfl rfl q1409 q1410 mdX11_111 (ctX3_at (gR σ1 x0 11) x3) rfl (Nat.le_of_ble_eq_true rfl) (Nat.le_of_ble_eq_true rfl) (Nat.le_of_ble_eq_true rfl) pu_I dX11_branches_64 (fun r6 σ5 => ?_)
      refine g_callVT (fc := fun sς => Chk_blockOf sς x0 r6) (ci := 11) (as := [iv r6]) rfl rfl rfl q1916 qs94 q1914 mdX11_185 (ctX11_blockOf x0 r6) rfl (Nat.le_of_ble_eq_true rfl) (Nat.le_of_ble_eq_true rfl) (Nat.le_of_ble_eq_true rfl) pu_I (by decide) dX11_branches_67 (fun r8 σ7 => ?_)
      refine g_istore dX11_branches_70 (by decide) rfl ?_
      refine g_aload_n 0 1 dX11_branches_72 rfl rfl ?_
      refine g_aload_n 0 1 dX11_branches_73 rfl rfl ?_
      refine g_iload 0 dX11_branches_74 rfl ?_
      refine g_callV (fc := fun sς => Chk_labelSize sς x0 r8) (ci := 11) (as := [iv r8]) rfl rfl rfl q1928 qs96 mdX11_155 (ctX11_labelSize x0 r8) rfl (Nat.le_of_ble_eq_true rfl) (Nat.le_of_ble_eq_true rfl) (Nat.le_of_ble_eq_true rfl) pu_I dX11_branches_76 (fun r10 σ9 => ?_)
      refine g_aload_n 0 1 dX11_branches_79 rfl rfl ?_
      refine g_iload_n 2 2 dX11_branches_80 rfl rfl ?_
      refine g_callV (fc := fun sς => Chk_labelSize sς x0 x2) (ci := 11) (as := [iv x2]) rfl rfl rfl q1928 qs96 mdX11_155 (ctX11_labelSize x0 x2) rfl (Nat.le_of_ble_eq_true rfl) (Nat.le_of_ble_eq_true rfl) (Nat.le_of_ble_eq_true rfl) pu_I dX11_branches_81 (fun r12 σ11 => ?_)
      refine g_icmp_ne 91 dX11_branches_84 (by decide) ?_ ?_
      · refine g_iconst (v := 0) dX11_branches_91 (by decide) ?_
        refine G.sub [1, 2, 3, 0] rfl ?_
        exact gX11_branches_p92 (Chk_branches_p47 n) (gX11_branches_p47 n) _ _ _ _ _ _ _
      · refine g_iconst (v := 1) dX11_branches_87 (by decide) ?_
        refine g_goto 92 dX11_branches_88 (by decide) ?_
        refine G.sub [1, 2, 3, 0] rfl ?_
        exact gX11_branches_p92 (Chk_branches_p47 n) (gX11_branches_p47 n) _ _ _ _ _ _ _
def V.Chk_branches_p2  : Nat → HS → Nat → Int32 → Int32 → Option ((Nat ⊕ Unit) × HS)
  | 0, _, _, _, _ => none
  | n + 1, σ, x0, x1, x2 =>
    ck (tg σ x0 = 12) <|
    ck (tg σ (gR σ x0 11) = 4) <| cl (Row_size σ (gR σ x0 11) ) fun r2 σ1 =>
    if r2 ≤ x2 then (
      ck (tg σ1 x0 = 12) <| clT (Chk_blockOf σ1 x0 x1) fun r4 σ3 =>
      ck (tg σ3 x0 = 12) <| clT (Chk_take σ3 x0 (127 : Int32)) fun r6 σ5 =>
      Chk_branches_p47 FU σ5 x0 r4 (0 : Int32))
    else (
      ck (tg σ1 x0 = 12) <|
      ck (tg σ1 (gR σ1 x0 11) = 4) <| cl (Row_at σ1 (gR σ1 x0 11) x2) fun r8 σ7 =>
      ck (tg σ7 x0 = 12) <| clT (Chk_blockOf σ7 x0 r8) fun r10 σ9 =>
      bn (x2 + (1 : Int32)) fun y11 =>
      Chk_branches_p2 n σ9 x0 x1 y11)
theorem V.gX11_branches_p2 {X : CX}  : ∀ (n : Nat) (σ : HS) (x0 : Nat) (x1 : Int32) (x2 : Int32), G X RX11 "branches" cX11_branches 6 none 11 193 (enX enV (cxz X)) 2 [(0, av x0), (1, iv x1), (2, iv x2)] [] σ (Chk_branches_p2 n σ x0 x1 x2)
  | 0, σ, x0, x1, x2 => by rw [Chk_branches_p2]; exact G.nul
  | n + 1, σ, x0, x1, x2 => by
    rw [Chk_branches_p2]
    refine g_iload_n 2 2 dX11_branches_2 rfl rfl ?_
    refine g_aload_n 0 0 dX11_branches_3 rfl rfl ?_
    refine g_getR fdX11_34 dX11_branches_4 ?_
    refine g_callV (fc := fun sς => Row_size sς (gR σ x0 11) ) (ci := 3) (as := []) rfl rfl rfl q1421 q1422 mdX11_107 (ctX3_size (gR σ x0 11) ) rfl (Nat.le_of_ble_eq_true rfl) (Nat.le_of_ble_eq_true rfl) (Nat.le_of_ble_eq_true rfl) pu_I dX11_branches_7 (fun r2 σ1 => ?_)
    refine g_icmp_ge 32 dX11_branches_10 (by decide) ?_ ?_
    · refine g_aload_n 0 0 dX11_branches_32 rfl rfl ?_
      refine g_iload_n 1 1 dX11_branches_33 rfl rfl ?_
      refine g_callVT (fc := fun sς => Chk_blockOf sς x0 x1) (ci := 11) (as := [iv x1]) rfl rfl rfl q1916 qs94 q1914 mdX11_185 (ctX11_blockOf x0 x1) rfl (Nat.le_of_ble_eq_true rfl) (Nat.le_of_ble_eq_true rfl) (Nat.le_of_ble_eq_true rfl) pu_I (by decide) dX11_branches_34 (fun r4 σ3 => ?_)
      refine g_istore_n 2 dX11_branches_37 rfl (by decide) rfl ?_
      refine g_aload_n 0 1 dX11_branches_38 rfl rfl ?_
      refine g_bipush (v := 127) dX11_branches_39 (by decide) ?_
      refine g_callVT (fc := fun sς => Chk_take sς x0 (127 : Int32)) (ci := 11) (as := [iv (127 : Int32)]) rfl rfl rfl q1837 qs80 q1835 mdX11_149 (ctX11_take x0 (127 : Int32)) rfl (Nat.le_of_ble_eq_true rfl) (Nat.le_of_ble_eq_true rfl) (Nat.le_of_ble_eq_true rfl) pu_I (by decide) dX11_branches_41 (fun r6 σ5 => ?_)
      refine g_pop dX11_branches_44 rfl ?_
      refine g_iconst (v := 0) dX11_branches_45 (by decide) ?_
      refine g_istore_n 3 dX11_branches_46 rfl (by decide) rfl ?_
      refine G.sub [2, 1, 0] rfl ?_
      exact gX11_branches_p47 FU _ _ _ _
    · refine g_aload_n 0 0 dX11_branches_13 rfl rfl ?_
      refine g_aload_n 0 0 dX11_branches_14 rfl rfl ?_
      refine g_getR fdX11_34 dX11_branches_15 ?_
      refine g_iload_n 2 2 dX11_branches_18 rfl rfl ?_
      refine g_callV (fc := fun sς => Row_at sς (gR σ1 x0 11) x2) (ci := 3) (as := [iv x2]) rfl rfl rfl q1409 q1410 mdX11_111 (ctX3_at (gR σ1 x0 11) x2) rfl (Nat.le_of_ble_eq_true rfl) (Nat.le_of_ble_eq_true rfl) (Nat.le_of_ble_eq_true rfl) pu_I dX11_branches_19 (fun r8 σ7 => ?_)
      refine g_callVT (fc := fun sς => Chk_blockOf sς x0 r8) (ci := 11) (as := [iv r8]) rfl rfl rfl q1916 qs94 q1914 mdX11_185 (ctX11_blockOf x0 r8) rfl (Nat.le_of_ble_eq_true rfl) (Nat.le_of_ble_eq_true rfl) (Nat.le_of_ble_eq_true rfl) pu_I (by decide) dX11_branches_22 (fun r10 σ9 => ?_)
      refine g_pop dX11_branches_25 rfl ?_
      refine g_iincB (w := 1) 2 dX11_branches_26 rfl (by decide) (by decide) (fun _ => rfl) (fun y11 => ?_)
      refine g_goto 2 dX11_branches_29 (by decide) ?_
      refine G.sub [1, 2, 0] rfl ?_
      exact gX11_branches_p2 n _ _ _ _
def V.Chk_branches (σ : HS) (x0 : Nat) (x1 : Int32) : Option ((Nat ⊕ Unit) × HS) :=
  Chk_branches_p2 FU σ x0 x1 (0 : Int32)
theorem V.ctX11_branches (x0 : Nat) (x1 : Int32) : Ct yX11_branches  cX11_branches 6 none 11 193 eXV [av x0, iv x1] (fun σ => Chk_branches σ x0 x1) := by
  refine Ct.of (own := RX11) (nm := "branches") (desc := "(I)V") rfl (by decide) (Nat.le_of_ble_eq_true rfl) (by decide) (fun X σ => ?_)
  show G X RX11 "branches" cX11_branches 6 none 11 193 (enX enV (cxz X)) 0 [(0, av x0), (1, iv x1)] [] σ (Chk_branches σ x0 x1)
  unfold Chk_branches
  refine g_iconst (v := 0) dX11_branches_0 (by decide) ?_
  refine g_istore_n 2 dX11_branches_1 rfl (by decide) rfl ?_
  refine G.sub [1, 2, 0] rfl ?_
  exact gX11_branches_p2 FU _ _ _ _
theorem V.dX11_named_0 : decode cX11_named 0 = .ok (.aload_n 0, 1) := by decide +kernel
theorem V.dX11_named_1 : decode cX11_named 1 = .ok (.iload_n 2, 1) := by decide +kernel
theorem V.dX11_named_2 : decode cX11_named 2 = .ok (.invokestatic 114, 3) := by decide +kernel
theorem V.dX11_named_5 : decode cX11_named 5 = .ok (.aload_n 1, 1) := by decide +kernel
theorem V.dX11_named_6 : decode cX11_named 6 = .ok (.invokevirtual 107, 3) := by decide +kernel
theorem V.dX11_named_9 : decode cX11_named 9 = .ok (.i2l, 1) := by decide +kernel
theorem V.dX11_named_10 : decode cX11_named 10 = .ok (.lcmp, 1) := by decide +kernel
theorem V.dX11_named_11 : decode cX11_named 11 = .ok (.ifCond .ge 7, 3) := by decide +kernel
theorem V.dX11_named_14 : decode cX11_named 14 = .ok (.iconst 1, 1) := by decide +kernel
theorem V.dX11_named_15 : decode cX11_named 15 = .ok (.goto 4, 3) := by decide +kernel
theorem V.dX11_named_18 : decode cX11_named 18 = .ok (.iconst 0, 1) := by decide +kernel
theorem V.dX11_named_19 : decode cX11_named 19 = .ok (.bipush 12, 2) := by decide +kernel
theorem V.dX11_named_21 : decode cX11_named 21 = .ok (.invokevirtual 118, 3) := by decide +kernel
theorem V.dX11_named_24 : decode cX11_named 24 = .ok (.aload_n 1, 1) := by decide +kernel
theorem V.dX11_named_25 : decode cX11_named 25 = .ok (.iload_n 2, 1) := by decide +kernel
theorem V.dX11_named_26 : decode cX11_named 26 = .ok (.invokevirtual 111, 3) := by decide +kernel
theorem V.dX11_named_29 : decode cX11_named 29 = .ok (.ireturn, 1) := by decide +kernel
/-! ModuleEngine$Checker.named(LModuleEngine$Row;I)I -/
def V.Chk_named_p19  (σ : HS) (x1 : Nat) (x2 : Int32) (s0 : Int32) (s1 : Nat) : Option ((Nat ⊕ Int32) × HS) :=
  ck (tg σ s1 = 12) <| clT (Chk_need σ s1 s0 (12 : Int32)) fun _ σ1 =>
  ck (tg σ1 x1 = 4) <| cl (Row_at σ1 x1 x2) fun r3 σ2 =>
  some (.inr r3, σ2)
theorem V.gX11_named_p19 {X : CX}  (σ : HS) (x1 : Nat) (x2 : Int32) (s0 : Int32) (s1 : Nat) : G X RX11 "named" cX11_named 3 (some .int) 8 128 (enX enI (cxz X)) 19 [(1, av x1), (2, iv x2)] [iv s0, av s1] σ (Chk_named_p19 σ x1 x2 s0 s1) := by
  unfold Chk_named_p19
  refine g_bipush (v := 12) dX11_named_19 (by decide) ?_
  refine g_callVT (fc := fun sς => Chk_need sς s1 s0 (12 : Int32)) (ci := 11) (as := [iv s0, iv (12 : Int32)]) rfl rfl rfl q1746 qs73 q1744 mdX11_118 (ctX11_need s1 s0 (12 : Int32)) rfl (Nat.le_of_ble_eq_true rfl) (Nat.le_of_ble_eq_true rfl) (Nat.le_of_ble_eq_true rfl) pu_V (by decide) dX11_named_21 (fun _ σ1 => ?_)
  refine g_aload_n 1 0 dX11_named_24 rfl rfl ?_
  refine g_iload_n 2 1 dX11_named_25 rfl rfl ?_
  refine g_callV (fc := fun sς => Row_at sς x1 x2) (ci := 3) (as := [iv x2]) rfl rfl rfl q1409 q1410 mdX11_111 (ctX3_at x1 x2) rfl (Nat.le_of_ble_eq_true rfl) (Nat.le_of_ble_eq_true rfl) (Nat.le_of_ble_eq_true rfl) pu_I dX11_named_26 (fun r3 σ2 => ?_)
  exact g_ireturn rfl dX11_named_29
def V.Chk_named (σ : HS) (x0 : Nat) (x1 : Nat) (x2 : Int32) : Option ((Nat ⊕ Int32) × HS) :=
  cl (Chk_wide σ x2) fun r2 σ1 =>
  ck (tg σ1 x1 = 4) <| cl (Row_size σ1 x1 ) fun r4 σ3 =>
  if r4.toInt64 ≤ r2 then (
    Chk_named_p19 σ3 x1 x2 (0 : Int32) x0)
  else (
    Chk_named_p19 σ3 x1 x2 (1 : Int32) x0)
theorem V.ctX11_named (x0 : Nat) (x1 : Nat) (x2 : Int32) : Ct yX11_named  cX11_named 3 (some .int) 8 128 eXI [av x0, av x1, iv x2] (fun σ => Chk_named σ x0 x1 x2) := by
  refine Ct.of (own := RX11) (nm := "named") (desc := "(LModuleEngine$Row;I)I") rfl (by decide) (Nat.le_of_ble_eq_true rfl) (by decide) (fun X σ => ?_)
  show G X RX11 "named" cX11_named 3 (some .int) 8 128 (enX enI (cxz X)) 0 [(0, av x0), (1, av x1), (2, iv x2)] [] σ (Chk_named σ x0 x1 x2)
  unfold Chk_named
  refine g_aload_n 0 0 dX11_named_0 rfl rfl ?_
  refine g_iload_n 2 2 dX11_named_1 rfl rfl ?_
  refine g_callS (fc := fun sς => Chk_wide sς x2) (as := [iv x2]) q1919 mdX11_114 (ctX11_wide x2) rfl (Nat.le_of_ble_eq_true rfl) (Nat.le_of_ble_eq_true rfl) (Nat.le_of_ble_eq_true rfl) pu_J dX11_named_2 (fun r2 σ1 => ?_)
  refine g_aload_n 1 1 dX11_named_5 rfl rfl ?_
  refine g_callV (fc := fun sς => Row_size sς x1 ) (ci := 3) (as := []) rfl rfl rfl q1421 q1422 mdX11_107 (ctX3_size x1 ) rfl (Nat.le_of_ble_eq_true rfl) (Nat.le_of_ble_eq_true rfl) (Nat.le_of_ble_eq_true rfl) pu_I dX11_named_6 (fun r4 σ3 => ?_)
  refine g_i2l dX11_named_9 ?_
  refine g_lcmp_ge 18 dX11_named_10 dX11_named_11 (by decide) ?_ ?_
  · refine g_iconst (v := 0) dX11_named_18 (by decide) ?_
    refine G.sub [1, 2] rfl ?_
    exact gX11_named_p19 _ _ _ _ _
  · refine g_iconst (v := 1) dX11_named_14 (by decide) ?_
    refine g_goto 19 dX11_named_15 (by decide) ?_
    refine G.sub [1, 2] rfl ?_
    exact gX11_named_p19 _ _ _ _ _
theorem V.dX11_calls_0 : decode cX11_calls 0 = .ok (.aload_n 0, 1) := by decide +kernel
theorem V.dX11_calls_1 : decode cX11_calls 1 = .ok (.iload_n 1, 1) := by decide +kernel
theorem V.dX11_calls_2 : decode cX11_calls 2 = .ok (.invokevirtual 167, 3) := by decide +kernel
theorem V.dX11_calls_5 : decode cX11_calls 5 = .ok (.aload_n 0, 1) := by decide +kernel
theorem V.dX11_calls_6 : decode cX11_calls 6 = .ok (.iload_n 1, 1) := by decide +kernel
theorem V.dX11_calls_7 : decode cX11_calls 7 = .ok (.invokevirtual 182, 3) := by decide +kernel
theorem V.dX11_calls_10 : decode cX11_calls 10 = .ok (.return_, 1) := by decide +kernel
/-! ModuleEngine$Checker.calls(I)V -/
def V.Chk_calls (σ : HS) (x0 : Nat) (x1 : Int32) : Option ((Nat ⊕ Unit) × HS) :=
  ck (tg σ x0 = 12) <| clT (Chk_takeParameters σ x0 x1) fun _ σ1 =>
  ck (tg σ1 x0 = 12) <| clT (Chk_giveResults σ1 x0 x1) fun _ σ2 =>
  some (.inr (), σ2)
theorem V.ctX11_calls (x0 : Nat) (x1 : Int32) : Ct yX11_calls  cX11_calls 2 none 11 193 eXV [av x0, iv x1] (fun σ => Chk_calls σ x0 x1) := by
  refine Ct.of (own := RX11) (nm := "calls") (desc := "(I)V") rfl (by decide) (Nat.le_of_ble_eq_true rfl) (by decide) (fun X σ => ?_)
  show G X RX11 "calls" cX11_calls 2 none 11 193 (enX enV (cxz X)) 0 [(0, av x0), (1, iv x1)] [] σ (Chk_calls σ x0 x1)
  unfold Chk_calls
  refine g_aload_n 0 0 dX11_calls_0 rfl rfl ?_
  refine g_iload_n 1 1 dX11_calls_1 rfl rfl ?_
  refine g_callVT (fc := fun sς => Chk_takeParameters sς x0 x1) (ci := 11) (as := [iv x1]) rfl rfl rfl q1845 qs82 q1843 mdX11_167 (ctX11_takeParameters x0 x1) rfl (Nat.le_of_ble_eq_true rfl) (Nat.le_of_ble_eq_true rfl) (Nat.le_of_ble_eq_true rfl) pu_V (by decide) dX11_calls_2 (fun _ σ1 => ?_)
  refine g_aload_n 0 0 dX11_calls_5 rfl rfl ?_
  refine g_iload_n 1 1 dX11_calls_6 rfl rfl ?_
  refine g_callVT (fc := fun sς => Chk_giveResults sς x0 x1) (ci := 11) (as := [iv x1]) rfl rfl rfl q1912 qs93 q1910 mdX11_182 (ctX11_giveResults x0 x1) rfl (Nat.le_of_ble_eq_true rfl) (Nat.le_of_ble_eq_true rfl) (Nat.le_of_ble_eq_true rfl) pu_V (by decide) dX11_calls_7 (fun _ σ2 => ?_)
  exact g_return rfl dX11_calls_10
theorem V.dX11_typeOf_0 : decode cX11_typeOf 0 = .ok (.aload_n 0, 1) := by decide +kernel
theorem V.dX11_typeOf_1 : decode cX11_typeOf 1 = .ok (.iload_n 1, 1) := by decide +kernel
theorem V.dX11_typeOf_2 : decode cX11_typeOf 2 = .ok (.invokestatic 114, 3) := by decide +kernel
theorem V.dX11_typeOf_5 : decode cX11_typeOf 5 = .ok (.aload_n 0, 1) := by decide +kernel
theorem V.dX11_typeOf_6 : decode cX11_typeOf 6 = .ok (.getfield 40, 3) := by decide +kernel
theorem V.dX11_typeOf_9 : decode cX11_typeOf 9 = .ok (.invokeinterface 164 1, 5) := by decide +kernel
theorem V.dX11_typeOf_14 : decode cX11_typeOf 14 = .ok (.i2l, 1) := by decide +kernel
theorem V.dX11_typeOf_15 : decode cX11_typeOf 15 = .ok (.lcmp, 1) := by decide +kernel
theorem V.dX11_typeOf_16 : decode cX11_typeOf 16 = .ok (.ifCond .ge 7, 3) := by decide +kernel
theorem V.dX11_typeOf_19 : decode cX11_typeOf 19 = .ok (.iconst 1, 1) := by decide +kernel
theorem V.dX11_typeOf_20 : decode cX11_typeOf 20 = .ok (.goto 4, 3) := by decide +kernel
theorem V.dX11_typeOf_23 : decode cX11_typeOf 23 = .ok (.iconst 0, 1) := by decide +kernel
theorem V.dX11_typeOf_24 : decode cX11_typeOf 24 = .ok (.bipush 12, 2) := by decide +kernel
theorem V.dX11_typeOf_26 : decode cX11_typeOf 26 = .ok (.invokevirtual 118, 3) := by decide +kernel
theorem V.dX11_typeOf_29 : decode cX11_typeOf 29 = .ok (.iload_n 1, 1) := by decide +kernel
theorem V.dX11_typeOf_30 : decode cX11_typeOf 30 = .ok (.ireturn, 1) := by decide +kernel
/-! ModuleEngine$Checker.typeOf(I)I -/
def V.Chk_typeOf_p24  (σ : HS) (x1 : Int32) (s0 : Int32) (s1 : Nat) : Option ((Nat ⊕ Int32) × HS) :=
  ck (tg σ s1 = 12) <| clT (Chk_need σ s1 s0 (12 : Int32)) fun _ σ1 =>
  some (.inr x1, σ1)
theorem V.gX11_typeOf_p24 {X : CX}  (σ : HS) (x1 : Int32) (s0 : Int32) (s1 : Nat) : G X RX11 "typeOf" cX11_typeOf 2 (some .int) 8 128 (enX enI (cxz X)) 24 [(1, iv x1)] [iv s0, av s1] σ (Chk_typeOf_p24 σ x1 s0 s1) := by
  unfold Chk_typeOf_p24
  refine g_bipush (v := 12) dX11_typeOf_24 (by decide) ?_
  refine g_callVT (fc := fun sς => Chk_need sς s1 s0 (12 : Int32)) (ci := 11) (as := [iv s0, iv (12 : Int32)]) rfl rfl rfl q1746 qs73 q1744 mdX11_118 (ctX11_need s1 s0 (12 : Int32)) rfl (Nat.le_of_ble_eq_true rfl) (Nat.le_of_ble_eq_true rfl) (Nat.le_of_ble_eq_true rfl) pu_V (by decide) dX11_typeOf_26 (fun _ σ1 => ?_)
  refine g_iload_n 1 0 dX11_typeOf_29 rfl rfl ?_
  exact g_ireturn rfl dX11_typeOf_30
def V.Chk_typeOf (σ : HS) (x0 : Nat) (x1 : Int32) : Option ((Nat ⊕ Int32) × HS) :=
  cl (Chk_wide σ x1) fun r2 σ1 =>
  ck (tg σ1 x0 = 12) <|
  ck (tg σ1 (gR σ1 x0 0) = 10) <| cl (Mty_count σ1 (gR σ1 x0 0) ) fun r4 σ3 =>
  if r4.toInt64 ≤ r2 then (
    Chk_typeOf_p24 σ3 x1 (0 : Int32) x0)
  else (
    Chk_typeOf_p24 σ3 x1 (1 : Int32) x0)
theorem V.ctX11_typeOf (x0 : Nat) (x1 : Int32) : Ct yX11_typeOf  cX11_typeOf 2 (some .int) 8 128 eXI [av x0, iv x1] (fun σ => Chk_typeOf σ x0 x1) := by
  refine Ct.of (own := RX11) (nm := "typeOf") (desc := "(I)I") rfl (by decide) (Nat.le_of_ble_eq_true rfl) (by decide) (fun X σ => ?_)
  show G X RX11 "typeOf" cX11_typeOf 2 (some .int) 8 128 (enX enI (cxz X)) 0 [(0, av x0), (1, iv x1)] [] σ (Chk_typeOf σ x0 x1)
  unfold Chk_typeOf
  refine g_aload_n 0 0 dX11_typeOf_0 rfl rfl ?_
  refine g_iload_n 1 1 dX11_typeOf_1 rfl rfl ?_
  refine g_callS (fc := fun sς => Chk_wide sς x1) (as := [iv x1]) q1919 mdX11_114 (ctX11_wide x1) rfl (Nat.le_of_ble_eq_true rfl) (Nat.le_of_ble_eq_true rfl) (Nat.le_of_ble_eq_true rfl) pu_J dX11_typeOf_2 (fun r2 σ1 => ?_)
  refine g_aload_n 0 0 dX11_typeOf_5 rfl rfl ?_
  refine g_getR fdX11_40 dX11_typeOf_6 ?_
  refine g_callF (fc := fun sς => Mty_count sς (gR σ1 x0 0) ) (as := []) (n := 0) (nmy := "count") (dsy := "()I") rfl rfl (by decide) q1826 q1829 q1831 q369 q1833 (by decide +kernel) (ctX9_count (gR σ1 x0 0) ) rfl (Nat.le_of_ble_eq_true rfl) (Nat.le_of_ble_eq_true rfl) (Nat.le_of_ble_eq_true rfl) pu_I dX11_typeOf_9 (fun r4 σ3 => ?_)
  refine g_i2l dX11_typeOf_14 ?_
  refine g_lcmp_ge 23 dX11_typeOf_15 dX11_typeOf_16 (by decide) ?_ ?_
  · refine g_iconst (v := 0) dX11_typeOf_23 (by decide) ?_
    refine G.sub [1] rfl ?_
    exact gX11_typeOf_p24 _ _ _ _
  · refine g_iconst (v := 1) dX11_typeOf_19 (by decide) ?_
    refine g_goto 24 dX11_typeOf_20 (by decide) ?_
    refine G.sub [1] rfl ?_
    exact gX11_typeOf_p24 _ _ _ _
theorem V.dX11_control_0 : decode cX11_control 0 = .ok (.iload_n 1, 1) := by decide +kernel
theorem V.dX11_control_1 : decode cX11_control 1 = .ok (.tableswitch 244 0 17 #[87, 93, 95, 95, 95, 103, 244, 244, 244, 244, 244, 109, 115, 130, 158, 165, 176, 194], 87) := by decide +kernel
theorem V.dX11_control_88 : decode cX11_control 88 = .ok (.aload_n 0, 1) := by decide +kernel
theorem V.dX11_control_89 : decode cX11_control 89 = .ok (.invokevirtual 191, 3) := by decide +kernel
theorem V.dX11_control_92 : decode cX11_control 92 = .ok (.iconst 1, 1) := by decide +kernel
theorem V.dX11_control_93 : decode cX11_control 93 = .ok (.ireturn, 1) := by decide +kernel
theorem V.dX11_control_94 : decode cX11_control 94 = .ok (.iconst 1, 1) := by decide +kernel
theorem V.dX11_control_95 : decode cX11_control 95 = .ok (.ireturn, 1) := by decide +kernel
theorem V.dX11_control_96 : decode cX11_control 96 = .ok (.aload_n 0, 1) := by decide +kernel
theorem V.dX11_control_97 : decode cX11_control 97 = .ok (.iload_n 1, 1) := by decide +kernel
theorem V.dX11_control_98 : decode cX11_control 98 = .ok (.iload_n 2, 1) := by decide +kernel
theorem V.dX11_control_99 : decode cX11_control 99 = .ok (.invokevirtual 194, 3) := by decide +kernel
theorem V.dX11_control_102 : decode cX11_control 102 = .ok (.iconst 1, 1) := by decide +kernel
theorem V.dX11_control_103 : decode cX11_control 103 = .ok (.ireturn, 1) := by decide +kernel
theorem V.dX11_control_104 : decode cX11_control 104 = .ok (.aload_n 0, 1) := by decide +kernel
theorem V.dX11_control_105 : decode cX11_control 105 = .ok (.invokevirtual 197, 3) := by decide +kernel
theorem V.dX11_control_108 : decode cX11_control 108 = .ok (.iconst 1, 1) := by decide +kernel
theorem V.dX11_control_109 : decode cX11_control 109 = .ok (.ireturn, 1) := by decide +kernel
theorem V.dX11_control_110 : decode cX11_control 110 = .ok (.aload_n 0, 1) := by decide +kernel
theorem V.dX11_control_111 : decode cX11_control 111 = .ok (.invokevirtual 200, 3) := by decide +kernel
theorem V.dX11_control_114 : decode cX11_control 114 = .ok (.iconst 1, 1) := by decide +kernel
theorem V.dX11_control_115 : decode cX11_control 115 = .ok (.ireturn, 1) := by decide +kernel
theorem V.dX11_control_116 : decode cX11_control 116 = .ok (.aload_n 0, 1) := by decide +kernel
theorem V.dX11_control_117 : decode cX11_control 117 = .ok (.aload_n 0, 1) := by decide +kernel
theorem V.dX11_control_118 : decode cX11_control 118 = .ok (.iload_n 2, 1) := by decide +kernel
theorem V.dX11_control_119 : decode cX11_control 119 = .ok (.invokevirtual 185, 3) := by decide +kernel
theorem V.dX11_control_122 : decode cX11_control 122 = .ok (.invokevirtual 188, 3) := by decide +kernel
theorem V.dX11_control_125 : decode cX11_control 125 = .ok (.aload_n 0, 1) := by decide +kernel
theorem V.dX11_control_126 : decode cX11_control 126 = .ok (.invokevirtual 191, 3) := by decide +kernel
theorem V.dX11_control_129 : decode cX11_control 129 = .ok (.iconst 1, 1) := by decide +kernel
theorem V.dX11_control_130 : decode cX11_control 130 = .ok (.ireturn, 1) := by decide +kernel
theorem V.dX11_control_131 : decode cX11_control 131 = .ok (.aload_n 0, 1) := by decide +kernel
theorem V.dX11_control_132 : decode cX11_control 132 = .ok (.iload_n 2, 1) := by decide +kernel
theorem V.dX11_control_133 : decode cX11_control 133 = .ok (.invokevirtual 185, 3) := by decide +kernel
theorem V.dX11_control_136 : decode cX11_control 136 = .ok (.istore 4, 2) := by decide +kernel
theorem V.dX11_control_138 : decode cX11_control 138 = .ok (.aload_n 0, 1) := by decide +kernel
theorem V.dX11_control_139 : decode cX11_control 139 = .ok (.bipush 127, 2) := by decide +kernel
theorem V.dX11_control_141 : decode cX11_control 141 = .ok (.invokevirtual 149, 3) := by decide +kernel
theorem V.dX11_control_144 : decode cX11_control 144 = .ok (.pop, 1) := by decide +kernel
theorem V.dX11_control_145 : decode cX11_control 145 = .ok (.aload_n 0, 1) := by decide +kernel
theorem V.dX11_control_146 : decode cX11_control 146 = .ok (.iload 4, 2) := by decide +kernel
theorem V.dX11_control_148 : decode cX11_control 148 = .ok (.invokevirtual 188, 3) := by decide +kernel
theorem V.dX11_control_151 : decode cX11_control 151 = .ok (.aload_n 0, 1) := by decide +kernel
theorem V.dX11_control_152 : decode cX11_control 152 = .ok (.iload 4, 2) := by decide +kernel
theorem V.dX11_control_154 : decode cX11_control 154 = .ok (.invokevirtual 203, 3) := by decide +kernel
theorem V.dX11_control_157 : decode cX11_control 157 = .ok (.iconst 1, 1) := by decide +kernel
theorem V.dX11_control_158 : decode cX11_control 158 = .ok (.ireturn, 1) := by decide +kernel
theorem V.dX11_control_159 : decode cX11_control 159 = .ok (.aload_n 0, 1) := by decide +kernel
theorem V.dX11_control_160 : decode cX11_control 160 = .ok (.iload_n 2, 1) := by decide +kernel
theorem V.dX11_control_161 : decode cX11_control 161 = .ok (.invokevirtual 206, 3) := by decide +kernel
theorem V.dX11_control_164 : decode cX11_control 164 = .ok (.iconst 1, 1) := by decide +kernel
theorem V.dX11_control_165 : decode cX11_control 165 = .ok (.ireturn, 1) := by decide +kernel
theorem V.dX11_control_166 : decode cX11_control 166 = .ok (.aload_n 0, 1) := by decide +kernel
theorem V.dX11_control_167 : decode cX11_control 167 = .ok (.iconst 0, 1) := by decide +kernel
theorem V.dX11_control_168 : decode cX11_control 168 = .ok (.invokevirtual 188, 3) := by decide +kernel
theorem V.dX11_control_171 : decode cX11_control 171 = .ok (.aload_n 0, 1) := by decide +kernel
theorem V.dX11_control_172 : decode cX11_control 172 = .ok (.invokevirtual 191, 3) := by decide +kernel
theorem V.dX11_control_175 : decode cX11_control 175 = .ok (.iconst 1, 1) := by decide +kernel
theorem V.dX11_control_176 : decode cX11_control 176 = .ok (.ireturn, 1) := by decide +kernel
theorem V.dX11_control_177 : decode cX11_control 177 = .ok (.aload_n 0, 1) := by decide +kernel
theorem V.dX11_control_178 : decode cX11_control 178 = .ok (.aload_n 0, 1) := by decide +kernel
theorem V.dX11_control_179 : decode cX11_control 179 = .ok (.aload_n 0, 1) := by decide +kernel
theorem V.dX11_control_180 : decode cX11_control 180 = .ok (.getfield 44, 3) := by decide +kernel
theorem V.dX11_control_183 : decode cX11_control 183 = .ok (.getfield 209, 3) := by decide +kernel
theorem V.dX11_control_186 : decode cX11_control 186 = .ok (.iload_n 2, 1) := by decide +kernel
theorem V.dX11_control_187 : decode cX11_control 187 = .ok (.invokevirtual 214, 3) := by decide +kernel
theorem V.dX11_control_190 : decode cX11_control 190 = .ok (.invokevirtual 218, 3) := by decide +kernel
theorem V.dX11_control_193 : decode cX11_control 193 = .ok (.iconst 1, 1) := by decide +kernel
theorem V.dX11_control_194 : decode cX11_control 194 = .ok (.ireturn, 1) := by decide +kernel
theorem V.dX11_control_195 : decode cX11_control 195 = .ok (.aload_n 0, 1) := by decide +kernel
theorem V.dX11_control_196 : decode cX11_control 196 = .ok (.iload_n 2, 1) := by decide +kernel
theorem V.dX11_control_197 : decode cX11_control 197 = .ok (.invokevirtual 221, 3) := by decide +kernel
theorem V.dX11_control_200 : decode cX11_control 200 = .ok (.istore 5, 2) := by decide +kernel
theorem V.dX11_control_202 : decode cX11_control 202 = .ok (.aload_n 0, 1) := by decide +kernel
theorem V.dX11_control_203 : decode cX11_control 203 = .ok (.aload_n 0, 1) := by decide +kernel
theorem V.dX11_control_204 : decode cX11_control 204 = .ok (.aload_n 0, 1) := by decide +kernel
theorem V.dX11_control_205 : decode cX11_control 205 = .ok (.getfield 44, 3) := by decide +kernel
theorem V.dX11_control_208 : decode cX11_control 208 = .ok (.getfield 224, 3) := by decide +kernel
theorem V.dX11_control_211 : decode cX11_control 211 = .ok (.iload_n 3, 1) := by decide +kernel
theorem V.dX11_control_212 : decode cX11_control 212 = .ok (.invokevirtual 214, 3) := by decide +kernel
theorem V.dX11_control_215 : decode cX11_control 215 = .ok (.bipush 112, 2) := by decide +kernel
theorem V.dX11_control_217 : decode cX11_control 217 = .ok (.if_icmp .ne 7, 3) := by decide +kernel
theorem V.dX11_control_220 : decode cX11_control 220 = .ok (.iconst 1, 1) := by decide +kernel
theorem V.dX11_control_221 : decode cX11_control 221 = .ok (.goto 4, 3) := by decide +kernel
theorem V.dX11_control_224 : decode cX11_control 224 = .ok (.iconst 0, 1) := by decide +kernel
theorem V.dX11_control_225 : decode cX11_control 225 = .ok (.bipush 6, 2) := by decide +kernel
theorem V.dX11_control_227 : decode cX11_control 227 = .ok (.invokevirtual 118, 3) := by decide +kernel
theorem V.dX11_control_230 : decode cX11_control 230 = .ok (.aload_n 0, 1) := by decide +kernel
theorem V.dX11_control_231 : decode cX11_control 231 = .ok (.bipush 127, 2) := by decide +kernel
theorem V.dX11_control_233 : decode cX11_control 233 = .ok (.invokevirtual 149, 3) := by decide +kernel
theorem V.dX11_control_236 : decode cX11_control 236 = .ok (.pop, 1) := by decide +kernel
theorem V.dX11_control_237 : decode cX11_control 237 = .ok (.aload_n 0, 1) := by decide +kernel
theorem V.dX11_control_238 : decode cX11_control 238 = .ok (.iload 5, 2) := by decide +kernel
theorem V.dX11_control_240 : decode cX11_control 240 = .ok (.invokevirtual 218, 3) := by decide +kernel
theorem V.dX11_control_243 : decode cX11_control 243 = .ok (.iconst 1, 1) := by decide +kernel
theorem V.dX11_control_244 : decode cX11_control 244 = .ok (.ireturn, 1) := by decide +kernel
theorem V.dX11_control_245 : decode cX11_control 245 = .ok (.iconst 0, 1) := by decide +kernel
theorem V.dX11_control_246 : decode cX11_control 246 = .ok (.ireturn, 1) := by decide +kernel
theorem V.mdX11_197 : MD RX11 197 yX11_otherPart cX11_otherPart 1 none 0 := ⟨Or.inl q1859, q371, q1862, by decide, by decide, by decide +kernel⟩
theorem V.mdX11_200 : MD RX11 200 yX11_blockEnds cX11_blockEnds 3 none 0 := ⟨Or.inl q1902, q371, q1905, by decide, by decide, by decide +kernel⟩
theorem V.mdX11_203 : MD RX11 203 yX11_giveLabel cX11_giveLabel 3 none 1 := ⟨Or.inl q1935, q371, q1938, by decide, by decide, by decide +kernel⟩
theorem V.mdX11_206 : MD RX11 206 yX11_branches cX11_branches 6 none 1 := ⟨Or.inl q1939, q371, q1942, by decide, by decide, by decide +kernel⟩
theorem V.fdX11_44 : FD RX11 44 11 1 2 := ⟨(RX11, TX11, 17), tyX11, rfl, rfl, in_X11, by decide, Or.inl q819, rfl⟩
theorem V.fdX11_209 : FD RX11 209 10 0 2 := ⟨(RX10, TX10, 8), tyX10, rfl, rfl, in_X10, by decide, Or.inr ⟨_, q773⟩, rfl⟩
theorem V.mdX11_214 : MD RX11 214 yX11_named cX11_named 3 (some .int) 2 := ⟨Or.inl q1943, q371, q1946, by decide, by decide, by decide +kernel⟩
theorem V.mdX11_218 : MD RX11 218 yX11_calls cX11_calls 2 none 1 := ⟨Or.inl q1947, q371, q1950, by decide, by decide, by decide +kernel⟩
theorem V.mdX11_221 : MD RX11 221 yX11_typeOf cX11_typeOf 2 (some .int) 1 := ⟨Or.inl q1951, q371, q1954, by decide, by decide, by decide +kernel⟩
theorem V.fdX11_224 : FD RX11 224 10 2 2 := ⟨(RX10, TX10, 8), tyX10, rfl, rfl, in_X10, by decide, Or.inr ⟨_, q779⟩, rfl⟩
theorem V.mdX11_194 : MD RX11 194 yX11_blockBegins cX11_blockBegins 3 none 2 := ⟨Or.inl q1821, q371, q1824, by decide, by decide, by decide +kernel⟩
/-! ModuleEngine$Checker.control(III)Z -/
def V.Chk_control_p96  (σ : HS) (x0 : Nat) (x1 : Int32) (x2 : Int32) : Option ((Nat ⊕ Int32) × HS) :=
  ck (tg σ x0 = 12) <| clT (Chk_blockBegins σ x0 x1 x2) fun _ σ1 =>
  some (.inr (1 : Int32), σ1)
theorem V.gX11_control_p96 {X : CX}  (σ : HS) (x0 : Nat) (x1 : Int32) (x2 : Int32) : G X RX11 "control" cX11_control 6 (some .boolean) 13 235 (enX enI (cxz X)) 96 [(0, av x0), (1, iv x1), (2, iv x2)] [] σ (Chk_control_p96 σ x0 x1 x2) := by
  unfold Chk_control_p96
  refine g_aload_n 0 0 dX11_control_96 rfl rfl ?_
  refine g_iload_n 1 1 dX11_control_97 rfl rfl ?_
  refine g_iload_n 2 2 dX11_control_98 rfl rfl ?_
  refine g_callVT (fc := fun sς => Chk_blockBegins sς x0 x1 x2) (ci := 11) (as := [iv x1, iv x2]) rfl rfl rfl q1823 qs79 q1821 mdX11_194 (ctX11_blockBegins x0 x1 x2) rfl (Nat.le_of_ble_eq_true rfl) (Nat.le_of_ble_eq_true rfl) (Nat.le_of_ble_eq_true rfl) pu_V (by decide) dX11_control_99 (fun _ σ1 => ?_)
  refine g_iconst (v := 1) dX11_control_102 (by decide) ?_
  exact g_zreturn rfl (by decide +kernel) dX11_control_103
def V.Chk_control_p225  (σ : HS) (x0 : Nat) (x5 : Int32) (s0 : Int32) (s1 : Nat) : Option ((Nat ⊕ Int32) × HS) :=
  ck (tg σ s1 = 12) <| clT (Chk_need σ s1 s0 (6 : Int32)) fun _ σ1 =>
  ck (tg σ1 x0 = 12) <| clT (Chk_take σ1 x0 (127 : Int32)) fun r3 σ2 =>
  ck (tg σ2 x0 = 12) <| clT (Chk_calls σ2 x0 x5) fun _ σ4 =>
  some (.inr (1 : Int32), σ4)
theorem V.gX11_control_p225 {X : CX}  (σ : HS) (x0 : Nat) (x5 : Int32) (s0 : Int32) (s1 : Nat) : G X RX11 "control" cX11_control 6 (some .boolean) 13 235 (enX enI (cxz X)) 225 [(0, av x0), (5, iv x5)] [iv s0, av s1] σ (Chk_control_p225 σ x0 x5 s0 s1) := by
  unfold Chk_control_p225
  refine g_bipush (v := 6) dX11_control_225 (by decide) ?_
  refine g_callVT (fc := fun sς => Chk_need sς s1 s0 (6 : Int32)) (ci := 11) (as := [iv s0, iv (6 : Int32)]) rfl rfl rfl q1746 qs73 q1744 mdX11_118 (ctX11_need s1 s0 (6 : Int32)) rfl (Nat.le_of_ble_eq_true rfl) (Nat.le_of_ble_eq_true rfl) (Nat.le_of_ble_eq_true rfl) pu_V (by decide) dX11_control_227 (fun _ σ1 => ?_)
  refine g_aload_n 0 0 dX11_control_230 rfl rfl ?_
  refine g_bipush (v := 127) dX11_control_231 (by decide) ?_
  refine g_callVT (fc := fun sς => Chk_take sς x0 (127 : Int32)) (ci := 11) (as := [iv (127 : Int32)]) rfl rfl rfl q1837 qs80 q1835 mdX11_149 (ctX11_take x0 (127 : Int32)) rfl (Nat.le_of_ble_eq_true rfl) (Nat.le_of_ble_eq_true rfl) (Nat.le_of_ble_eq_true rfl) pu_I (by decide) dX11_control_233 (fun r3 σ2 => ?_)
  refine g_pop dX11_control_236 rfl ?_
  refine g_aload_n 0 0 dX11_control_237 rfl rfl ?_
  refine g_iload 1 dX11_control_238 rfl ?_
  refine g_callVT (fc := fun sς => Chk_calls sς x0 x5) (ci := 11) (as := [iv x5]) rfl rfl rfl q1949 qs101 q1947 mdX11_218 (ctX11_calls x0 x5) rfl (Nat.le_of_ble_eq_true rfl) (Nat.le_of_ble_eq_true rfl) (Nat.le_of_ble_eq_true rfl) pu_V (by decide) dX11_control_240 (fun _ σ4 => ?_)
  refine g_iconst (v := 1) dX11_control_243 (by decide) ?_
  exact g_zreturn rfl (by decide +kernel) dX11_control_244
def V.Chk_control (σ : HS) (x0 : Nat) (x1 : Int32) (x2 : Int32) (x3 : Int32) : Option ((Nat ⊕ Int32) × HS) :=
  swx x1 [
    (0, (
      ck (tg σ x0 = 12) <| cl (Chk_die σ x0 ) fun _ σ1 =>
      some (.inr (1 : Int32), σ1))),
    (1, (
      some (.inr (1 : Int32), σ))),
    (2, (
      Chk_control_p96 σ x0 x1 x2)),
    (3, (
      Chk_control_p96 σ x0 x1 x2)),
    (4, (
      Chk_control_p96 σ x0 x1 x2)),
    (5, (
      ck (tg σ x0 = 12) <| clT (Chk_otherPart σ x0 ) fun _ σ2 =>
      some (.inr (1 : Int32), σ2))),
    (11, (
      ck (tg σ x0 = 12) <| clT (Chk_blockEnds σ x0 ) fun _ σ3 =>
      some (.inr (1 : Int32), σ3))),
    (12, (
      ck (tg σ x0 = 12) <| clT (Chk_blockOf σ x0 x2) fun r5 σ4 =>
      ck (tg σ4 x0 = 12) <| clT (Chk_takeLabel σ4 x0 r5) fun _ σ6 =>
      ck (tg σ6 x0 = 12) <| cl (Chk_die σ6 x0 ) fun _ σ7 =>
      some (.inr (1 : Int32), σ7))),
    (13, (
      ck (tg σ x0 = 12) <| clT (Chk_blockOf σ x0 x2) fun r9 σ8 =>
      ck (tg σ8 x0 = 12) <| clT (Chk_take σ8 x0 (127 : Int32)) fun r11 σ10 =>
      ck (tg σ10 x0 = 12) <| clT (Chk_takeLabel σ10 x0 r9) fun _ σ12 =>
      ck (tg σ12 x0 = 12) <| clT (Chk_giveLabel σ12 x0 r9) fun _ σ13 =>
      some (.inr (1 : Int32), σ13))),
    (14, (
      ck (tg σ x0 = 12) <| clT (Chk_branches σ x0 x2) fun _ σ14 =>
      some (.inr (1 : Int32), σ14))),
    (15, (
      ck (tg σ x0 = 12) <| clT (Chk_takeLabel σ x0 (0 : Int32)) fun _ σ15 =>
      ck (tg σ15 x0 = 12) <| cl (Chk_die σ15 x0 ) fun _ σ16 =>
      some (.inr (1 : Int32), σ16))),
    (16, (
      ck (tg σ x0 = 12) <|
      ck (tg σ (gR σ x0 1) = 11) <|
      ck (tg σ x0 = 12) <| clT (Chk_named σ x0 (gR σ (gR σ x0 1) 0) x2) fun r18 σ17 =>
      ck (tg σ17 x0 = 12) <| clT (Chk_calls σ17 x0 r18) fun _ σ19 =>
      some (.inr (1 : Int32), σ19))),
    (17, (
      ck (tg σ x0 = 12) <| clT (Chk_typeOf σ x0 x2) fun r21 σ20 =>
      ck (tg σ20 x0 = 12) <|
      ck (tg σ20 (gR σ20 x0 1) = 11) <|
      ck (tg σ20 x0 = 12) <| clT (Chk_named σ20 x0 (gR σ20 (gR σ20 x0 1) 2) x3) fun r23 σ22 =>
      if r23 = (112 : Int32) then (
        Chk_control_p225 σ22 x0 r21 (1 : Int32) x0)
      else (
        Chk_control_p225 σ22 x0 r21 (0 : Int32) x0)))
    ] (
    some (.inr (0 : Int32), σ))
theorem V.ctX11_control (x0 : Nat) (x1 : Int32) (x2 : Int32) (x3 : Int32) : Ct yX11_control  cX11_control 6 (some .boolean) 13 235 eXI [av x0, iv x1, iv x2, iv x3] (fun σ => Chk_control σ x0 x1 x2 x3) := by
  refine Ct.of (own := RX11) (nm := "control") (desc := "(III)Z") rfl (by decide) (Nat.le_of_ble_eq_true rfl) (by decide) (fun X σ => ?_)
  show G X RX11 "control" cX11_control 6 (some .boolean) 13 235 (enX enI (cxz X)) 0 [(0, av x0), (1, iv x1), (2, iv x2), (3, iv x3)] [] σ (Chk_control σ x0 x1 x2 x3)
  unfold Chk_control
  refine g_iload_n 1 1 dX11_control_0 rfl rfl ?_
  refine g_tsw dX11_control_1 (by decide +kernel) ?_
  refine g_case ex0 (t := 88) (by decide +kernel) ?_ (fun hx => ?_)
  · refine g_aload_n 0 0 dX11_control_88 rfl rfl ?_
    refine g_callV (fc := fun sς => Chk_die sς x0 ) (ci := 11) (as := []) rfl rfl rfl q1810 qs77 mdX11_191 (ctX11_die x0 ) rfl (Nat.le_of_ble_eq_true rfl) (Nat.le_of_ble_eq_true rfl) (Nat.le_of_ble_eq_true rfl) pu_V dX11_control_89 (fun _ σ1 => ?_)
    refine g_iconst (v := 1) dX11_control_92 (by decide) ?_
    exact g_zreturn rfl (by decide +kernel) dX11_control_93
  refine g_case hx (t := 94) (by decide +kernel) ?_ (fun hx => ?_)
  · refine g_iconst (v := 1) dX11_control_94 (by decide) ?_
    exact g_zreturn rfl (by decide +kernel) dX11_control_95
  refine g_case hx (t := 96) (by decide +kernel) ?_ (fun hx => ?_)
  · refine G.sub [0, 1, 2] rfl ?_
    exact gX11_control_p96 _ _ _ _
  refine g_case hx (t := 96) (by decide +kernel) ?_ (fun hx => ?_)
  · refine G.sub [0, 1, 2] rfl ?_
    exact gX11_control_p96 _ _ _ _
  refine g_case hx (t := 96) (by decide +kernel) ?_ (fun hx => ?_)
  · refine G.sub [0, 1, 2] rfl ?_
    exact gX11_control_p96 _ _ _ _
  refine g_case hx (t := 104) (by decide +kernel) ?_ (fun hx => ?_)
  · refine g_aload_n 0 0 dX11_control_104 rfl rfl ?_
    refine g_callVT (fc := fun sς => Chk_otherPart sς x0 ) (ci := 11) (as := []) rfl rfl rfl q1861 qs86 q1859 mdX11_197 (ctX11_otherPart x0 ) rfl (Nat.le_of_ble_eq_true rfl) (Nat.le_of_ble_eq_true rfl) (Nat.le_of_ble_eq_true rfl) pu_V (by decide) dX11_control_105 (fun _ σ2 => ?_)
    refine g_iconst (v := 1) dX11_control_108 (by decide) ?_
    exact g_zreturn rfl (by decide +kernel) dX11_control_109
  refine g_case hx (t := 110) (by decide +kernel) ?_ (fun hx => ?_)
  · refine g_aload_n 0 0 dX11_control_110 rfl rfl ?_
    refine g_callVT (fc := fun sς => Chk_blockEnds sς x0 ) (ci := 11) (as := []) rfl rfl rfl q1904 qs91 q1902 mdX11_200 (ctX11_blockEnds x0 ) rfl (Nat.le_of_ble_eq_true rfl) (Nat.le_of_ble_eq_true rfl) (Nat.le_of_ble_eq_true rfl) pu_V (by decide) dX11_control_111 (fun _ σ3 => ?_)
    refine g_iconst (v := 1) dX11_control_114 (by decide) ?_
    exact g_zreturn rfl (by decide +kernel) dX11_control_115
  refine g_case hx (t := 116) (by decide +kernel) ?_ (fun hx => ?_)
  · refine g_aload_n 0 0 dX11_control_116 rfl rfl ?_
    refine g_aload_n 0 0 dX11_control_117 rfl rfl ?_
    refine g_iload_n 2 2 dX11_control_118 rfl rfl ?_
    refine g_callVT (fc := fun sς => Chk_blockOf sς x0 x2) (ci := 11) (as := [iv x2]) rfl rfl rfl q1916 qs94 q1914 mdX11_185 (ctX11_blockOf x0 x2) rfl (Nat.le_of_ble_eq_true rfl) (Nat.le_of_ble_eq_true rfl) (Nat.le_of_ble_eq_true rfl) pu_I (by decide) dX11_control_119 (fun r5 σ4 => ?_)
    refine g_callVT (fc := fun sς => Chk_takeLabel sς x0 r5) (ci := 11) (as := [iv r5]) rfl rfl rfl q1924 qs95 q1922 mdX11_188 (ctX11_takeLabel x0 r5) rfl (Nat.le_of_ble_eq_true rfl) (Nat.le_of_ble_eq_true rfl) (Nat.le_of_ble_eq_true rfl) pu_V (by decide) dX11_control_122 (fun _ σ6 => ?_)
    refine g_aload_n 0 0 dX11_control_125 rfl rfl ?_
    refine g_callV (fc := fun sς => Chk_die sς x0 ) (ci := 11) (as := []) rfl rfl rfl q1810 qs77 mdX11_191 (ctX11_die x0 ) rfl (Nat.le_of_ble_eq_true rfl) (Nat.le_of_ble_eq_true rfl) (Nat.le_of_ble_eq_true rfl) pu_V dX11_control_126 (fun _ σ7 => ?_)
    refine g_iconst (v := 1) dX11_control_129 (by decide) ?_
    exact g_zreturn rfl (by decide +kernel) dX11_control_130
  refine g_case hx (t := 131) (by decide +kernel) ?_ (fun hx => ?_)
  · refine g_aload_n 0 0 dX11_control_131 rfl rfl ?_
    refine g_iload_n 2 2 dX11_control_132 rfl rfl ?_
    refine g_callVT (fc := fun sς => Chk_blockOf sς x0 x2) (ci := 11) (as := [iv x2]) rfl rfl rfl q1916 qs94 q1914 mdX11_185 (ctX11_blockOf x0 x2) rfl (Nat.le_of_ble_eq_true rfl) (Nat.le_of_ble_eq_true rfl) (Nat.le_of_ble_eq_true rfl) pu_I (by decide) dX11_control_133 (fun r9 σ8 => ?_)
    refine g_istore dX11_control_136 (by decide) rfl ?_
    refine g_aload_n 0 1 dX11_control_138 rfl rfl ?_
    refine g_bipush (v := 127) dX11_control_139 (by decide) ?_
    refine g_callVT (fc := fun sς => Chk_take sς x0 (127 : Int32)) (ci := 11) (as := [iv (127 : Int32)]) rfl rfl rfl q1837 qs80 q1835 mdX11_149 (ctX11_take x0 (127 : Int32)) rfl (Nat.le_of_ble_eq_true rfl) (Nat.le_of_ble_eq_true rfl) (Nat.le_of_ble_eq_true rfl) pu_I (by decide) dX11_control_141 (fun r11 σ10 => ?_)
    refine g_pop dX11_control_144 rfl ?_
    refine g_aload_n 0 1 dX11_control_145 rfl rfl ?_
    refine g_iload 0 dX11_control_146 rfl ?_
    refine g_callVT (fc := fun sς => Chk_takeLabel sς x0 r9) (ci := 11) (as := [iv r9]) rfl rfl rfl q1924 qs95 q1922 mdX11_188 (ctX11_takeLabel x0 r9) rfl (Nat.le_of_ble_eq_true rfl) (Nat.le_of_ble_eq_true rfl) (Nat.le_of_ble_eq_true rfl) pu_V (by decide) dX11_control_148 (fun _ σ12 => ?_)
    refine g_aload_n 0 1 dX11_control_151 rfl rfl ?_
    refine g_iload 0 dX11_control_152 rfl ?_
    refine g_callVT (fc := fun sς => Chk_giveLabel sς x0 r9) (ci := 11) (as := [iv r9]) rfl rfl rfl q1937 qs98 q1935 mdX11_203 (ctX11_giveLabel x0 r9) rfl (Nat.le_of_ble_eq_true rfl) (Nat.le_of_ble_eq_true rfl) (Nat.le_of_ble_eq_true rfl) pu_V (by decide) dX11_control_154 (fun _ σ13 => ?_)
    refine g_iconst (v := 1) dX11_control_157 (by decide) ?_
    exact g_zreturn rfl (by decide +kernel) dX11_control_158
  refine g_case hx (t := 159) (by decide +kernel) ?_ (fun hx => ?_)
  · refine g_aload_n 0 0 dX11_control_159 rfl rfl ?_
    refine g_iload_n 2 2 dX11_control_160 rfl rfl ?_
    refine g_callVT (fc := fun sς => Chk_branches sς x0 x2) (ci := 11) (as := [iv x2]) rfl rfl rfl q1941 qs99 q1939 mdX11_206 (ctX11_branches x0 x2) rfl (Nat.le_of_ble_eq_true rfl) (Nat.le_of_ble_eq_true rfl) (Nat.le_of_ble_eq_true rfl) pu_V (by decide) dX11_control_161 (fun _ σ14 => ?_)
    refine g_iconst (v := 1) dX11_control_164 (by decide) ?_
    exact g_zreturn rfl (by decide +kernel) dX11_control_165
  refine g_case hx (t := 166) (by decide +kernel) ?_ (fun hx => ?_)
  · refine g_aload_n 0 0 dX11_control_166 rfl rfl ?_
    refine g_iconst (v := 0) dX11_control_167 (by decide) ?_
    refine g_callVT (fc := fun sς => Chk_takeLabel sς x0 (0 : Int32)) (ci := 11) (as := [iv (0 : Int32)]) rfl rfl rfl q1924 qs95 q1922 mdX11_188 (ctX11_takeLabel x0 (0 : Int32)) rfl (Nat.le_of_ble_eq_true rfl) (Nat.le_of_ble_eq_true rfl) (Nat.le_of_ble_eq_true rfl) pu_V (by decide) dX11_control_168 (fun _ σ15 => ?_)
    refine g_aload_n 0 0 dX11_control_171 rfl rfl ?_
    refine g_callV (fc := fun sς => Chk_die sς x0 ) (ci := 11) (as := []) rfl rfl rfl q1810 qs77 mdX11_191 (ctX11_die x0 ) rfl (Nat.le_of_ble_eq_true rfl) (Nat.le_of_ble_eq_true rfl) (Nat.le_of_ble_eq_true rfl) pu_V dX11_control_172 (fun _ σ16 => ?_)
    refine g_iconst (v := 1) dX11_control_175 (by decide) ?_
    exact g_zreturn rfl (by decide +kernel) dX11_control_176
  refine g_case hx (t := 177) (by decide +kernel) ?_ (fun hx => ?_)
  · refine g_aload_n 0 0 dX11_control_177 rfl rfl ?_
    refine g_aload_n 0 0 dX11_control_178 rfl rfl ?_
    refine g_aload_n 0 0 dX11_control_179 rfl rfl ?_
    refine g_getR fdX11_44 dX11_control_180 ?_
    refine g_getR fdX11_209 dX11_control_183 ?_
    refine g_iload_n 2 2 dX11_control_186 rfl rfl ?_
    refine g_callVT (fc := fun sς => Chk_named sς x0 (gR σ (gR σ x0 1) 0) x2) (ci := 11) (as := [av (gR σ (gR σ x0 1) 0), iv x2]) rfl rfl rfl q1945 qs100 q1943 mdX11_214 (ctX11_named x0 (gR σ (gR σ x0 1) 0) x2) rfl (Nat.le_of_ble_eq_true rfl) (Nat.le_of_ble_eq_true rfl) (Nat.le_of_ble_eq_true rfl) pu_I (by decide) dX11_control_187 (fun r18 σ17 => ?_)
    refine g_callVT (fc := fun sς => Chk_calls sς x0 r18) (ci := 11) (as := [iv r18]) rfl rfl rfl q1949 qs101 q1947 mdX11_218 (ctX11_calls x0 r18) rfl (Nat.le_of_ble_eq_true rfl) (Nat.le_of_ble_eq_true rfl) (Nat.le_of_ble_eq_true rfl) pu_V (by decide) dX11_control_190 (fun _ σ19 => ?_)
    refine g_iconst (v := 1) dX11_control_193 (by decide) ?_
    exact g_zreturn rfl (by decide +kernel) dX11_control_194
  refine g_case hx (t := 195) (by decide +kernel) ?_ (fun hx => ?_)
  · refine g_aload_n 0 0 dX11_control_195 rfl rfl ?_
    refine g_iload_n 2 2 dX11_control_196 rfl rfl ?_
    refine g_callVT (fc := fun sς => Chk_typeOf sς x0 x2) (ci := 11) (as := [iv x2]) rfl rfl rfl q1953 qs102 q1951 mdX11_221 (ctX11_typeOf x0 x2) rfl (Nat.le_of_ble_eq_true rfl) (Nat.le_of_ble_eq_true rfl) (Nat.le_of_ble_eq_true rfl) pu_I (by decide) dX11_control_197 (fun r21 σ20 => ?_)
    refine g_istore dX11_control_200 (by decide) rfl ?_
    refine g_aload_n 0 1 dX11_control_202 rfl rfl ?_
    refine g_aload_n 0 1 dX11_control_203 rfl rfl ?_
    refine g_aload_n 0 1 dX11_control_204 rfl rfl ?_
    refine g_getR fdX11_44 dX11_control_205 ?_
    refine g_getR fdX11_224 dX11_control_208 ?_
    refine g_iload_n 3 4 dX11_control_211 rfl rfl ?_
    refine g_callVT (fc := fun sς => Chk_named sς x0 (gR σ20 (gR σ20 x0 1) 2) x3) (ci := 11) (as := [av (gR σ20 (gR σ20 x0 1) 2), iv x3]) rfl rfl rfl q1945 qs100 q1943 mdX11_214 (ctX11_named x0 (gR σ20 (gR σ20 x0 1) 2) x3) rfl (Nat.le_of_ble_eq_true rfl) (Nat.le_of_ble_eq_true rfl) (Nat.le_of_ble_eq_true rfl) pu_I (by decide) dX11_control_212 (fun r23 σ22 => ?_)
    refine g_bipush (v := 112) dX11_control_215 (by decide) ?_
    refine g_icmp_ne 224 dX11_control_217 (by decide) ?_ ?_
    · refine g_iconst (v := 0) dX11_control_224 (by decide) ?_
      refine G.sub [1, 0] rfl ?_
      exact gX11_control_p225 _ _ _ _ _
    · refine g_iconst (v := 1) dX11_control_220 (by decide) ?_
      refine g_goto 225 dX11_control_221 (by decide) ?_
      refine G.sub [1, 0] rfl ?_
      exact gX11_control_p225 _ _ _ _ _
  refine g_dflt (t := 245) (tswT_d (by decide +kernel) (by decide +kernel) hx) ?_
  refine g_iconst (v := 0) dX11_control_245 (by decide) ?_
  exact g_zreturn rfl (by decide +kernel) dX11_control_246
theorem V.dX11_chosen_0 : decode cX11_chosen 0 = .ok (.aload_n 0, 1) := by decide +kernel
theorem V.dX11_chosen_1 : decode cX11_chosen 1 = .ok (.bipush 127, 2) := by decide +kernel
theorem V.dX11_chosen_3 : decode cX11_chosen 3 = .ok (.invokevirtual 149, 3) := by decide +kernel
theorem V.dX11_chosen_6 : decode cX11_chosen 6 = .ok (.pop, 1) := by decide +kernel
theorem V.dX11_chosen_7 : decode cX11_chosen 7 = .ok (.aload_n 0, 1) := by decide +kernel
theorem V.dX11_chosen_8 : decode cX11_chosen 8 = .ok (.invokevirtual 146, 3) := by decide +kernel
theorem V.dX11_chosen_11 : decode cX11_chosen 11 = .ok (.istore_n 1, 1) := by decide +kernel
theorem V.dX11_chosen_12 : decode cX11_chosen 12 = .ok (.aload_n 0, 1) := by decide +kernel
theorem V.dX11_chosen_13 : decode cX11_chosen 13 = .ok (.invokevirtual 146, 3) := by decide +kernel
theorem V.dX11_chosen_16 : decode cX11_chosen 16 = .ok (.istore_n 2, 1) := by decide +kernel
theorem V.dX11_chosen_17 : decode cX11_chosen 17 = .ok (.aload_n 0, 1) := by decide +kernel
theorem V.dX11_chosen_18 : decode cX11_chosen 18 = .ok (.iload_n 1, 1) := by decide +kernel
theorem V.dX11_chosen_19 : decode cX11_chosen 19 = .ok (.invokestatic 55, 3) := by decide +kernel
theorem V.dX11_chosen_22 : decode cX11_chosen 22 = .ok (.ifCond .ne 14, 3) := by decide +kernel
theorem V.dX11_chosen_25 : decode cX11_chosen 25 = .ok (.iload_n 2, 1) := by decide +kernel
theorem V.dX11_chosen_26 : decode cX11_chosen 26 = .ok (.invokestatic 55, 3) := by decide +kernel
theorem V.dX11_chosen_29 : decode cX11_chosen 29 = .ok (.ifCond .ne 7, 3) := by decide +kernel
theorem V.dX11_chosen_32 : decode cX11_chosen 32 = .ok (.iconst 1, 1) := by decide +kernel
theorem V.dX11_chosen_33 : decode cX11_chosen 33 = .ok (.goto 4, 3) := by decide +kernel
theorem V.dX11_chosen_36 : decode cX11_chosen 36 = .ok (.iconst 0, 1) := by decide +kernel
theorem V.dX11_chosen_37 : decode cX11_chosen 37 = .ok (.bipush 7, 2) := by decide +kernel
theorem V.dX11_chosen_39 : decode cX11_chosen 39 = .ok (.invokevirtual 118, 3) := by decide +kernel
theorem V.dX11_chosen_42 : decode cX11_chosen 42 = .ok (.aload_n 0, 1) := by decide +kernel
theorem V.dX11_chosen_43 : decode cX11_chosen 43 = .ok (.iload_n 1, 1) := by decide +kernel
theorem V.dX11_chosen_44 : decode cX11_chosen 44 = .ok (.iload_n 2, 1) := by decide +kernel
theorem V.dX11_chosen_45 : decode cX11_chosen 45 = .ok (.if_icmp .eq 11, 3) := by decide +kernel
theorem V.dX11_chosen_48 : decode cX11_chosen 48 = .ok (.iload_n 1, 1) := by decide +kernel
theorem V.dX11_chosen_49 : decode cX11_chosen 49 = .ok (.ifCond .eq 7, 3) := by decide +kernel
theorem V.dX11_chosen_52 : decode cX11_chosen 52 = .ok (.iload_n 2, 1) := by decide +kernel
theorem V.dX11_chosen_53 : decode cX11_chosen 53 = .ok (.ifCond .ne 7, 3) := by decide +kernel
theorem V.dX11_chosen_56 : decode cX11_chosen 56 = .ok (.iconst 1, 1) := by decide +kernel
theorem V.dX11_chosen_57 : decode cX11_chosen 57 = .ok (.goto 4, 3) := by decide +kernel
theorem V.dX11_chosen_60 : decode cX11_chosen 60 = .ok (.iconst 0, 1) := by decide +kernel
theorem V.dX11_chosen_61 : decode cX11_chosen 61 = .ok (.iconst 1, 1) := by decide +kernel
theorem V.dX11_chosen_62 : decode cX11_chosen 62 = .ok (.invokevirtual 118, 3) := by decide +kernel
theorem V.dX11_chosen_65 : decode cX11_chosen 65 = .ok (.aload_n 0, 1) := by decide +kernel
theorem V.dX11_chosen_66 : decode cX11_chosen 66 = .ok (.iload_n 1, 1) := by decide +kernel
theorem V.dX11_chosen_67 : decode cX11_chosen 67 = .ok (.ifCond .ne 7, 3) := by decide +kernel
theorem V.dX11_chosen_70 : decode cX11_chosen 70 = .ok (.iload_n 2, 1) := by decide +kernel
theorem V.dX11_chosen_71 : decode cX11_chosen 71 = .ok (.goto 4, 3) := by decide +kernel
theorem V.dX11_chosen_74 : decode cX11_chosen 74 = .ok (.iload_n 1, 1) := by decide +kernel
theorem V.dX11_chosen_75 : decode cX11_chosen 75 = .ok (.invokevirtual 152, 3) := by decide +kernel
theorem V.dX11_chosen_78 : decode cX11_chosen 78 = .ok (.return_, 1) := by decide +kernel
/-! ModuleEngine$Checker.chosen()V -/
def V.Chk_chosen_p75  (σ : HS) (s0 : Int32) (s1 : Nat) : Option ((Nat ⊕ Unit) × HS) :=
  ck (tg σ s1 = 12) <| clT (Chk_give σ s1 s0) fun _ σ1 =>
  some (.inr (), σ1)
theorem V.gX11_chosen_p75 {X : CX}  (σ : HS) (s0 : Int32) (s1 : Nat) : G X RX11 "chosen" cX11_chosen 3 none 10 171 (enX enV (cxz X)) 75 [] [iv s0, av s1] σ (Chk_chosen_p75 σ s0 s1) := by
  unfold Chk_chosen_p75
  refine g_callVT (fc := fun sς => Chk_give sς s1 s0) (ci := 11) (as := [iv s0]) rfl rfl rfl q1857 qs85 q1855 mdX11_152 (ctX11_give s1 s0) rfl (Nat.le_of_ble_eq_true rfl) (Nat.le_of_ble_eq_true rfl) (Nat.le_of_ble_eq_true rfl) pu_V (by decide) dX11_chosen_75 (fun _ σ1 => ?_)
  exact g_return rfl dX11_chosen_78
def V.Chk_chosen_p61  (σ : HS) (x0 : Nat) (x1 : Int32) (x2 : Int32) (s0 : Int32) (s1 : Nat) : Option ((Nat ⊕ Unit) × HS) :=
  ck (tg σ s1 = 12) <| clT (Chk_need σ s1 s0 (1 : Int32)) fun _ σ1 =>
  if x1 = 0 then (
    Chk_chosen_p75 σ1 x2 x0)
  else (
    Chk_chosen_p75 σ1 x1 x0)
theorem V.gX11_chosen_p61 {X : CX}  (σ : HS) (x0 : Nat) (x1 : Int32) (x2 : Int32) (s0 : Int32) (s1 : Nat) : G X RX11 "chosen" cX11_chosen 3 none 10 171 (enX enV (cxz X)) 61 [(0, av x0), (1, iv x1), (2, iv x2)] [iv s0, av s1] σ (Chk_chosen_p61 σ x0 x1 x2 s0 s1) := by
  unfold Chk_chosen_p61
  refine g_iconst (v := 1) dX11_chosen_61 (by decide) ?_
  refine g_callVT (fc := fun sς => Chk_need sς s1 s0 (1 : Int32)) (ci := 11) (as := [iv s0, iv (1 : Int32)]) rfl rfl rfl q1746 qs73 q1744 mdX11_118 (ctX11_need s1 s0 (1 : Int32)) rfl (Nat.le_of_ble_eq_true rfl) (Nat.le_of_ble_eq_true rfl) (Nat.le_of_ble_eq_true rfl) pu_V (by decide) dX11_chosen_62 (fun _ σ1 => ?_)
  refine g_aload_n 0 0 dX11_chosen_65 rfl rfl ?_
  refine g_iload_n 1 1 dX11_chosen_66 rfl rfl ?_
  refine g_if_ne 74 dX11_chosen_67 (by decide) ?_ ?_
  · refine g_iload_n 1 1 dX11_chosen_74 rfl rfl ?_
    refine G.sub [] rfl ?_
    exact gX11_chosen_p75 _ _ _
  · refine g_iload_n 2 2 dX11_chosen_70 rfl rfl ?_
    refine g_goto 75 dX11_chosen_71 (by decide) ?_
    refine G.sub [] rfl ?_
    exact gX11_chosen_p75 _ _ _
def V.Chk_chosen_p56  (σ : HS) (x0 : Nat) (x1 : Int32) (x2 : Int32) (s0 : Nat) : Option ((Nat ⊕ Unit) × HS) :=
  Chk_chosen_p61 σ x0 x1 x2 (1 : Int32) s0
theorem V.gX11_chosen_p56 {X : CX}  (σ : HS) (x0 : Nat) (x1 : Int32) (x2 : Int32) (s0 : Nat) : G X RX11 "chosen" cX11_chosen 3 none 10 171 (enX enV (cxz X)) 56 [(0, av x0), (1, iv x1), (2, iv x2)] [av s0] σ (Chk_chosen_p56 σ x0 x1 x2 s0) := by
  unfold Chk_chosen_p56
  refine g_iconst (v := 1) dX11_chosen_56 (by decide) ?_
  refine g_goto 61 dX11_chosen_57 (by decide) ?_
  exact gX11_chosen_p61 _ _ _ _ _ _
def V.Chk_chosen_p37  (σ : HS) (x0 : Nat) (x1 : Int32) (x2 : Int32) (s0 : Int32) (s1 : Nat) : Option ((Nat ⊕ Unit) × HS) :=
  ck (tg σ s1 = 12) <| clT (Chk_need σ s1 s0 (7 : Int32)) fun _ σ1 =>
  if x1 = x2 then (
    Chk_chosen_p56 σ1 x0 x1 x2 x0)
  else (
    if x1 = 0 then (
      Chk_chosen_p56 σ1 x0 x1 x2 x0)
    else (
      if x2 = 0 then (
        Chk_chosen_p56 σ1 x0 x1 x2 x0)
      else (
        Chk_chosen_p61 σ1 x0 x1 x2 (0 : Int32) x0)))
theorem V.gX11_chosen_p37 {X : CX}  (σ : HS) (x0 : Nat) (x1 : Int32) (x2 : Int32) (s0 : Int32) (s1 : Nat) : G X RX11 "chosen" cX11_chosen 3 none 10 171 (enX enV (cxz X)) 37 [(0, av x0), (1, iv x1), (2, iv x2)] [iv s0, av s1] σ (Chk_chosen_p37 σ x0 x1 x2 s0 s1) := by
  unfold Chk_chosen_p37
  refine g_bipush (v := 7) dX11_chosen_37 (by decide) ?_
  refine g_callVT (fc := fun sς => Chk_need sς s1 s0 (7 : Int32)) (ci := 11) (as := [iv s0, iv (7 : Int32)]) rfl rfl rfl q1746 qs73 q1744 mdX11_118 (ctX11_need s1 s0 (7 : Int32)) rfl (Nat.le_of_ble_eq_true rfl) (Nat.le_of_ble_eq_true rfl) (Nat.le_of_ble_eq_true rfl) pu_V (by decide) dX11_chosen_39 (fun _ σ1 => ?_)
  refine g_aload_n 0 0 dX11_chosen_42 rfl rfl ?_
  refine g_iload_n 1 1 dX11_chosen_43 rfl rfl ?_
  refine g_iload_n 2 2 dX11_chosen_44 rfl rfl ?_
  refine g_icmp_eq 56 dX11_chosen_45 (by decide) ?_ ?_
  · exact gX11_chosen_p56 _ _ _ _ _
  · refine g_iload_n 1 1 dX11_chosen_48 rfl rfl ?_
    refine g_if_eq 56 dX11_chosen_49 (by decide) ?_ ?_
    · exact gX11_chosen_p56 _ _ _ _ _
    · refine g_iload_n 2 2 dX11_chosen_52 rfl rfl ?_
      refine g_if_ne 60 dX11_chosen_53 (by decide) ?_ ?_
      · refine g_iconst (v := 0) dX11_chosen_60 (by decide) ?_
        exact gX11_chosen_p61 _ _ _ _ _ _
      · exact gX11_chosen_p56 _ _ _ _ _
def V.Chk_chosen_p36  (σ : HS) (x0 : Nat) (x1 : Int32) (x2 : Int32) (s0 : Nat) : Option ((Nat ⊕ Unit) × HS) :=
  Chk_chosen_p37 σ x0 x1 x2 (0 : Int32) s0
theorem V.gX11_chosen_p36 {X : CX}  (σ : HS) (x0 : Nat) (x1 : Int32) (x2 : Int32) (s0 : Nat) : G X RX11 "chosen" cX11_chosen 3 none 10 171 (enX enV (cxz X)) 36 [(0, av x0), (1, iv x1), (2, iv x2)] [av s0] σ (Chk_chosen_p36 σ x0 x1 x2 s0) := by
  unfold Chk_chosen_p36
  refine g_iconst (v := 0) dX11_chosen_36 (by decide) ?_
  exact gX11_chosen_p37 _ _ _ _ _ _
def V.Chk_chosen (σ : HS) (x0 : Nat) : Option ((Nat ⊕ Unit) × HS) :=
  ck (tg σ x0 = 12) <| clT (Chk_take σ x0 (127 : Int32)) fun r2 σ1 =>
  ck (tg σ1 x0 = 12) <| clT (Chk_takeAny σ1 x0 ) fun r4 σ3 =>
  ck (tg σ3 x0 = 12) <| clT (Chk_takeAny σ3 x0 ) fun r6 σ5 =>
  cl (Chk_isReference σ5 r4) fun r8 σ7 =>
  if r8 = 0 then (
    cl (Chk_isReference σ7 r6) fun r10 σ9 =>
    if r10 = 0 then (
      Chk_chosen_p37 σ9 x0 r4 r6 (1 : Int32) x0)
    else (
      Chk_chosen_p36 σ9 x0 r4 r6 x0))
  else (
    Chk_chosen_p36 σ7 x0 r4 r6 x0)
theorem V.ctX11_chosen (x0 : Nat) : Ct yX11_chosen  cX11_chosen 3 none 10 171 eXV [av x0] (fun σ => Chk_chosen σ x0) := by
  refine Ct.of (own := RX11) (nm := "chosen") (desc := "()V") rfl (by decide) (Nat.le_of_ble_eq_true rfl) (by decide) (fun X σ => ?_)
  show G X RX11 "chosen" cX11_chosen 3 none 10 171 (enX enV (cxz X)) 0 [(0, av x0)] [] σ (Chk_chosen σ x0)
  unfold Chk_chosen
  refine g_aload_n 0 0 dX11_chosen_0 rfl rfl ?_
  refine g_bipush (v := 127) dX11_chosen_1 (by decide) ?_
  refine g_callVT (fc := fun sς => Chk_take sς x0 (127 : Int32)) (ci := 11) (as := [iv (127 : Int32)]) rfl rfl rfl q1837 qs80 q1835 mdX11_149 (ctX11_take x0 (127 : Int32)) rfl (Nat.le_of_ble_eq_true rfl) (Nat.le_of_ble_eq_true rfl) (Nat.le_of_ble_eq_true rfl) pu_I (by decide) dX11_chosen_3 (fun r2 σ1 => ?_)
  refine g_pop dX11_chosen_6 rfl ?_
  refine g_aload_n 0 0 dX11_chosen_7 rfl rfl ?_
  refine g_callVT (fc := fun sς => Chk_takeAny sς x0 ) (ci := 11) (as := []) rfl rfl rfl q1841 qs81 q1839 mdX11_146 (ctX11_takeAny x0 ) rfl (Nat.le_of_ble_eq_true rfl) (Nat.le_of_ble_eq_true rfl) (Nat.le_of_ble_eq_true rfl) pu_I (by decide) dX11_chosen_8 (fun r4 σ3 => ?_)
  refine g_istore_n 1 dX11_chosen_11 rfl (by decide) rfl ?_
  refine g_aload_n 0 1 dX11_chosen_12 rfl rfl ?_
  refine g_callVT (fc := fun sς => Chk_takeAny sς x0 ) (ci := 11) (as := []) rfl rfl rfl q1841 qs81 q1839 mdX11_146 (ctX11_takeAny x0 ) rfl (Nat.le_of_ble_eq_true rfl) (Nat.le_of_ble_eq_true rfl) (Nat.le_of_ble_eq_true rfl) pu_I (by decide) dX11_chosen_13 (fun r6 σ5 => ?_)
  refine g_istore_n 2 dX11_chosen_16 rfl (by decide) rfl ?_
  refine g_aload_n 0 2 dX11_chosen_17 rfl rfl ?_
  refine g_iload_n 1 1 dX11_chosen_18 rfl rfl ?_
  refine g_callS (fc := fun sς => Chk_isReference sς r4) (as := [iv r4]) q1802 mdX11_55 (ctX11_isReference r4) rfl (Nat.le_of_ble_eq_true rfl) (Nat.le_of_ble_eq_true rfl) (Nat.le_of_ble_eq_true rfl) pu_I dX11_chosen_19 (fun r8 σ7 => ?_)
  refine g_if_ne 36 dX11_chosen_22 (by decide) ?_ ?_
  · refine G.sub [2, 1, 0] rfl ?_
    exact gX11_chosen_p36 _ _ _ _ _
  · refine g_iload_n 2 0 dX11_chosen_25 rfl rfl ?_
    refine g_callS (fc := fun sς => Chk_isReference sς r6) (as := [iv r6]) q1802 mdX11_55 (ctX11_isReference r6) rfl (Nat.le_of_ble_eq_true rfl) (Nat.le_of_ble_eq_true rfl) (Nat.le_of_ble_eq_true rfl) pu_I dX11_chosen_26 (fun r10 σ9 => ?_)
    refine g_if_ne 36 dX11_chosen_29 (by decide) ?_ ?_
    · refine G.sub [2, 1, 0] rfl ?_
      exact gX11_chosen_p36 _ _ _ _ _
    · refine g_iconst (v := 1) dX11_chosen_32 (by decide) ?_
      refine g_goto 37 dX11_chosen_33 (by decide) ?_
      refine G.sub [2, 1, 0] rfl ?_
      exact gX11_chosen_p37 _ _ _ _ _ _
theorem V.dX11_turn_0 : decode cX11_turn 0 = .ok (.aload_n 0, 1) := by decide +kernel
theorem V.dX11_turn_1 : decode cX11_turn 1 = .ok (.iload_n 1, 1) := by decide +kernel
theorem V.dX11_turn_2 : decode cX11_turn 2 = .ok (.invokevirtual 149, 3) := by decide +kernel
theorem V.dX11_turn_5 : decode cX11_turn 5 = .ok (.pop, 1) := by decide +kernel
theorem V.dX11_turn_6 : decode cX11_turn 6 = .ok (.aload_n 0, 1) := by decide +kernel
theorem V.dX11_turn_7 : decode cX11_turn 7 = .ok (.iload_n 2, 1) := by decide +kernel
theorem V.dX11_turn_8 : decode cX11_turn 8 = .ok (.invokevirtual 152, 3) := by decide +kernel
theorem V.dX11_turn_11 : decode cX11_turn 11 = .ok (.return_, 1) := by decide +kernel
/-! ModuleEngine$Checker.turn(II)V -/
def V.Chk_turn (σ : HS) (x0 : Nat) (x1 : Int32) (x2 : Int32) : Option ((Nat ⊕ Unit) × HS) :=
  ck (tg σ x0 = 12) <| clT (Chk_take σ x0 x1) fun r2 σ1 =>
  ck (tg σ1 x0 = 12) <| clT (Chk_give σ1 x0 x2) fun _ σ3 =>
  some (.inr (), σ3)
theorem V.ctX11_turn (x0 : Nat) (x1 : Int32) (x2 : Int32) : Ct yX11_turn  cX11_turn 3 none 10 171 eXV [av x0, iv x1, iv x2] (fun σ => Chk_turn σ x0 x1 x2) := by
  refine Ct.of (own := RX11) (nm := "turn") (desc := "(II)V") rfl (by decide) (Nat.le_of_ble_eq_true rfl) (by decide) (fun X σ => ?_)
  show G X RX11 "turn" cX11_turn 3 none 10 171 (enX enV (cxz X)) 0 [(0, av x0), (1, iv x1), (2, iv x2)] [] σ (Chk_turn σ x0 x1 x2)
  unfold Chk_turn
  refine g_aload_n 0 0 dX11_turn_0 rfl rfl ?_
  refine g_iload_n 1 1 dX11_turn_1 rfl rfl ?_
  refine g_callVT (fc := fun sς => Chk_take sς x0 x1) (ci := 11) (as := [iv x1]) rfl rfl rfl q1837 qs80 q1835 mdX11_149 (ctX11_take x0 x1) rfl (Nat.le_of_ble_eq_true rfl) (Nat.le_of_ble_eq_true rfl) (Nat.le_of_ble_eq_true rfl) pu_I (by decide) dX11_turn_2 (fun r2 σ1 => ?_)
  refine g_pop dX11_turn_5 rfl ?_
  refine g_aload_n 0 0 dX11_turn_6 rfl rfl ?_
  refine g_iload_n 2 2 dX11_turn_7 rfl rfl ?_
  refine g_callVT (fc := fun sς => Chk_give sς x0 x2) (ci := 11) (as := [iv x2]) rfl rfl rfl q1857 qs85 q1855 mdX11_152 (ctX11_give x0 x2) rfl (Nat.le_of_ble_eq_true rfl) (Nat.le_of_ble_eq_true rfl) (Nat.le_of_ble_eq_true rfl) pu_V (by decide) dX11_turn_8 (fun _ σ3 => ?_)
  exact g_return rfl dX11_turn_11
theorem V.dX11_join_0 : decode cX11_join 0 = .ok (.aload_n 0, 1) := by decide +kernel
theorem V.dX11_join_1 : decode cX11_join 1 = .ok (.iload_n 1, 1) := by decide +kernel
theorem V.dX11_join_2 : decode cX11_join 2 = .ok (.invokevirtual 149, 3) := by decide +kernel
theorem V.dX11_join_5 : decode cX11_join 5 = .ok (.pop, 1) := by decide +kernel
theorem V.dX11_join_6 : decode cX11_join 6 = .ok (.aload_n 0, 1) := by decide +kernel
theorem V.dX11_join_7 : decode cX11_join 7 = .ok (.iload_n 1, 1) := by decide +kernel
theorem V.dX11_join_8 : decode cX11_join 8 = .ok (.iload_n 2, 1) := by decide +kernel
theorem V.dX11_join_9 : decode cX11_join 9 = .ok (.invokevirtual 161, 3) := by decide +kernel
theorem V.dX11_join_12 : decode cX11_join 12 = .ok (.return_, 1) := by decide +kernel
theorem V.mdX11_161 : MD RX11 161 yX11_turn cX11_turn 3 none 2 := ⟨Or.inl q1967, q371, q1970, by decide, by decide, by decide +kernel⟩
/-! ModuleEngine$Checker.join(II)V -/
def V.Chk_join (σ : HS) (x0 : Nat) (x1 : Int32) (x2 : Int32) : Option ((Nat ⊕ Unit) × HS) :=
  ck (tg σ x0 = 12) <| clT (Chk_take σ x0 x1) fun r2 σ1 =>
  ck (tg σ1 x0 = 12) <| clT (Chk_turn σ1 x0 x1 x2) fun _ σ3 =>
  some (.inr (), σ3)
theorem V.ctX11_join (x0 : Nat) (x1 : Int32) (x2 : Int32) : Ct yX11_join  cX11_join 3 none 11 193 eXV [av x0, iv x1, iv x2] (fun σ => Chk_join σ x0 x1 x2) := by
  refine Ct.of (own := RX11) (nm := "join") (desc := "(II)V") rfl (by decide) (Nat.le_of_ble_eq_true rfl) (by decide) (fun X σ => ?_)
  show G X RX11 "join" cX11_join 3 none 11 193 (enX enV (cxz X)) 0 [(0, av x0), (1, iv x1), (2, iv x2)] [] σ (Chk_join σ x0 x1 x2)
  unfold Chk_join
  refine g_aload_n 0 0 dX11_join_0 rfl rfl ?_
  refine g_iload_n 1 1 dX11_join_1 rfl rfl ?_
  refine g_callVT (fc := fun sς => Chk_take sς x0 x1) (ci := 11) (as := [iv x1]) rfl rfl rfl q1837 qs80 q1835 mdX11_149 (ctX11_take x0 x1) rfl (Nat.le_of_ble_eq_true rfl) (Nat.le_of_ble_eq_true rfl) (Nat.le_of_ble_eq_true rfl) pu_I (by decide) dX11_join_2 (fun r2 σ1 => ?_)
  refine g_pop dX11_join_5 rfl ?_
  refine g_aload_n 0 0 dX11_join_6 rfl rfl ?_
  refine g_iload_n 1 1 dX11_join_7 rfl rfl ?_
  refine g_iload_n 2 2 dX11_join_8 rfl rfl ?_
  refine g_callVT (fc := fun sς => Chk_turn sς x0 x1 x2) (ci := 11) (as := [iv x1, iv x2]) rfl rfl rfl q1969 qs106 q1967 mdX11_161 (ctX11_turn x0 x1 x2) rfl (Nat.le_of_ble_eq_true rfl) (Nat.le_of_ble_eq_true rfl) (Nat.le_of_ble_eq_true rfl) pu_V (by decide) dX11_join_9 (fun _ σ3 => ?_)
  exact g_return rfl dX11_join_12
theorem V.dX11_localType_0 : decode cX11_localType 0 = .ok (.iload_n 1, 1) := by decide +kernel
theorem V.dX11_localType_1 : decode cX11_localType 1 = .ok (.invokestatic 114, 3) := by decide +kernel
theorem V.dX11_localType_4 : decode cX11_localType 4 = .ok (.lstore_n 2, 1) := by decide +kernel
theorem V.dX11_localType_5 : decode cX11_localType 5 = .ok (.iconst 0, 1) := by decide +kernel
theorem V.dX11_localType_6 : decode cX11_localType 6 = .ok (.istore 4, 2) := by decide +kernel
theorem V.dX11_localType_8 : decode cX11_localType 8 = .ok (.iload 4, 2) := by decide +kernel
theorem V.dX11_localType_10 : decode cX11_localType 10 = .ok (.aload_n 0, 1) := by decide +kernel
theorem V.dX11_localType_11 : decode cX11_localType 11 = .ok (.getfield 31, 3) := by decide +kernel
theorem V.dX11_localType_14 : decode cX11_localType 14 = .ok (.invokevirtual 107, 3) := by decide +kernel
theorem V.dX11_localType_17 : decode cX11_localType 17 = .ok (.if_icmp .ge 51, 3) := by decide +kernel
theorem V.dX11_localType_20 : decode cX11_localType 20 = .ok (.lload_n 2, 1) := by decide +kernel
theorem V.dX11_localType_21 : decode cX11_localType 21 = .ok (.aload_n 0, 1) := by decide +kernel
theorem V.dX11_localType_22 : decode cX11_localType 22 = .ok (.getfield 31, 3) := by decide +kernel
theorem V.dX11_localType_25 : decode cX11_localType 25 = .ok (.iload 4, 2) := by decide +kernel
theorem V.dX11_localType_27 : decode cX11_localType 27 = .ok (.invokevirtual 111, 3) := by decide +kernel
theorem V.dX11_localType_30 : decode cX11_localType 30 = .ok (.invokestatic 114, 3) := by decide +kernel
theorem V.dX11_localType_33 : decode cX11_localType 33 = .ok (.lcmp, 1) := by decide +kernel
theorem V.dX11_localType_34 : decode cX11_localType 34 = .ok (.ifCond .ge 13, 3) := by decide +kernel
theorem V.dX11_localType_37 : decode cX11_localType 37 = .ok (.aload_n 0, 1) := by decide +kernel
theorem V.dX11_localType_38 : decode cX11_localType 38 = .ok (.getfield 28, 3) := by decide +kernel
theorem V.dX11_localType_41 : decode cX11_localType 41 = .ok (.iload 4, 2) := by decide +kernel
theorem V.dX11_localType_43 : decode cX11_localType 43 = .ok (.invokevirtual 111, 3) := by decide +kernel
theorem V.dX11_localType_46 : decode cX11_localType 46 = .ok (.ireturn, 1) := by decide +kernel
theorem V.dX11_localType_47 : decode cX11_localType 47 = .ok (.lload_n 2, 1) := by decide +kernel
theorem V.dX11_localType_48 : decode cX11_localType 48 = .ok (.aload_n 0, 1) := by decide +kernel
theorem V.dX11_localType_49 : decode cX11_localType 49 = .ok (.getfield 31, 3) := by decide +kernel
theorem V.dX11_localType_52 : decode cX11_localType 52 = .ok (.iload 4, 2) := by decide +kernel
theorem V.dX11_localType_54 : decode cX11_localType 54 = .ok (.invokevirtual 111, 3) := by decide +kernel
theorem V.dX11_localType_57 : decode cX11_localType 57 = .ok (.invokestatic 114, 3) := by decide +kernel
theorem V.dX11_localType_60 : decode cX11_localType 60 = .ok (.lsub, 1) := by decide +kernel
theorem V.dX11_localType_61 : decode cX11_localType 61 = .ok (.lstore_n 2, 1) := by decide +kernel
theorem V.dX11_localType_62 : decode cX11_localType 62 = .ok (.iinc 4 1, 3) := by decide +kernel
theorem V.dX11_localType_65 : decode cX11_localType 65 = .ok (.goto (-57), 3) := by decide +kernel
theorem V.dX11_localType_68 : decode cX11_localType 68 = .ok (.aload_n 0, 1) := by decide +kernel
theorem V.dX11_localType_69 : decode cX11_localType 69 = .ok (.bipush 12, 2) := by decide +kernel
theorem V.dX11_localType_71 : decode cX11_localType 71 = .ok (.invokevirtual 67, 3) := by decide +kernel
theorem V.dX11_localType_74 : decode cX11_localType 74 = .ok (.iconst 0, 1) := by decide +kernel
theorem V.dX11_localType_75 : decode cX11_localType 75 = .ok (.ireturn, 1) := by decide +kernel
/-! ModuleEngine$Checker.localType(I)I -/
def V.Chk_localType_p8  : Nat → HS → Nat → Int64 → Int32 → Option ((Nat ⊕ Int32) × HS)
  | 0, _, _, _, _ => none
  | n + 1, σ, x0, x2, x4 =>
    ck (tg σ x0 = 12) <|
    ck (tg σ (gR σ x0 10) = 4) <| cl (Row_size σ (gR σ x0 10) ) fun r2 σ1 =>
    if r2 ≤ x4 then (
      ck (tg σ1 x0 = 12) <| clT (Chk_stop σ1 x0 (12 : Int32)) fun _ σ3 =>
      some (.inr (0 : Int32), σ3))
    else (
      ck (tg σ1 x0 = 12) <|
      ck (tg σ1 (gR σ1 x0 10) = 4) <| cl (Row_at σ1 (gR σ1 x0 10) x4) fun r5 σ4 =>
      cl (Chk_wide σ4 r5) fun r7 σ6 =>
      if r7 ≤ x2 then (
        ck (tg σ6 x0 = 12) <|
        ck (tg σ6 (gR σ6 x0 10) = 4) <| cl (Row_at σ6 (gR σ6 x0 10) x4) fun r9 σ8 =>
        cl (Chk_wide σ8 r9) fun r11 σ10 =>
        bn (x2 - r11) fun y12 =>
        bn (x4 + (1 : Int32)) fun y13 =>
        Chk_localType_p8 n σ10 x0 y12 y13)
      else (
        ck (tg σ6 x0 = 12) <|
        ck (tg σ6 (gR σ6 x0 9) = 4) <| cl (Row_at σ6 (gR σ6 x0 9) x4) fun r15 σ14 =>
        some (.inr r15, σ14)))
theorem V.gX11_localType_p8 {X : CX}  : ∀ (n : Nat) (σ : HS) (x0 : Nat) (x2 : Int64) (x4 : Int32), G X RX11 "localType" cX11_localType 5 (some .int) 7 106 (enX enI (cxz X)) 8 [(0, av x0), (2, jv x2), (4, iv x4)] [] σ (Chk_localType_p8 n σ x0 x2 x4)
  | 0, σ, x0, x2, x4 => by rw [Chk_localType_p8]; exact G.nul
  | n + 1, σ, x0, x2, x4 => by
    rw [Chk_localType_p8]
    refine g_iload 2 dX11_localType_8 rfl ?_
    refine g_aload_n 0 0 dX11_localType_10 rfl rfl ?_
    refine g_getR fdX11_31 dX11_localType_11 ?_
    refine g_callV (fc := fun sς => Row_size sς (gR σ x0 10) ) (ci := 3) (as := []) rfl rfl rfl q1421 q1422 mdX11_107 (ctX3_size (gR σ x0 10) ) rfl (Nat.le_of_ble_eq_true rfl) (Nat.le_of_ble_eq_true rfl) (Nat.le_of_ble_eq_true rfl) pu_I dX11_localType_14 (fun r2 σ1 => ?_)
    refine g_icmp_ge 68 dX11_localType_17 (by decide) ?_ ?_
    · refine g_aload_n 0 0 dX11_localType_68 rfl rfl ?_
      refine g_bipush (v := 12) dX11_localType_69 (by decide) ?_
      refine g_callVT (fc := fun sς => Chk_stop sς x0 (12 : Int32)) (ci := 11) (as := [iv (12 : Int32)]) rfl rfl rfl q1750 qs74 q1748 mdX11_67 (ctX11_stop x0 (12 : Int32)) rfl (Nat.le_of_ble_eq_true rfl) (Nat.le_of_ble_eq_true rfl) (Nat.le_of_ble_eq_true rfl) pu_V (by decide) dX11_localType_71 (fun _ σ3 => ?_)
      refine g_iconst (v := 0) dX11_localType_74 (by decide) ?_
      exact g_ireturn rfl dX11_localType_75
    · refine g_lload_n 2 1 dX11_localType_20 rfl rfl ?_
      refine g_aload_n 0 0 dX11_localType_21 rfl rfl ?_
      refine g_getR fdX11_31 dX11_localType_22 ?_
      refine g_iload 2 dX11_localType_25 rfl ?_
      refine g_callV (fc := fun sς => Row_at sς (gR σ1 x0 10) x4) (ci := 3) (as := [iv x4]) rfl rfl rfl q1409 q1410 mdX11_111 (ctX3_at (gR σ1 x0 10) x4) rfl (Nat.le_of_ble_eq_true rfl) (Nat.le_of_ble_eq_true rfl) (Nat.le_of_ble_eq_true rfl) pu_I dX11_localType_27 (fun r5 σ4 => ?_)
      refine g_callS (fc := fun sς => Chk_wide sς r5) (as := [iv r5]) q1919 mdX11_114 (ctX11_wide r5) rfl (Nat.le_of_ble_eq_true rfl) (Nat.le_of_ble_eq_true rfl) (Nat.le_of_ble_eq_true rfl) pu_J dX11_localType_30 (fun r7 σ6 => ?_)
      refine g_lcmp_ge 47 dX11_localType_33 dX11_localType_34 (by decide) ?_ ?_
      · refine g_lload_n 2 1 dX11_localType_47 rfl rfl ?_
        refine g_aload_n 0 0 dX11_localType_48 rfl rfl ?_
        refine g_getR fdX11_31 dX11_localType_49 ?_
        refine g_iload 2 dX11_localType_52 rfl ?_
        refine g_callV (fc := fun sς => Row_at sς (gR σ6 x0 10) x4) (ci := 3) (as := [iv x4]) rfl rfl rfl q1409 q1410 mdX11_111 (ctX3_at (gR σ6 x0 10) x4) rfl (Nat.le_of_ble_eq_true rfl) (Nat.le_of_ble_eq_true rfl) (Nat.le_of_ble_eq_true rfl) pu_I dX11_localType_54 (fun r9 σ8 => ?_)
        refine g_callS (fc := fun sς => Chk_wide sς r9) (as := [iv r9]) q1919 mdX11_114 (ctX11_wide r9) rfl (Nat.le_of_ble_eq_true rfl) (Nat.le_of_ble_eq_true rfl) (Nat.le_of_ble_eq_true rfl) pu_J dX11_localType_57 (fun r11 σ10 => ?_)
        refine g_lsub dX11_localType_60 ?_
        refine g_nmJ (fun y12 => ?_)
        refine g_lstore_n 2 dX11_localType_61 rfl (by decide) rfl ?_
        refine g_iincB (w := 1) 2 dX11_localType_62 rfl (by decide) (by decide) (fun _ => rfl) (fun y13 => ?_)
        refine g_goto 8 dX11_localType_65 (by decide) ?_
        refine G.sub [2, 1, 0] rfl ?_
        exact gX11_localType_p8 n _ _ _ _
      · refine g_aload_n 0 0 dX11_localType_37 rfl rfl ?_
        refine g_getR fdX11_28 dX11_localType_38 ?_
        refine g_iload 2 dX11_localType_41 rfl ?_
        refine g_callV (fc := fun sς => Row_at sς (gR σ6 x0 9) x4) (ci := 3) (as := [iv x4]) rfl rfl rfl q1409 q1410 mdX11_111 (ctX3_at (gR σ6 x0 9) x4) rfl (Nat.le_of_ble_eq_true rfl) (Nat.le_of_ble_eq_true rfl) (Nat.le_of_ble_eq_true rfl) pu_I dX11_localType_43 (fun r15 σ14 => ?_)
        exact g_ireturn rfl dX11_localType_46
def V.Chk_localType (σ : HS) (x0 : Nat) (x1 : Int32) : Option ((Nat ⊕ Int32) × HS) :=
  cl (Chk_wide σ x1) fun r2 σ1 =>
  Chk_localType_p8 FU σ1 x0 r2 (0 : Int32)
theorem V.ctX11_localType (x0 : Nat) (x1 : Int32) : Ct yX11_localType  cX11_localType 5 (some .int) 7 106 eXI [av x0, iv x1] (fun σ => Chk_localType σ x0 x1) := by
  refine Ct.of (own := RX11) (nm := "localType") (desc := "(I)I") rfl (by decide) (Nat.le_of_ble_eq_true rfl) (by decide) (fun X σ => ?_)
  show G X RX11 "localType" cX11_localType 5 (some .int) 7 106 (enX enI (cxz X)) 0 [(0, av x0), (1, iv x1)] [] σ (Chk_localType σ x0 x1)
  unfold Chk_localType
  refine g_iload_n 1 1 dX11_localType_0 rfl rfl ?_
  refine g_callS (fc := fun sς => Chk_wide sς x1) (as := [iv x1]) q1919 mdX11_114 (ctX11_wide x1) rfl (Nat.le_of_ble_eq_true rfl) (Nat.le_of_ble_eq_true rfl) (Nat.le_of_ble_eq_true rfl) pu_J dX11_localType_1 (fun r2 σ1 => ?_)
  refine g_lstore_n 2 dX11_localType_4 rfl (by decide) rfl ?_
  refine g_iconst (v := 0) dX11_localType_5 (by decide) ?_
  refine g_istore dX11_localType_6 (by decide) rfl ?_
  refine G.sub [2, 1, 0] rfl ?_
  exact gX11_localType_p8 FU _ _ _ _
theorem V.dX11_variable_0 : decode cX11_variable 0 = .ok (.iload_n 1, 1) := by decide +kernel
theorem V.dX11_variable_1 : decode cX11_variable 1 = .ok (.bipush 35, 2) := by decide +kernel
theorem V.dX11_variable_3 : decode cX11_variable 3 = .ok (.if_icmp .ge 11, 3) := by decide +kernel
theorem V.dX11_variable_6 : decode cX11_variable 6 = .ok (.aload_n 0, 1) := by decide +kernel
theorem V.dX11_variable_7 : decode cX11_variable 7 = .ok (.iload_n 2, 1) := by decide +kernel
theorem V.dX11_variable_8 : decode cX11_variable 8 = .ok (.invokevirtual 227, 3) := by decide +kernel
theorem V.dX11_variable_11 : decode cX11_variable 11 = .ok (.goto 15, 3) := by decide +kernel
theorem V.dX11_variable_14 : decode cX11_variable 14 = .ok (.aload_n 0, 1) := by decide +kernel
theorem V.dX11_variable_15 : decode cX11_variable 15 = .ok (.aload_n 0, 1) := by decide +kernel
theorem V.dX11_variable_16 : decode cX11_variable 16 = .ok (.getfield 44, 3) := by decide +kernel
theorem V.dX11_variable_19 : decode cX11_variable 19 = .ok (.getfield 230, 3) := by decide +kernel
theorem V.dX11_variable_22 : decode cX11_variable 22 = .ok (.iload_n 2, 1) := by decide +kernel
theorem V.dX11_variable_23 : decode cX11_variable 23 = .ok (.invokevirtual 214, 3) := by decide +kernel
theorem V.dX11_variable_26 : decode cX11_variable 26 = .ok (.istore_n 3, 1) := by decide +kernel
theorem V.dX11_variable_27 : decode cX11_variable 27 = .ok (.iload_n 1, 1) := by decide +kernel
theorem V.dX11_variable_28 : decode cX11_variable 28 = .ok (.bipush 36, 2) := by decide +kernel
theorem V.dX11_variable_30 : decode cX11_variable 30 = .ok (.if_icmp .ne 29, 3) := by decide +kernel
theorem V.dX11_variable_33 : decode cX11_variable 33 = .ok (.aload_n 0, 1) := by decide +kernel
theorem V.dX11_variable_34 : decode cX11_variable 34 = .ok (.aload_n 0, 1) := by decide +kernel
theorem V.dX11_variable_35 : decode cX11_variable 35 = .ok (.getfield 44, 3) := by decide +kernel
theorem V.dX11_variable_38 : decode cX11_variable 38 = .ok (.getfield 233, 3) := by decide +kernel
theorem V.dX11_variable_41 : decode cX11_variable 41 = .ok (.iload_n 2, 1) := by decide +kernel
theorem V.dX11_variable_42 : decode cX11_variable 42 = .ok (.invokevirtual 111, 3) := by decide +kernel
theorem V.dX11_variable_45 : decode cX11_variable 45 = .ok (.iconst 1, 1) := by decide +kernel
theorem V.dX11_variable_46 : decode cX11_variable 46 = .ok (.if_icmp .ne 7, 3) := by decide +kernel
theorem V.dX11_variable_49 : decode cX11_variable 49 = .ok (.iconst 1, 1) := by decide +kernel
theorem V.dX11_variable_50 : decode cX11_variable 50 = .ok (.goto 4, 3) := by decide +kernel
theorem V.dX11_variable_53 : decode cX11_variable 53 = .ok (.iconst 0, 1) := by decide +kernel
theorem V.dX11_variable_54 : decode cX11_variable 54 = .ok (.bipush 8, 2) := by decide +kernel
theorem V.dX11_variable_56 : decode cX11_variable 56 = .ok (.invokevirtual 118, 3) := by decide +kernel
theorem V.dX11_variable_59 : decode cX11_variable 59 = .ok (.iload_n 1, 1) := by decide +kernel
theorem V.dX11_variable_60 : decode cX11_variable 60 = .ok (.bipush 32, 2) := by decide +kernel
theorem V.dX11_variable_62 : decode cX11_variable 62 = .ok (.if_icmp .eq 15, 3) := by decide +kernel
theorem V.dX11_variable_65 : decode cX11_variable 65 = .ok (.iload_n 1, 1) := by decide +kernel
theorem V.dX11_variable_66 : decode cX11_variable 66 = .ok (.bipush 35, 2) := by decide +kernel
theorem V.dX11_variable_68 : decode cX11_variable 68 = .ok (.if_icmp .eq 9, 3) := by decide +kernel
theorem V.dX11_variable_71 : decode cX11_variable 71 = .ok (.aload_n 0, 1) := by decide +kernel
theorem V.dX11_variable_72 : decode cX11_variable 72 = .ok (.iload_n 3, 1) := by decide +kernel
theorem V.dX11_variable_73 : decode cX11_variable 73 = .ok (.invokevirtual 149, 3) := by decide +kernel
theorem V.dX11_variable_76 : decode cX11_variable 76 = .ok (.pop, 1) := by decide +kernel
theorem V.dX11_variable_77 : decode cX11_variable 77 = .ok (.iload_n 1, 1) := by decide +kernel
theorem V.dX11_variable_78 : decode cX11_variable 78 = .ok (.bipush 33, 2) := by decide +kernel
theorem V.dX11_variable_80 : decode cX11_variable 80 = .ok (.if_icmp .eq 14, 3) := by decide +kernel
theorem V.dX11_variable_83 : decode cX11_variable 83 = .ok (.iload_n 1, 1) := by decide +kernel
theorem V.dX11_variable_84 : decode cX11_variable 84 = .ok (.bipush 36, 2) := by decide +kernel
theorem V.dX11_variable_86 : decode cX11_variable 86 = .ok (.if_icmp .eq 8, 3) := by decide +kernel
theorem V.dX11_variable_89 : decode cX11_variable 89 = .ok (.aload_n 0, 1) := by decide +kernel
theorem V.dX11_variable_90 : decode cX11_variable 90 = .ok (.iload_n 3, 1) := by decide +kernel
theorem V.dX11_variable_91 : decode cX11_variable 91 = .ok (.invokevirtual 152, 3) := by decide +kernel
theorem V.dX11_variable_94 : decode cX11_variable 94 = .ok (.return_, 1) := by decide +kernel
theorem V.fdX11_230 : FD RX11 230 10 3 2 := ⟨(RX10, TX10, 8), tyX10, rfl, rfl, in_X10, by decide, Or.inr ⟨_, q782⟩, rfl⟩
theorem V.mdX11_227 : MD RX11 227 yX11_localType cX11_localType 5 (some .int) 1 := ⟨Or.inl q1975, q371, q1978, by decide, by decide, by decide +kernel⟩
theorem V.fdX11_233 : FD RX11 233 10 4 2 := ⟨(RX10, TX10, 8), tyX10, rfl, rfl, in_X10, by decide, Or.inr ⟨_, q785⟩, rfl⟩
/-! ModuleEngine$Checker.variable(II)V -/
def V.Chk_variable_p77  (σ : HS) (x0 : Nat) (x1 : Int32) (x3 : Int32) : Option ((Nat ⊕ Unit) × HS) :=
  if x1 = (33 : Int32) then (
    some (.inr (), σ))
  else (
    if x1 = (36 : Int32) then (
      some (.inr (), σ))
    else (
      ck (tg σ x0 = 12) <| clT (Chk_give σ x0 x3) fun _ σ1 =>
      some (.inr (), σ1)))
theorem V.gX11_variable_p77 {X : CX}  (σ : HS) (x0 : Nat) (x1 : Int32) (x3 : Int32) : G X RX11 "variable" cX11_variable 4 none 10 171 (enX enV (cxz X)) 77 [(0, av x0), (1, iv x1), (3, iv x3)] [] σ (Chk_variable_p77 σ x0 x1 x3) := by
  unfold Chk_variable_p77
  refine g_iload_n 1 1 dX11_variable_77 rfl rfl ?_
  refine g_bipush (v := 33) dX11_variable_78 (by decide) ?_
  refine g_icmp_eq 94 dX11_variable_80 (by decide) ?_ ?_
  · exact g_return rfl dX11_variable_94
  · refine g_iload_n 1 1 dX11_variable_83 rfl rfl ?_
    refine g_bipush (v := 36) dX11_variable_84 (by decide) ?_
    refine g_icmp_eq 94 dX11_variable_86 (by decide) ?_ ?_
    · exact g_return rfl dX11_variable_94
    · refine g_aload_n 0 0 dX11_variable_89 rfl rfl ?_
      refine g_iload_n 3 2 dX11_variable_90 rfl rfl ?_
      refine g_callVT (fc := fun sς => Chk_give sς x0 x3) (ci := 11) (as := [iv x3]) rfl rfl rfl q1857 qs85 q1855 mdX11_152 (ctX11_give x0 x3) rfl (Nat.le_of_ble_eq_true rfl) (Nat.le_of_ble_eq_true rfl) (Nat.le_of_ble_eq_true rfl) pu_V (by decide) dX11_variable_91 (fun _ σ1 => ?_)
      exact g_return rfl dX11_variable_94
def V.Chk_variable_p59  (σ : HS) (x0 : Nat) (x1 : Int32) (x3 : Int32) : Option ((Nat ⊕ Unit) × HS) :=
  if x1 = (32 : Int32) then (
    Chk_variable_p77 σ x0 x1 x3)
  else (
    if x1 = (35 : Int32) then (
      Chk_variable_p77 σ x0 x1 x3)
    else (
      ck (tg σ x0 = 12) <| clT (Chk_take σ x0 x3) fun r2 σ1 =>
      Chk_variable_p77 σ1 x0 x1 x3))
theorem V.gX11_variable_p59 {X : CX}  (σ : HS) (x0 : Nat) (x1 : Int32) (x3 : Int32) : G X RX11 "variable" cX11_variable 4 none 10 171 (enX enV (cxz X)) 59 [(0, av x0), (1, iv x1), (3, iv x3)] [] σ (Chk_variable_p59 σ x0 x1 x3) := by
  unfold Chk_variable_p59
  refine g_iload_n 1 1 dX11_variable_59 rfl rfl ?_
  refine g_bipush (v := 32) dX11_variable_60 (by decide) ?_
  refine g_icmp_eq 77 dX11_variable_62 (by decide) ?_ ?_
  · exact gX11_variable_p77 _ _ _ _
  · refine g_iload_n 1 1 dX11_variable_65 rfl rfl ?_
    refine g_bipush (v := 35) dX11_variable_66 (by decide) ?_
    refine g_icmp_eq 77 dX11_variable_68 (by decide) ?_ ?_
    · exact gX11_variable_p77 _ _ _ _
    · refine g_aload_n 0 0 dX11_variable_71 rfl rfl ?_
      refine g_iload_n 3 2 dX11_variable_72 rfl rfl ?_
      refine g_callVT (fc := fun sς => Chk_take sς x0 x3) (ci := 11) (as := [iv x3]) rfl rfl rfl q1837 qs80 q1835 mdX11_149 (ctX11_take x0 x3) rfl (Nat.le_of_ble_eq_true rfl) (Nat.le_of_ble_eq_true rfl) (Nat.le_of_ble_eq_true rfl) pu_I (by decide) dX11_variable_73 (fun r2 σ1 => ?_)
      refine g_pop dX11_variable_76 rfl ?_
      exact gX11_variable_p77 _ _ _ _
def V.Chk_variable_p54  (σ : HS) (x0 : Nat) (x1 : Int32) (x3 : Int32) (s0 : Int32) (s1 : Nat) : Option ((Nat ⊕ Unit) × HS) :=
  ck (tg σ s1 = 12) <| clT (Chk_need σ s1 s0 (8 : Int32)) fun _ σ1 =>
  Chk_variable_p59 σ1 x0 x1 x3
theorem V.gX11_variable_p54 {X : CX}  (σ : HS) (x0 : Nat) (x1 : Int32) (x3 : Int32) (s0 : Int32) (s1 : Nat) : G X RX11 "variable" cX11_variable 4 none 10 171 (enX enV (cxz X)) 54 [(0, av x0), (1, iv x1), (3, iv x3)] [iv s0, av s1] σ (Chk_variable_p54 σ x0 x1 x3 s0 s1) := by
  unfold Chk_variable_p54
  refine g_bipush (v := 8) dX11_variable_54 (by decide) ?_
  refine g_callVT (fc := fun sς => Chk_need sς s1 s0 (8 : Int32)) (ci := 11) (as := [iv s0, iv (8 : Int32)]) rfl rfl rfl q1746 qs73 q1744 mdX11_118 (ctX11_need s1 s0 (8 : Int32)) rfl (Nat.le_of_ble_eq_true rfl) (Nat.le_of_ble_eq_true rfl) (Nat.le_of_ble_eq_true rfl) pu_V (by decide) dX11_variable_56 (fun _ σ1 => ?_)
  exact gX11_variable_p59 _ _ _ _
def V.Chk_variable_p26  (σ : HS) (x0 : Nat) (x1 : Int32) (x2 : Int32) (s0 : Int32) : Option ((Nat ⊕ Unit) × HS) :=
  if x1 = (36 : Int32) then (
    ck (tg σ x0 = 12) <|
    ck (tg σ (gR σ x0 1) = 11) <|
    ck (tg σ (gR σ (gR σ x0 1) 4) = 4) <| cl (Row_at σ (gR σ (gR σ x0 1) 4) x2) fun r2 σ1 =>
    if r2 = (1 : Int32) then (
      Chk_variable_p54 σ1 x0 x1 s0 (1 : Int32) x0)
    else (
      Chk_variable_p54 σ1 x0 x1 s0 (0 : Int32) x0))
  else (
    Chk_variable_p59 σ x0 x1 s0)
theorem V.gX11_variable_p26 {X : CX}  (σ : HS) (x0 : Nat) (x1 : Int32) (x2 : Int32) (s0 : Int32) : G X RX11 "variable" cX11_variable 4 none 10 171 (enX enV (cxz X)) 26 [(0, av x0), (1, iv x1), (2, iv x2)] [iv s0] σ (Chk_variable_p26 σ x0 x1 x2 s0) := by
  unfold Chk_variable_p26
  refine g_istore_n 3 dX11_variable_26 rfl (by decide) rfl ?_
  refine g_iload_n 1 2 dX11_variable_27 rfl rfl ?_
  refine g_bipush (v := 36) dX11_variable_28 (by decide) ?_
  refine g_icmp_ne 59 dX11_variable_30 (by decide) ?_ ?_
  · refine G.sub [1, 2, 0] rfl ?_
    exact gX11_variable_p59 _ _ _ _
  · refine g_aload_n 0 1 dX11_variable_33 rfl rfl ?_
    refine g_aload_n 0 1 dX11_variable_34 rfl rfl ?_
    refine g_getR fdX11_44 dX11_variable_35 ?_
    refine g_getR fdX11_233 dX11_variable_38 ?_
    refine g_iload_n 2 3 dX11_variable_41 rfl rfl ?_
    refine g_callV (fc := fun sς => Row_at sς (gR σ (gR σ x0 1) 4) x2) (ci := 3) (as := [iv x2]) rfl rfl rfl q1409 q1410 mdX11_111 (ctX3_at (gR σ (gR σ x0 1) 4) x2) rfl (Nat.le_of_ble_eq_true rfl) (Nat.le_of_ble_eq_true rfl) (Nat.le_of_ble_eq_true rfl) pu_I dX11_variable_42 (fun r2 σ1 => ?_)
    refine g_iconst (v := 1) dX11_variable_45 (by decide) ?_
    refine g_icmp_ne 53 dX11_variable_46 (by decide) ?_ ?_
    · refine g_iconst (v := 0) dX11_variable_53 (by decide) ?_
      refine G.sub [1, 2, 0] rfl ?_
      exact gX11_variable_p54 _ _ _ _ _ _
    · refine g_iconst (v := 1) dX11_variable_49 (by decide) ?_
      refine g_goto 54 dX11_variable_50 (by decide) ?_
      refine G.sub [1, 2, 0] rfl ?_
      exact gX11_variable_p54 _ _ _ _ _ _
def V.Chk_variable (σ : HS) (x0 : Nat) (x1 : Int32) (x2 : Int32) : Option ((Nat ⊕ Unit) × HS) :=
  if (35 : Int32) ≤ x1 then (
    ck (tg σ x0 = 12) <|
    ck (tg σ (gR σ x0 1) = 11) <|
    ck (tg σ x0 = 12) <| clT (Chk_named σ x0 (gR σ (gR σ x0 1) 3) x2) fun r2 σ1 =>
    Chk_variable_p26 σ1 x0 x1 x2 r2)
  else (
    ck (tg σ x0 = 12) <| clT (Chk_localType σ x0 x2) fun r4 σ3 =>
    Chk_variable_p26 σ3 x0 x1 x2 r4)
theorem V.ctX11_variable (x0 : Nat) (x1 : Int32) (x2 : Int32) : Ct yX11_variable  cX11_variable 4 none 10 171 eXV [av x0, iv x1, iv x2] (fun σ => Chk_variable σ x0 x1 x2) := by
  refine Ct.of (own := RX11) (nm := "variable") (desc := "(II)V") rfl (by decide) (Nat.le_of_ble_eq_true rfl) (by decide) (fun X σ => ?_)
  show G X RX11 "variable" cX11_variable 4 none 10 171 (enX enV (cxz X)) 0 [(0, av x0), (1, iv x1), (2, iv x2)] [] σ (Chk_variable σ x0 x1 x2)
  unfold Chk_variable
  refine g_iload_n 1 1 dX11_variable_0 rfl rfl ?_
  refine g_bipush (v := 35) dX11_variable_1 (by decide) ?_
  refine g_icmp_ge 14 dX11_variable_3 (by decide) ?_ ?_
  · refine g_aload_n 0 0 dX11_variable_14 rfl rfl ?_
    refine g_aload_n 0 0 dX11_variable_15 rfl rfl ?_
    refine g_getR fdX11_44 dX11_variable_16 ?_
    refine g_getR fdX11_230 dX11_variable_19 ?_
    refine g_iload_n 2 2 dX11_variable_22 rfl rfl ?_
    refine g_callVT (fc := fun sς => Chk_named sς x0 (gR σ (gR σ x0 1) 3) x2) (ci := 11) (as := [av (gR σ (gR σ x0 1) 3), iv x2]) rfl rfl rfl q1945 qs100 q1943 mdX11_214 (ctX11_named x0 (gR σ (gR σ x0 1) 3) x2) rfl (Nat.le_of_ble_eq_true rfl) (Nat.le_of_ble_eq_true rfl) (Nat.le_of_ble_eq_true rfl) pu_I (by decide) dX11_variable_23 (fun r2 σ1 => ?_)
    exact gX11_variable_p26 _ _ _ _ _
  · refine g_aload_n 0 0 dX11_variable_6 rfl rfl ?_
    refine g_iload_n 2 2 dX11_variable_7 rfl rfl ?_
    refine g_callVT (fc := fun sς => Chk_localType sς x0 x2) (ci := 11) (as := [iv x2]) rfl rfl rfl q1977 qs108 q1975 mdX11_227 (ctX11_localType x0 x2) rfl (Nat.le_of_ble_eq_true rfl) (Nat.le_of_ble_eq_true rfl) (Nat.le_of_ble_eq_true rfl) pu_I (by decide) dX11_variable_8 (fun r4 σ3 => ?_)
    refine g_goto 26 dX11_variable_11 (by decide) ?_
    exact gX11_variable_p26 _ _ _ _ _
theorem V.dX11_plain_0 : decode cX11_plain 0 = .ok (.iload_n 1, 1) := by decide +kernel
theorem V.dX11_plain_1 : decode cX11_plain 1 = .ok (.tableswitch 151 26 38 #[67, 74, 80, 151, 151, 151, 95, 95, 95, 95, 95, 103, 125], 67) := by decide +kernel
theorem V.dX11_plain_68 : decode cX11_plain 68 = .ok (.aload_n 0, 1) := by decide +kernel
theorem V.dX11_plain_69 : decode cX11_plain 69 = .ok (.invokevirtual 146, 3) := by decide +kernel
theorem V.dX11_plain_72 : decode cX11_plain 72 = .ok (.pop, 1) := by decide +kernel
theorem V.dX11_plain_73 : decode cX11_plain 73 = .ok (.iconst 1, 1) := by decide +kernel
theorem V.dX11_plain_74 : decode cX11_plain 74 = .ok (.ireturn, 1) := by decide +kernel
theorem V.dX11_plain_75 : decode cX11_plain 75 = .ok (.aload_n 0, 1) := by decide +kernel
theorem V.dX11_plain_76 : decode cX11_plain 76 = .ok (.invokevirtual 236, 3) := by decide +kernel
theorem V.dX11_plain_79 : decode cX11_plain 79 = .ok (.iconst 1, 1) := by decide +kernel
theorem V.dX11_plain_80 : decode cX11_plain 80 = .ok (.ireturn, 1) := by decide +kernel
theorem V.dX11_plain_81 : decode cX11_plain 81 = .ok (.aload_n 0, 1) := by decide +kernel
theorem V.dX11_plain_82 : decode cX11_plain 82 = .ok (.bipush 127, 2) := by decide +kernel
theorem V.dX11_plain_84 : decode cX11_plain 84 = .ok (.invokevirtual 149, 3) := by decide +kernel
theorem V.dX11_plain_87 : decode cX11_plain 87 = .ok (.pop, 1) := by decide +kernel
theorem V.dX11_plain_88 : decode cX11_plain 88 = .ok (.aload_n 0, 1) := by decide +kernel
theorem V.dX11_plain_89 : decode cX11_plain 89 = .ok (.iload_n 2, 1) := by decide +kernel
theorem V.dX11_plain_90 : decode cX11_plain 90 = .ok (.iload_n 2, 1) := by decide +kernel
theorem V.dX11_plain_91 : decode cX11_plain 91 = .ok (.invokevirtual 239, 3) := by decide +kernel
theorem V.dX11_plain_94 : decode cX11_plain 94 = .ok (.iconst 1, 1) := by decide +kernel
theorem V.dX11_plain_95 : decode cX11_plain 95 = .ok (.ireturn, 1) := by decide +kernel
theorem V.dX11_plain_96 : decode cX11_plain 96 = .ok (.aload_n 0, 1) := by decide +kernel
theorem V.dX11_plain_97 : decode cX11_plain 97 = .ok (.iload_n 1, 1) := by decide +kernel
theorem V.dX11_plain_98 : decode cX11_plain 98 = .ok (.iload_n 2, 1) := by decide +kernel
theorem V.dX11_plain_99 : decode cX11_plain 99 = .ok (.invokevirtual 242, 3) := by decide +kernel
theorem V.dX11_plain_102 : decode cX11_plain 102 = .ok (.iconst 1, 1) := by decide +kernel
theorem V.dX11_plain_103 : decode cX11_plain 103 = .ok (.ireturn, 1) := by decide +kernel
theorem V.dX11_plain_104 : decode cX11_plain 104 = .ok (.aload_n 0, 1) := by decide +kernel
theorem V.dX11_plain_105 : decode cX11_plain 105 = .ok (.aload_n 0, 1) := by decide +kernel
theorem V.dX11_plain_106 : decode cX11_plain 106 = .ok (.getfield 44, 3) := by decide +kernel
theorem V.dX11_plain_109 : decode cX11_plain 109 = .ok (.getfield 224, 3) := by decide +kernel
theorem V.dX11_plain_112 : decode cX11_plain 112 = .ok (.iload_n 2, 1) := by decide +kernel
theorem V.dX11_plain_113 : decode cX11_plain 113 = .ok (.invokevirtual 214, 3) := by decide +kernel
theorem V.dX11_plain_116 : decode cX11_plain 116 = .ok (.istore_n 3, 1) := by decide +kernel
theorem V.dX11_plain_117 : decode cX11_plain 117 = .ok (.aload_n 0, 1) := by decide +kernel
theorem V.dX11_plain_118 : decode cX11_plain 118 = .ok (.bipush 127, 2) := by decide +kernel
theorem V.dX11_plain_120 : decode cX11_plain 120 = .ok (.iload_n 3, 1) := by decide +kernel
theorem V.dX11_plain_121 : decode cX11_plain 121 = .ok (.invokevirtual 161, 3) := by decide +kernel
theorem V.dX11_plain_124 : decode cX11_plain 124 = .ok (.iconst 1, 1) := by decide +kernel
theorem V.dX11_plain_125 : decode cX11_plain 125 = .ok (.ireturn, 1) := by decide +kernel
theorem V.dX11_plain_126 : decode cX11_plain 126 = .ok (.aload_n 0, 1) := by decide +kernel
theorem V.dX11_plain_127 : decode cX11_plain 127 = .ok (.aload_n 0, 1) := by decide +kernel
theorem V.dX11_plain_128 : decode cX11_plain 128 = .ok (.aload_n 0, 1) := by decide +kernel
theorem V.dX11_plain_129 : decode cX11_plain 129 = .ok (.getfield 44, 3) := by decide +kernel
theorem V.dX11_plain_132 : decode cX11_plain 132 = .ok (.getfield 224, 3) := by decide +kernel
theorem V.dX11_plain_135 : decode cX11_plain 135 = .ok (.iload_n 2, 1) := by decide +kernel
theorem V.dX11_plain_136 : decode cX11_plain 136 = .ok (.invokevirtual 214, 3) := by decide +kernel
theorem V.dX11_plain_139 : decode cX11_plain 139 = .ok (.invokevirtual 149, 3) := by decide +kernel
theorem V.dX11_plain_142 : decode cX11_plain 142 = .ok (.pop, 1) := by decide +kernel
theorem V.dX11_plain_143 : decode cX11_plain 143 = .ok (.aload_n 0, 1) := by decide +kernel
theorem V.dX11_plain_144 : decode cX11_plain 144 = .ok (.bipush 127, 2) := by decide +kernel
theorem V.dX11_plain_146 : decode cX11_plain 146 = .ok (.invokevirtual 149, 3) := by decide +kernel
theorem V.dX11_plain_149 : decode cX11_plain 149 = .ok (.pop, 1) := by decide +kernel
theorem V.dX11_plain_150 : decode cX11_plain 150 = .ok (.iconst 1, 1) := by decide +kernel
theorem V.dX11_plain_151 : decode cX11_plain 151 = .ok (.ireturn, 1) := by decide +kernel
theorem V.dX11_plain_152 : decode cX11_plain 152 = .ok (.iconst 0, 1) := by decide +kernel
theorem V.dX11_plain_153 : decode cX11_plain 153 = .ok (.ireturn, 1) := by decide +kernel
theorem V.mdX11_236 : MD RX11 236 yX11_chosen cX11_chosen 3 none 0 := ⟨Or.inl q1959, q371, q1962, by decide, by decide, by decide +kernel⟩
theorem V.mdX11_239 : MD RX11 239 yX11_join cX11_join 3 none 2 := ⟨Or.inl q1963, q371, q1966, by decide, by decide, by decide +kernel⟩
theorem V.mdX11_242 : MD RX11 242 yX11_variable cX11_variable 4 none 2 := ⟨Or.inl q1971, q371, q1974, by decide, by decide, by decide +kernel⟩
/-! ModuleEngine$Checker.plain(II)Z -/
def V.Chk_plain_p96  (σ : HS) (x0 : Nat) (x1 : Int32) (x2 : Int32) : Option ((Nat ⊕ Int32) × HS) :=
  ck (tg σ x0 = 12) <| clT (Chk_variable σ x0 x1 x2) fun _ σ1 =>
  some (.inr (1 : Int32), σ1)
theorem V.gX11_plain_p96 {X : CX}  (σ : HS) (x0 : Nat) (x1 : Int32) (x2 : Int32) : G X RX11 "plain" cX11_plain 4 (some .boolean) 12 215 (enX enI (cxz X)) 96 [(0, av x0), (1, iv x1), (2, iv x2)] [] σ (Chk_plain_p96 σ x0 x1 x2) := by
  unfold Chk_plain_p96
  refine g_aload_n 0 0 dX11_plain_96 rfl rfl ?_
  refine g_iload_n 1 1 dX11_plain_97 rfl rfl ?_
  refine g_iload_n 2 2 dX11_plain_98 rfl rfl ?_
  refine g_callVT (fc := fun sς => Chk_variable sς x0 x1 x2) (ci := 11) (as := [iv x1, iv x2]) rfl rfl rfl q1973 qs107 q1971 mdX11_242 (ctX11_variable x0 x1 x2) rfl (Nat.le_of_ble_eq_true rfl) (Nat.le_of_ble_eq_true rfl) (Nat.le_of_ble_eq_true rfl) pu_V (by decide) dX11_plain_99 (fun _ σ1 => ?_)
  refine g_iconst (v := 1) dX11_plain_102 (by decide) ?_
  exact g_zreturn rfl (by decide +kernel) dX11_plain_103
def V.Chk_plain (σ : HS) (x0 : Nat) (x1 : Int32) (x2 : Int32) : Option ((Nat ⊕ Int32) × HS) :=
  swx x1 [
    (26, (
      ck (tg σ x0 = 12) <| clT (Chk_takeAny σ x0 ) fun r2 σ1 =>
      some (.inr (1 : Int32), σ1))),
    (27, (
      ck (tg σ x0 = 12) <| clT (Chk_chosen σ x0 ) fun _ σ3 =>
      some (.inr (1 : Int32), σ3))),
    (28, (
      ck (tg σ x0 = 12) <| clT (Chk_take σ x0 (127 : Int32)) fun r5 σ4 =>
      ck (tg σ4 x0 = 12) <| clT (Chk_join σ4 x0 x2 x2) fun _ σ6 =>
      some (.inr (1 : Int32), σ6))),
    (32, (
      Chk_plain_p96 σ x0 x1 x2)),
    (33, (
      Chk_plain_p96 σ x0 x1 x2)),
    (34, (
      Chk_plain_p96 σ x0 x1 x2)),
    (35, (
      Chk_plain_p96 σ x0 x1 x2)),
    (36, (
      Chk_plain_p96 σ x0 x1 x2)),
    (37, (
      ck (tg σ x0 = 12) <|
      ck (tg σ (gR σ x0 1) = 11) <|
      ck (tg σ x0 = 12) <| clT (Chk_named σ x0 (gR σ (gR σ x0 1) 2) x2) fun r8 σ7 =>
      ck (tg σ7 x0 = 12) <| clT (Chk_turn σ7 x0 (127 : Int32) r8) fun _ σ9 =>
      some (.inr (1 : Int32), σ9))),
    (38, (
      ck (tg σ x0 = 12) <|
      ck (tg σ (gR σ x0 1) = 11) <|
      ck (tg σ x0 = 12) <| clT (Chk_named σ x0 (gR σ (gR σ x0 1) 2) x2) fun r11 σ10 =>
      ck (tg σ10 x0 = 12) <| clT (Chk_take σ10 x0 r11) fun r13 σ12 =>
      ck (tg σ12 x0 = 12) <| clT (Chk_take σ12 x0 (127 : Int32)) fun r15 σ14 =>
      some (.inr (1 : Int32), σ14)))
    ] (
    some (.inr (0 : Int32), σ))
theorem V.ctX11_plain (x0 : Nat) (x1 : Int32) (x2 : Int32) : Ct yX11_plain  cX11_plain 4 (some .boolean) 12 215 eXI [av x0, iv x1, iv x2] (fun σ => Chk_plain σ x0 x1 x2) := by
  refine Ct.of (own := RX11) (nm := "plain") (desc := "(II)Z") rfl (by decide) (Nat.le_of_ble_eq_true rfl) (by decide) (fun X σ => ?_)
  show G X RX11 "plain" cX11_plain 4 (some .boolean) 12 215 (enX enI (cxz X)) 0 [(0, av x0), (1, iv x1), (2, iv x2)] [] σ (Chk_plain σ x0 x1 x2)
  unfold Chk_plain
  refine g_iload_n 1 1 dX11_plain_0 rfl rfl ?_
  refine g_tsw dX11_plain_1 (by decide +kernel) ?_
  refine g_case ex0 (t := 68) (by decide +kernel) ?_ (fun hx => ?_)
  · refine g_aload_n 0 0 dX11_plain_68 rfl rfl ?_
    refine g_callVT (fc := fun sς => Chk_takeAny sς x0 ) (ci := 11) (as := []) rfl rfl rfl q1841 qs81 q1839 mdX11_146 (ctX11_takeAny x0 ) rfl (Nat.le_of_ble_eq_true rfl) (Nat.le_of_ble_eq_true rfl) (Nat.le_of_ble_eq_true rfl) pu_I (by decide) dX11_plain_69 (fun r2 σ1 => ?_)
    refine g_pop dX11_plain_72 rfl ?_
    refine g_iconst (v := 1) dX11_plain_73 (by decide) ?_
    exact g_zreturn rfl (by decide +kernel) dX11_plain_74
  refine g_case hx (t := 75) (by decide +kernel) ?_ (fun hx => ?_)
  · refine g_aload_n 0 0 dX11_plain_75 rfl rfl ?_
    refine g_callVT (fc := fun sς => Chk_chosen sς x0 ) (ci := 11) (as := []) rfl rfl rfl q1961 qs104 q1959 mdX11_236 (ctX11_chosen x0 ) rfl (Nat.le_of_ble_eq_true rfl) (Nat.le_of_ble_eq_true rfl) (Nat.le_of_ble_eq_true rfl) pu_V (by decide) dX11_plain_76 (fun _ σ3 => ?_)
    refine g_iconst (v := 1) dX11_plain_79 (by decide) ?_
    exact g_zreturn rfl (by decide +kernel) dX11_plain_80
  refine g_case hx (t := 81) (by decide +kernel) ?_ (fun hx => ?_)
  · refine g_aload_n 0 0 dX11_plain_81 rfl rfl ?_
    refine g_bipush (v := 127) dX11_plain_82 (by decide) ?_
    refine g_callVT (fc := fun sς => Chk_take sς x0 (127 : Int32)) (ci := 11) (as := [iv (127 : Int32)]) rfl rfl rfl q1837 qs80 q1835 mdX11_149 (ctX11_take x0 (127 : Int32)) rfl (Nat.le_of_ble_eq_true rfl) (Nat.le_of_ble_eq_true rfl) (Nat.le_of_ble_eq_true rfl) pu_I (by decide) dX11_plain_84 (fun r5 σ4 => ?_)
    refine g_pop dX11_plain_87 rfl ?_
    refine g_aload_n 0 0 dX11_plain_88 rfl rfl ?_
    refine g_iload_n 2 2 dX11_plain_89 rfl rfl ?_
    refine g_iload_n 2 2 dX11_plain_90 rfl rfl ?_
    refine g_callVT (fc := fun sς => Chk_join sς x0 x2 x2) (ci := 11) (as := [iv x2, iv x2]) rfl rfl rfl q1965 qs105 q1963 mdX11_239 (ctX11_join x0 x2 x2) rfl (Nat.le_of_ble_eq_true rfl) (Nat.le_of_ble_eq_true rfl) (Nat.le_of_ble_eq_true rfl) pu_V (by decide) dX11_plain_91 (fun _ σ6 => ?_)
    refine g_iconst (v := 1) dX11_plain_94 (by decide) ?_
    exact g_zreturn rfl (by decide +kernel) dX11_plain_95
  refine g_case hx (t := 96) (by decide +kernel) ?_ (fun hx => ?_)
  · exact gX11_plain_p96 _ _ _ _
  refine g_case hx (t := 96) (by decide +kernel) ?_ (fun hx => ?_)
  · exact gX11_plain_p96 _ _ _ _
  refine g_case hx (t := 96) (by decide +kernel) ?_ (fun hx => ?_)
  · exact gX11_plain_p96 _ _ _ _
  refine g_case hx (t := 96) (by decide +kernel) ?_ (fun hx => ?_)
  · exact gX11_plain_p96 _ _ _ _
  refine g_case hx (t := 96) (by decide +kernel) ?_ (fun hx => ?_)
  · exact gX11_plain_p96 _ _ _ _
  refine g_case hx (t := 104) (by decide +kernel) ?_ (fun hx => ?_)
  · refine g_aload_n 0 0 dX11_plain_104 rfl rfl ?_
    refine g_aload_n 0 0 dX11_plain_105 rfl rfl ?_
    refine g_getR fdX11_44 dX11_plain_106 ?_
    refine g_getR fdX11_224 dX11_plain_109 ?_
    refine g_iload_n 2 2 dX11_plain_112 rfl rfl ?_
    refine g_callVT (fc := fun sς => Chk_named sς x0 (gR σ (gR σ x0 1) 2) x2) (ci := 11) (as := [av (gR σ (gR σ x0 1) 2), iv x2]) rfl rfl rfl q1945 qs100 q1943 mdX11_214 (ctX11_named x0 (gR σ (gR σ x0 1) 2) x2) rfl (Nat.le_of_ble_eq_true rfl) (Nat.le_of_ble_eq_true rfl) (Nat.le_of_ble_eq_true rfl) pu_I (by decide) dX11_plain_113 (fun r8 σ7 => ?_)
    refine g_istore_n 3 dX11_plain_116 rfl (by decide) rfl ?_
    refine g_aload_n 0 1 dX11_plain_117 rfl rfl ?_
    refine g_bipush (v := 127) dX11_plain_118 (by decide) ?_
    refine g_iload_n 3 0 dX11_plain_120 rfl rfl ?_
    refine g_callVT (fc := fun sς => Chk_turn sς x0 (127 : Int32) r8) (ci := 11) (as := [iv (127 : Int32), iv r8]) rfl rfl rfl q1969 qs106 q1967 mdX11_161 (ctX11_turn x0 (127 : Int32) r8) rfl (Nat.le_of_ble_eq_true rfl) (Nat.le_of_ble_eq_true rfl) (Nat.le_of_ble_eq_true rfl) pu_V (by decide) dX11_plain_121 (fun _ σ9 => ?_)
    refine g_iconst (v := 1) dX11_plain_124 (by decide) ?_
    exact g_zreturn rfl (by decide +kernel) dX11_plain_125
  refine g_case hx (t := 126) (by decide +kernel) ?_ (fun hx => ?_)
  · refine g_aload_n 0 0 dX11_plain_126 rfl rfl ?_
    refine g_aload_n 0 0 dX11_plain_127 rfl rfl ?_
    refine g_aload_n 0 0 dX11_plain_128 rfl rfl ?_
    refine g_getR fdX11_44 dX11_plain_129 ?_
    refine g_getR fdX11_224 dX11_plain_132 ?_
    refine g_iload_n 2 2 dX11_plain_135 rfl rfl ?_
    refine g_callVT (fc := fun sς => Chk_named sς x0 (gR σ (gR σ x0 1) 2) x2) (ci := 11) (as := [av (gR σ (gR σ x0 1) 2), iv x2]) rfl rfl rfl q1945 qs100 q1943 mdX11_214 (ctX11_named x0 (gR σ (gR σ x0 1) 2) x2) rfl (Nat.le_of_ble_eq_true rfl) (Nat.le_of_ble_eq_true rfl) (Nat.le_of_ble_eq_true rfl) pu_I (by decide) dX11_plain_136 (fun r11 σ10 => ?_)
    refine g_callVT (fc := fun sς => Chk_take sς x0 r11) (ci := 11) (as := [iv r11]) rfl rfl rfl q1837 qs80 q1835 mdX11_149 (ctX11_take x0 r11) rfl (Nat.le_of_ble_eq_true rfl) (Nat.le_of_ble_eq_true rfl) (Nat.le_of_ble_eq_true rfl) pu_I (by decide) dX11_plain_139 (fun r13 σ12 => ?_)
    refine g_pop dX11_plain_142 rfl ?_
    refine g_aload_n 0 0 dX11_plain_143 rfl rfl ?_
    refine g_bipush (v := 127) dX11_plain_144 (by decide) ?_
    refine g_callVT (fc := fun sς => Chk_take sς x0 (127 : Int32)) (ci := 11) (as := [iv (127 : Int32)]) rfl rfl rfl q1837 qs80 q1835 mdX11_149 (ctX11_take x0 (127 : Int32)) rfl (Nat.le_of_ble_eq_true rfl) (Nat.le_of_ble_eq_true rfl) (Nat.le_of_ble_eq_true rfl) pu_I (by decide) dX11_plain_146 (fun r15 σ14 => ?_)
    refine g_pop dX11_plain_149 rfl ?_
    refine g_iconst (v := 1) dX11_plain_150 (by decide) ?_
    exact g_zreturn rfl (by decide +kernel) dX11_plain_151
  refine g_dflt (t := 152) (tswT_d (by decide +kernel) (by decide +kernel) hx) ?_
  refine g_iconst (v := 0) dX11_plain_152 (by decide) ?_
  exact g_zreturn rfl (by decide +kernel) dX11_plain_153
