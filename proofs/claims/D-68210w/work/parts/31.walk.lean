set_option maxRecDepth 100000
theorem V.dX17_signed_0 : decode cX17_signed 0 = .ok (.iload_n 1, 1) := by decide +kernel
theorem V.dX17_signed_1 : decode cX17_signed 1 = .ok (.bipush 64, 2) := by decide +kernel
theorem V.dX17_signed_3 : decode cX17_signed 3 = .ok (.if_icmp .ne 8, 3) := by decide +kernel
theorem V.dX17_signed_6 : decode cX17_signed 6 = .ok (.bipush 10, 2) := by decide +kernel
theorem V.dX17_signed_8 : decode cX17_signed 8 = .ok (.goto 4, 3) := by decide +kernel
theorem V.dX17_signed_11 : decode cX17_signed 11 = .ok (.iconst 5, 1) := by decide +kernel
theorem V.dX17_signed_12 : decode cX17_signed 12 = .ok (.istore_n 2, 1) := by decide +kernel
theorem V.dX17_signed_13 : decode cX17_signed 13 = .ok (.lconst 0, 1) := by decide +kernel
theorem V.dX17_signed_14 : decode cX17_signed 14 = .ok (.lstore_n 3, 1) := by decide +kernel
theorem V.dX17_signed_15 : decode cX17_signed 15 = .ok (.iconst 0, 1) := by decide +kernel
theorem V.dX17_signed_16 : decode cX17_signed 16 = .ok (.istore 5, 2) := by decide +kernel
theorem V.dX17_signed_18 : decode cX17_signed 18 = .ok (.iload 5, 2) := by decide +kernel
theorem V.dX17_signed_20 : decode cX17_signed 20 = .ok (.iload_n 2, 1) := by decide +kernel
theorem V.dX17_signed_21 : decode cX17_signed 21 = .ok (.if_icmp .ge 158, 3) := by decide +kernel
theorem V.dX17_signed_24 : decode cX17_signed 24 = .ok (.aload_n 0, 1) := by decide +kernel
theorem V.dX17_signed_25 : decode cX17_signed 25 = .ok (.invokevirtual 264, 3) := by decide +kernel
theorem V.dX17_signed_28 : decode cX17_signed 28 = .ok (.istore 6, 2) := by decide +kernel
theorem V.dX17_signed_30 : decode cX17_signed 30 = .ok (.iload 5, 2) := by decide +kernel
theorem V.dX17_signed_32 : decode cX17_signed 32 = .ok (.iload_n 2, 1) := by decide +kernel
theorem V.dX17_signed_33 : decode cX17_signed 33 = .ok (.iconst 1, 1) := by decide +kernel
theorem V.dX17_signed_34 : decode cX17_signed 34 = .ok (.isub, 1) := by decide +kernel
theorem V.dX17_signed_35 : decode cX17_signed 35 = .ok (.if_icmp .ne 75, 3) := by decide +kernel
theorem V.dX17_signed_38 : decode cX17_signed 38 = .ok (.iload_n 1, 1) := by decide +kernel
theorem V.dX17_signed_39 : decode cX17_signed 39 = .ok (.bipush 7, 2) := by decide +kernel
theorem V.dX17_signed_41 : decode cX17_signed 41 = .ok (.iload 5, 2) := by decide +kernel
theorem V.dX17_signed_43 : decode cX17_signed 43 = .ok (.imul, 1) := by decide +kernel
theorem V.dX17_signed_44 : decode cX17_signed 44 = .ok (.isub, 1) := by decide +kernel
theorem V.dX17_signed_45 : decode cX17_signed 45 = .ok (.istore 7, 2) := by decide +kernel
theorem V.dX17_signed_47 : decode cX17_signed 47 = .ok (.iload 6, 2) := by decide +kernel
theorem V.dX17_signed_49 : decode cX17_signed 49 = .ok (.bipush 127, 2) := by decide +kernel
theorem V.dX17_signed_51 : decode cX17_signed 51 = .ok (.iand, 1) := by decide +kernel
theorem V.dX17_signed_52 : decode cX17_signed 52 = .ok (.iload 7, 2) := by decide +kernel
theorem V.dX17_signed_54 : decode cX17_signed 54 = .ok (.ishr, 1) := by decide +kernel
theorem V.dX17_signed_55 : decode cX17_signed 55 = .ok (.istore 8, 2) := by decide +kernel
theorem V.dX17_signed_57 : decode cX17_signed 57 = .ok (.iload 6, 2) := by decide +kernel
theorem V.dX17_signed_59 : decode cX17_signed 59 = .ok (.iload 7, 2) := by decide +kernel
theorem V.dX17_signed_61 : decode cX17_signed 61 = .ok (.iconst 1, 1) := by decide +kernel
theorem V.dX17_signed_62 : decode cX17_signed 62 = .ok (.isub, 1) := by decide +kernel
theorem V.dX17_signed_63 : decode cX17_signed 63 = .ok (.ishr, 1) := by decide +kernel
theorem V.dX17_signed_64 : decode cX17_signed 64 = .ok (.iconst 1, 1) := by decide +kernel
theorem V.dX17_signed_65 : decode cX17_signed 65 = .ok (.iand, 1) := by decide +kernel
theorem V.dX17_signed_66 : decode cX17_signed 66 = .ok (.istore 9, 2) := by decide +kernel
theorem V.dX17_signed_68 : decode cX17_signed 68 = .ok (.iload 6, 2) := by decide +kernel
theorem V.dX17_signed_70 : decode cX17_signed 70 = .ok (.bipush 127, 2) := by decide +kernel
theorem V.dX17_signed_72 : decode cX17_signed 72 = .ok (.if_icmp .gt 27, 3) := by decide +kernel
theorem V.dX17_signed_75 : decode cX17_signed 75 = .ok (.iload 8, 2) := by decide +kernel
theorem V.dX17_signed_77 : decode cX17_signed 77 = .ok (.iload 9, 2) := by decide +kernel
theorem V.dX17_signed_79 : decode cX17_signed 79 = .ok (.iconst 1, 1) := by decide +kernel
theorem V.dX17_signed_80 : decode cX17_signed 80 = .ok (.if_icmp .ne 15, 3) := by decide +kernel
theorem V.dX17_signed_83 : decode cX17_signed 83 = .ok (.iconst 1, 1) := by decide +kernel
theorem V.dX17_signed_84 : decode cX17_signed 84 = .ok (.bipush 7, 2) := by decide +kernel
theorem V.dX17_signed_86 : decode cX17_signed 86 = .ok (.iload 7, 2) := by decide +kernel
theorem V.dX17_signed_88 : decode cX17_signed 88 = .ok (.isub, 1) := by decide +kernel
theorem V.dX17_signed_89 : decode cX17_signed 89 = .ok (.ishl, 1) := by decide +kernel
theorem V.dX17_signed_90 : decode cX17_signed 90 = .ok (.iconst 1, 1) := by decide +kernel
theorem V.dX17_signed_91 : decode cX17_signed 91 = .ok (.isub, 1) := by decide +kernel
theorem V.dX17_signed_92 : decode cX17_signed 92 = .ok (.goto 4, 3) := by decide +kernel
theorem V.dX17_signed_95 : decode cX17_signed 95 = .ok (.iconst 0, 1) := by decide +kernel
theorem V.dX17_signed_96 : decode cX17_signed 96 = .ok (.if_icmp .eq 14, 3) := by decide +kernel
theorem V.dX17_signed_99 : decode cX17_signed 99 = .ok (.aload_n 0, 1) := by decide +kernel
theorem V.dX17_signed_100 : decode cX17_signed 100 = .ok (.iconst 4, 1) := by decide +kernel
theorem V.dX17_signed_101 : decode cX17_signed 101 = .ok (.aload_n 0, 1) := by decide +kernel
theorem V.dX17_signed_102 : decode cX17_signed 102 = .ok (.getfield 251, 3) := by decide +kernel
theorem V.dX17_signed_105 : decode cX17_signed 105 = .ok (.iconst 1, 1) := by decide +kernel
theorem V.dX17_signed_106 : decode cX17_signed 106 = .ok (.isub, 1) := by decide +kernel
theorem V.dX17_signed_107 : decode cX17_signed 107 = .ok (.invokevirtual 257, 3) := by decide +kernel
theorem V.dX17_signed_110 : decode cX17_signed 110 = .ok (.lload_n 3, 1) := by decide +kernel
theorem V.dX17_signed_111 : decode cX17_signed 111 = .ok (.iload 6, 2) := by decide +kernel
theorem V.dX17_signed_113 : decode cX17_signed 113 = .ok (.bipush 127, 2) := by decide +kernel
theorem V.dX17_signed_115 : decode cX17_signed 115 = .ok (.iand, 1) := by decide +kernel
theorem V.dX17_signed_116 : decode cX17_signed 116 = .ok (.i2l, 1) := by decide +kernel
theorem V.dX17_signed_117 : decode cX17_signed 117 = .ok (.bipush 7, 2) := by decide +kernel
theorem V.dX17_signed_119 : decode cX17_signed 119 = .ok (.iload 5, 2) := by decide +kernel
theorem V.dX17_signed_121 : decode cX17_signed 121 = .ok (.imul, 1) := by decide +kernel
theorem V.dX17_signed_122 : decode cX17_signed 122 = .ok (.lshl, 1) := by decide +kernel
theorem V.dX17_signed_123 : decode cX17_signed 123 = .ok (.lor, 1) := by decide +kernel
theorem V.dX17_signed_124 : decode cX17_signed 124 = .ok (.lstore_n 3, 1) := by decide +kernel
theorem V.dX17_signed_125 : decode cX17_signed 125 = .ok (.iload 6, 2) := by decide +kernel
theorem V.dX17_signed_127 : decode cX17_signed 127 = .ok (.sipush 128, 3) := by decide +kernel
theorem V.dX17_signed_130 : decode cX17_signed 130 = .ok (.if_icmp .ge 43, 3) := by decide +kernel
theorem V.dX17_signed_133 : decode cX17_signed 133 = .ok (.bipush 7, 2) := by decide +kernel
theorem V.dX17_signed_135 : decode cX17_signed 135 = .ok (.iload 5, 2) := by decide +kernel
theorem V.dX17_signed_137 : decode cX17_signed 137 = .ok (.imul, 1) := by decide +kernel
theorem V.dX17_signed_138 : decode cX17_signed 138 = .ok (.bipush 7, 2) := by decide +kernel
theorem V.dX17_signed_140 : decode cX17_signed 140 = .ok (.iadd, 1) := by decide +kernel
theorem V.dX17_signed_141 : decode cX17_signed 141 = .ok (.bipush 64, 2) := by decide +kernel
theorem V.dX17_signed_143 : decode cX17_signed 143 = .ok (.if_icmp .ge 28, 3) := by decide +kernel
theorem V.dX17_signed_146 : decode cX17_signed 146 = .ok (.iload 6, 2) := by decide +kernel
theorem V.dX17_signed_148 : decode cX17_signed 148 = .ok (.bipush 64, 2) := by decide +kernel
theorem V.dX17_signed_150 : decode cX17_signed 150 = .ok (.iand, 1) := by decide +kernel
theorem V.dX17_signed_151 : decode cX17_signed 151 = .ok (.ifCond .eq 20, 3) := by decide +kernel
theorem V.dX17_signed_154 : decode cX17_signed 154 = .ok (.lload_n 3, 1) := by decide +kernel
theorem V.dX17_signed_155 : decode cX17_signed 155 = .ok (.ldc2_w 268, 3) := by decide +kernel
theorem V.dX17_signed_158 : decode cX17_signed 158 = .ok (.bipush 7, 2) := by decide +kernel
theorem V.dX17_signed_160 : decode cX17_signed 160 = .ok (.iload 5, 2) := by decide +kernel
theorem V.dX17_signed_162 : decode cX17_signed 162 = .ok (.imul, 1) := by decide +kernel
theorem V.dX17_signed_163 : decode cX17_signed 163 = .ok (.bipush 7, 2) := by decide +kernel
theorem V.dX17_signed_165 : decode cX17_signed 165 = .ok (.iadd, 1) := by decide +kernel
theorem V.dX17_signed_166 : decode cX17_signed 166 = .ok (.lshl, 1) := by decide +kernel
theorem V.dX17_signed_167 : decode cX17_signed 167 = .ok (.lor, 1) := by decide +kernel
theorem V.dX17_signed_168 : decode cX17_signed 168 = .ok (.goto 4, 3) := by decide +kernel
theorem V.dX17_signed_171 : decode cX17_signed 171 = .ok (.lload_n 3, 1) := by decide +kernel
theorem V.dX17_signed_172 : decode cX17_signed 172 = .ok (.lreturn, 1) := by decide +kernel
theorem V.dX17_signed_173 : decode cX17_signed 173 = .ok (.iinc 5 1, 3) := by decide +kernel
theorem V.dX17_signed_176 : decode cX17_signed 176 = .ok (.goto (-158), 3) := by decide +kernel
theorem V.dX17_signed_179 : decode cX17_signed 179 = .ok (.lload_n 3, 1) := by decide +kernel
theorem V.dX17_signed_180 : decode cX17_signed 180 = .ok (.lreturn, 1) := by decide +kernel
/-! ModuleEngineModel.signed(I)J -/
def V.Mdl_signed_p110 (rec18 : HS → Nat → Int32 → Int32 → Int64 → Int32 → Option ((Nat ⊕ Int64) × HS)) (σ : HS) (x0 : Nat) (x1 : Int32) (x2 : Int32) (x3 : Int64) (x5 : Int32) (x6 : Int32) : Option ((Nat ⊕ Int64) × HS) :=
  bn (x3 ||| (lshl ((x6 &&& (127 : Int32)).toInt64) ((7 : Int32) * x5))) fun y1 =>
  if (128 : Int32) ≤ x6 then (
    bn (x5 + (1 : Int32)) fun y2 =>
    rec18 σ x0 x1 x2 y1 y2)
  else (
    if (64 : Int32) ≤ (((7 : Int32) * x5) + (7 : Int32)) then (
      some (.inr y1, σ))
    else (
      if (x6 &&& (64 : Int32)) = 0 then (
        some (.inr y1, σ))
      else (
        some (.inr (y1 ||| (lshl (-1 : Int64) (((7 : Int32) * x5) + (7 : Int32)))), σ))))
theorem V.gX17_signed_p110 {X : CX} (rec18 : HS → Nat → Int32 → Int32 → Int64 → Int32 → Option ((Nat ⊕ Int64) × HS)) (hrec18 : ∀ (σ : HS) (x0 : Nat) (x1 : Int32) (x2 : Int32) (x3 : Int64) (x5 : Int32), G X RX17 "signed" cX17_signed 10 (some .long) 2 42 (enX enJ (cxz X)) 18 [(0, av x0), (1, iv x1), (2, iv x2), (3, jv x3), (5, iv x5)] [] σ (rec18 σ x0 x1 x2 x3 x5)) (σ : HS) (x0 : Nat) (x1 : Int32) (x2 : Int32) (x3 : Int64) (x5 : Int32) (x6 : Int32) : G X RX17 "signed" cX17_signed 10 (some .long) 2 42 (enX enJ (cxz X)) 110 [(0, av x0), (1, iv x1), (2, iv x2), (3, jv x3), (5, iv x5), (6, iv x6)] [] σ (Mdl_signed_p110 rec18 σ x0 x1 x2 x3 x5 x6) := by
  unfold Mdl_signed_p110
  refine g_lload_n 3 3 dX17_signed_110 rfl rfl ?_
  refine g_iload 5 dX17_signed_111 rfl ?_
  refine g_bipush (v := 127) dX17_signed_113 (by decide) ?_
  refine g_iand dX17_signed_115 ?_
  refine g_i2l dX17_signed_116 ?_
  refine g_bipush (v := 7) dX17_signed_117 (by decide) ?_
  refine g_iload 4 dX17_signed_119 rfl ?_
  refine g_imul dX17_signed_121 ?_
  refine g_lshl dX17_signed_122 ?_
  refine g_lor dX17_signed_123 ?_
  refine g_nmJ (fun y1 => ?_)
  refine g_lstore_n 3 dX17_signed_124 rfl (by decide) rfl ?_
  refine g_iload 5 dX17_signed_125 rfl ?_
  refine g_sipush (v := 128) dX17_signed_127 (by decide) ?_
  refine g_icmp_ge 173 dX17_signed_130 (by decide) ?_ ?_
  · refine g_iincB (w := 1) 4 dX17_signed_173 rfl (by decide) (by decide) (fun _ => rfl) (fun y2 => ?_)
    refine g_goto 18 dX17_signed_176 (by decide) ?_
    refine G.sub [2, 3, 4, 1, 0] rfl ?_
    exact hrec18 _ _ _ _ _ _
  · refine g_bipush (v := 7) dX17_signed_133 (by decide) ?_
    refine g_iload 4 dX17_signed_135 rfl ?_
    refine g_imul dX17_signed_137 ?_
    refine g_bipush (v := 7) dX17_signed_138 (by decide) ?_
    refine g_iadd dX17_signed_140 ?_
    refine g_bipush (v := 64) dX17_signed_141 (by decide) ?_
    refine g_icmp_ge 171 dX17_signed_143 (by decide) ?_ ?_
    · refine g_lload_n 3 0 dX17_signed_171 rfl rfl ?_
      exact g_lreturn rfl dX17_signed_172
    · refine g_iload 5 dX17_signed_146 rfl ?_
      refine g_bipush (v := 64) dX17_signed_148 (by decide) ?_
      refine g_iand dX17_signed_150 ?_
      refine g_if_eq 171 dX17_signed_151 (by decide) ?_ ?_
      · refine g_lload_n 3 0 dX17_signed_171 rfl rfl ?_
        exact g_lreturn rfl dX17_signed_172
      · refine g_lload_n 3 0 dX17_signed_154 rfl rfl ?_
        refine g_ldc2 q3673 dX17_signed_155 ?_
        refine g_bipush (v := 7) dX17_signed_158 (by decide) ?_
        refine g_iload 4 dX17_signed_160 rfl ?_
        refine g_imul dX17_signed_162 ?_
        refine g_bipush (v := 7) dX17_signed_163 (by decide) ?_
        refine g_iadd dX17_signed_165 ?_
        refine g_lshl dX17_signed_166 ?_
        refine g_lor dX17_signed_167 ?_
        refine g_goto 172 dX17_signed_168 (by decide) ?_
        exact g_lreturn rfl dX17_signed_172
def V.Mdl_signed_p99 (rec18 : HS → Nat → Int32 → Int32 → Int64 → Int32 → Option ((Nat ⊕ Int64) × HS)) (σ : HS) (x0 : Nat) (x1 : Int32) (x2 : Int32) (x3 : Int64) (x5 : Int32) (x6 : Int32) : Option ((Nat ⊕ Int64) × HS) :=
  ck (tg σ x0 = 18) <|
  ck (tg σ x0 = 18) <| clT (Mdl_stops σ x0 (4 : Int32) ((gI σ x0 11) - (1 : Int32))) fun _ σ1 =>
  Mdl_signed_p110 rec18 σ1 x0 x1 x2 x3 x5 x6
theorem V.gX17_signed_p99 {X : CX} (rec18 : HS → Nat → Int32 → Int32 → Int64 → Int32 → Option ((Nat ⊕ Int64) × HS)) (hrec18 : ∀ (σ : HS) (x0 : Nat) (x1 : Int32) (x2 : Int32) (x3 : Int64) (x5 : Int32), G X RX17 "signed" cX17_signed 10 (some .long) 2 42 (enX enJ (cxz X)) 18 [(0, av x0), (1, iv x1), (2, iv x2), (3, jv x3), (5, iv x5)] [] σ (rec18 σ x0 x1 x2 x3 x5)) (σ : HS) (x0 : Nat) (x1 : Int32) (x2 : Int32) (x3 : Int64) (x5 : Int32) (x6 : Int32) : G X RX17 "signed" cX17_signed 10 (some .long) 2 42 (enX enJ (cxz X)) 99 [(0, av x0), (1, iv x1), (2, iv x2), (3, jv x3), (5, iv x5), (6, iv x6)] [] σ (Mdl_signed_p99 rec18 σ x0 x1 x2 x3 x5 x6) := by
  unfold Mdl_signed_p99
  refine g_aload_n 0 0 dX17_signed_99 rfl rfl ?_
  refine g_iconst (v := 4) dX17_signed_100 (by decide) ?_
  refine g_aload_n 0 0 dX17_signed_101 rfl rfl ?_
  refine g_getI fdX17_251 dX17_signed_102 ?_
  refine g_iconst (v := 1) dX17_signed_105 (by decide) ?_
  refine g_isub dX17_signed_106 ?_
  refine g_callVT (fc := fun sς => Mdl_stops sς x0 (4 : Int32) ((gI σ x0 11) - (1 : Int32))) (ci := 17) (as := [iv (4 : Int32), iv ((gI σ x0 11) - (1 : Int32))]) rfl rfl rfl q3606 qs214 q3604 mdX17_257 (ctX17_stops x0 (4 : Int32) ((gI σ x0 11) - (1 : Int32))) rfl (Nat.le_of_ble_eq_true rfl) (Nat.le_of_ble_eq_true rfl) (Nat.le_of_ble_eq_true rfl) pu_V (by decide) dX17_signed_107 (fun _ σ1 => ?_)
  exact gX17_signed_p110 rec18 hrec18 _ _ _ _ _ _ _
def V.Mdl_signed_p96 (rec18 : HS → Nat → Int32 → Int32 → Int64 → Int32 → Option ((Nat ⊕ Int64) × HS)) (σ : HS) (x0 : Nat) (x1 : Int32) (x2 : Int32) (x3 : Int64) (x5 : Int32) (x6 : Int32) (s0 : Int32) (s1 : Int32) : Option ((Nat ⊕ Int64) × HS) :=
  if s1 = s0 then (
    Mdl_signed_p110 rec18 σ x0 x1 x2 x3 x5 x6)
  else (
    Mdl_signed_p99 rec18 σ x0 x1 x2 x3 x5 x6)
theorem V.gX17_signed_p96 {X : CX} (rec18 : HS → Nat → Int32 → Int32 → Int64 → Int32 → Option ((Nat ⊕ Int64) × HS)) (hrec18 : ∀ (σ : HS) (x0 : Nat) (x1 : Int32) (x2 : Int32) (x3 : Int64) (x5 : Int32), G X RX17 "signed" cX17_signed 10 (some .long) 2 42 (enX enJ (cxz X)) 18 [(0, av x0), (1, iv x1), (2, iv x2), (3, jv x3), (5, iv x5)] [] σ (rec18 σ x0 x1 x2 x3 x5)) (σ : HS) (x0 : Nat) (x1 : Int32) (x2 : Int32) (x3 : Int64) (x5 : Int32) (x6 : Int32) (s0 : Int32) (s1 : Int32) : G X RX17 "signed" cX17_signed 10 (some .long) 2 42 (enX enJ (cxz X)) 96 [(0, av x0), (1, iv x1), (2, iv x2), (3, jv x3), (5, iv x5), (6, iv x6)] [iv s0, iv s1] σ (Mdl_signed_p96 rec18 σ x0 x1 x2 x3 x5 x6 s0 s1) := by
  unfold Mdl_signed_p96
  refine g_icmp_eq 110 dX17_signed_96 (by decide) ?_ ?_
  · exact gX17_signed_p110 rec18 hrec18 _ _ _ _ _ _ _
  · exact gX17_signed_p99 rec18 hrec18 _ _ _ _ _ _ _
def V.Mdl_signed_p18  : Nat → HS → Nat → Int32 → Int32 → Int64 → Int32 → Option ((Nat ⊕ Int64) × HS)
  | 0, _, _, _, _, _, _ => none
  | n + 1, σ, x0, x1, x2, x3, x5 =>
    if x2 ≤ x5 then (
      some (.inr x3, σ))
    else (
      ck (tg σ x0 = 18) <| clT (Mdl_next σ x0 ) fun r2 σ1 =>
      if x5 = (x2 - (1 : Int32)) then (
        bn (x1 - ((7 : Int32) * x5)) fun y3 =>
        bn ((r2 &&& (127 : Int32)) >>> (y3 &&& 31)) fun y4 =>
        bn ((r2 >>> ((y3 - (1 : Int32)) &&& 31)) &&& (1 : Int32)) fun y5 =>
        if (127 : Int32) < r2 then (
          Mdl_signed_p99 (Mdl_signed_p18 n) σ1 x0 x1 x2 x3 x5 r2)
        else (
          if y5 = (1 : Int32) then (
            Mdl_signed_p96 (Mdl_signed_p18 n) σ1 x0 x1 x2 x3 x5 r2 (((1 : Int32) <<< (((7 : Int32) - y3) &&& 31)) - (1 : Int32)) y4)
          else (
            Mdl_signed_p96 (Mdl_signed_p18 n) σ1 x0 x1 x2 x3 x5 r2 (0 : Int32) y4)))
      else (
        Mdl_signed_p110 (Mdl_signed_p18 n) σ1 x0 x1 x2 x3 x5 r2))
theorem V.gX17_signed_p18 {X : CX}  : ∀ (n : Nat) (σ : HS) (x0 : Nat) (x1 : Int32) (x2 : Int32) (x3 : Int64) (x5 : Int32), G X RX17 "signed" cX17_signed 10 (some .long) 2 42 (enX enJ (cxz X)) 18 [(0, av x0), (1, iv x1), (2, iv x2), (3, jv x3), (5, iv x5)] [] σ (Mdl_signed_p18 n σ x0 x1 x2 x3 x5)
  | 0, σ, x0, x1, x2, x3, x5 => by rw [Mdl_signed_p18]; exact G.nul
  | n + 1, σ, x0, x1, x2, x3, x5 => by
    rw [Mdl_signed_p18]
    refine g_iload 4 dX17_signed_18 rfl ?_
    refine g_iload_n 2 2 dX17_signed_20 rfl rfl ?_
    refine g_icmp_ge 179 dX17_signed_21 (by decide) ?_ ?_
    · refine g_lload_n 3 3 dX17_signed_179 rfl rfl ?_
      exact g_lreturn rfl dX17_signed_180
    · refine g_aload_n 0 0 dX17_signed_24 rfl rfl ?_
      refine g_callVT (fc := fun sς => Mdl_next sς x0 ) (ci := 17) (as := []) rfl rfl rfl q3602 qs213 q3600 mdX17_264 (ctX17_next x0 ) rfl (Nat.le_of_ble_eq_true rfl) (Nat.le_of_ble_eq_true rfl) (Nat.le_of_ble_eq_true rfl) pu_I (by decide) dX17_signed_25 (fun r2 σ1 => ?_)
      refine g_istore dX17_signed_28 (by decide) rfl ?_
      refine g_iload 5 dX17_signed_30 rfl ?_
      refine g_iload_n 2 3 dX17_signed_32 rfl rfl ?_
      refine g_iconst (v := 1) dX17_signed_33 (by decide) ?_
      refine g_isub dX17_signed_34 ?_
      refine g_icmp_ne 110 dX17_signed_35 (by decide) ?_ ?_
      · refine G.sub [1, 2, 3, 4, 5, 0] rfl ?_
        exact gX17_signed_p110 (Mdl_signed_p18 n) (gX17_signed_p18 n) _ _ _ _ _ _ _
      · refine g_iload_n 1 2 dX17_signed_38 rfl rfl ?_
        refine g_bipush (v := 7) dX17_signed_39 (by decide) ?_
        refine g_iload 5 dX17_signed_41 rfl ?_
        refine g_imul dX17_signed_43 ?_
        refine g_isub dX17_signed_44 ?_
        refine g_nmI (fun y3 => ?_)
        refine g_istore dX17_signed_45 (by decide) rfl ?_
        refine g_iload 1 dX17_signed_47 rfl ?_
        refine g_bipush (v := 127) dX17_signed_49 (by decide) ?_
        refine g_iand dX17_signed_51 ?_
        refine g_iload 0 dX17_signed_52 rfl ?_
        refine g_ishr dX17_signed_54 ?_
        refine g_nmI (fun y4 => ?_)
        refine g_istore dX17_signed_55 (by decide) rfl ?_
        refine g_iload 2 dX17_signed_57 rfl ?_
        refine g_iload 1 dX17_signed_59 rfl ?_
        refine g_iconst (v := 1) dX17_signed_61 (by decide) ?_
        refine g_isub dX17_signed_62 ?_
        refine g_ishr dX17_signed_63 ?_
        refine g_iconst (v := 1) dX17_signed_64 (by decide) ?_
        refine g_iand dX17_signed_65 ?_
        refine g_nmI (fun y5 => ?_)
        refine g_istore dX17_signed_66 (by decide) rfl ?_
        refine g_iload 3 dX17_signed_68 rfl ?_
        refine g_bipush (v := 127) dX17_signed_70 (by decide) ?_
        refine g_icmp_gt 99 dX17_signed_72 (by decide) ?_ ?_
        · refine G.sub [4, 5, 6, 7, 8, 3] rfl ?_
          exact gX17_signed_p99 (Mdl_signed_p18 n) (gX17_signed_p18 n) _ _ _ _ _ _ _
        · refine g_iload 1 dX17_signed_75 rfl ?_
          refine g_iload 0 dX17_signed_77 rfl ?_
          refine g_iconst (v := 1) dX17_signed_79 (by decide) ?_
          refine g_icmp_ne 95 dX17_signed_80 (by decide) ?_ ?_
          · refine g_iconst (v := 0) dX17_signed_95 (by decide) ?_
            refine G.sub [4, 5, 6, 7, 8, 3] rfl ?_
            exact gX17_signed_p96 (Mdl_signed_p18 n) (gX17_signed_p18 n) _ _ _ _ _ _ _ _ _
          · refine g_iconst (v := 1) dX17_signed_83 (by decide) ?_
            refine g_bipush (v := 7) dX17_signed_84 (by decide) ?_
            refine g_iload 2 dX17_signed_86 rfl ?_
            refine g_isub dX17_signed_88 ?_
            refine g_ishl dX17_signed_89 ?_
            refine g_iconst (v := 1) dX17_signed_90 (by decide) ?_
            refine g_isub dX17_signed_91 ?_
            refine g_goto 96 dX17_signed_92 (by decide) ?_
            refine G.sub [4, 5, 6, 7, 8, 3] rfl ?_
            exact gX17_signed_p96 (Mdl_signed_p18 n) (gX17_signed_p18 n) _ _ _ _ _ _ _ _ _
def V.Mdl_signed_p12  (σ : HS) (x0 : Nat) (x1 : Int32) (s0 : Int32) : Option ((Nat ⊕ Int64) × HS) :=
  Mdl_signed_p18 FU σ x0 x1 s0 (0 : Int64) (0 : Int32)
theorem V.gX17_signed_p12 {X : CX}  (σ : HS) (x0 : Nat) (x1 : Int32) (s0 : Int32) : G X RX17 "signed" cX17_signed 10 (some .long) 2 42 (enX enJ (cxz X)) 12 [(0, av x0), (1, iv x1)] [iv s0] σ (Mdl_signed_p12 σ x0 x1 s0) := by
  unfold Mdl_signed_p12
  refine g_istore_n 2 dX17_signed_12 rfl (by decide) rfl ?_
  refine g_lconst (v := 0) dX17_signed_13 (by decide) ?_
  refine g_lstore_n 3 dX17_signed_14 rfl (by decide) rfl ?_
  refine g_iconst (v := 0) dX17_signed_15 (by decide) ?_
  refine g_istore dX17_signed_16 (by decide) rfl ?_
  refine G.sub [3, 4, 2, 1, 0] rfl ?_
  exact gX17_signed_p18 FU _ _ _ _ _ _
def V.Mdl_signed (σ : HS) (x0 : Nat) (x1 : Int32) : Option ((Nat ⊕ Int64) × HS) :=
  if x1 = (64 : Int32) then (
    Mdl_signed_p12 σ x0 x1 (10 : Int32))
  else (
    Mdl_signed_p12 σ x0 x1 (5 : Int32))
theorem V.ctX17_signed (x0 : Nat) (x1 : Int32) : Ct yX17_signed  cX17_signed 10 (some .long) 2 42 eXJ [av x0, iv x1] (fun σ => Mdl_signed σ x0 x1) := by
  refine Ct.of (own := RX17) (nm := "signed") (desc := "(I)J") rfl (by decide) (Nat.le_of_ble_eq_true rfl) (by decide) (fun X σ => ?_)
  show G X RX17 "signed" cX17_signed 10 (some .long) 2 42 (enX enJ (cxz X)) 0 [(0, av x0), (1, iv x1)] [] σ (Mdl_signed σ x0 x1)
  unfold Mdl_signed
  refine g_iload_n 1 1 dX17_signed_0 rfl rfl ?_
  refine g_bipush (v := 64) dX17_signed_1 (by decide) ?_
  refine g_icmp_ne 11 dX17_signed_3 (by decide) ?_ ?_
  · refine g_iconst (v := 5) dX17_signed_11 (by decide) ?_
    exact gX17_signed_p12 _ _ _ _
  · refine g_bipush (v := 10) dX17_signed_6 (by decide) ?_
    refine g_goto 12 dX17_signed_8 (by decide) ?_
    exact gX17_signed_p12 _ _ _ _
theorem V.dX17_blockType_0 : decode cX17_blockType 0 = .ok (.aload_n 0, 1) := by decide +kernel
theorem V.dX17_blockType_1 : decode cX17_blockType 1 = .ok (.getfield 251, 3) := by decide +kernel
theorem V.dX17_blockType_4 : decode cX17_blockType 4 = .ok (.istore_n 1, 1) := by decide +kernel
theorem V.dX17_blockType_5 : decode cX17_blockType 5 = .ok (.aload_n 0, 1) := by decide +kernel
theorem V.dX17_blockType_6 : decode cX17_blockType 6 = .ok (.invokevirtual 264, 3) := by decide +kernel
theorem V.dX17_blockType_9 : decode cX17_blockType 9 = .ok (.istore_n 2, 1) := by decide +kernel
theorem V.dX17_blockType_10 : decode cX17_blockType 10 = .ok (.iload_n 2, 1) := by decide +kernel
theorem V.dX17_blockType_11 : decode cX17_blockType 11 = .ok (.bipush 64, 2) := by decide +kernel
theorem V.dX17_blockType_13 : decode cX17_blockType 13 = .ok (.if_icmp .eq 10, 3) := by decide +kernel
theorem V.dX17_blockType_16 : decode cX17_blockType 16 = .ok (.iload_n 2, 1) := by decide +kernel
theorem V.dX17_blockType_17 : decode cX17_blockType 17 = .ok (.invokestatic 274, 3) := by decide +kernel
theorem V.dX17_blockType_20 : decode cX17_blockType 20 = .ok (.ifCond .eq 4, 3) := by decide +kernel
theorem V.dX17_blockType_23 : decode cX17_blockType 23 = .ok (.return_, 1) := by decide +kernel
theorem V.dX17_blockType_24 : decode cX17_blockType 24 = .ok (.aload_n 0, 1) := by decide +kernel
theorem V.dX17_blockType_25 : decode cX17_blockType 25 = .ok (.iload_n 1, 1) := by decide +kernel
theorem V.dX17_blockType_26 : decode cX17_blockType 26 = .ok (.putfield 251, 3) := by decide +kernel
theorem V.dX17_blockType_29 : decode cX17_blockType 29 = .ok (.aload_n 0, 1) := by decide +kernel
theorem V.dX17_blockType_30 : decode cX17_blockType 30 = .ok (.bipush 33, 2) := by decide +kernel
theorem V.dX17_blockType_32 : decode cX17_blockType 32 = .ok (.invokevirtual 562, 3) := by decide +kernel
theorem V.dX17_blockType_35 : decode cX17_blockType 35 = .ok (.lconst 0, 1) := by decide +kernel
theorem V.dX17_blockType_36 : decode cX17_blockType 36 = .ok (.lcmp, 1) := by decide +kernel
theorem V.dX17_blockType_37 : decode cX17_blockType 37 = .ok (.ifCond .ge 10, 3) := by decide +kernel
theorem V.dX17_blockType_40 : decode cX17_blockType 40 = .ok (.aload_n 0, 1) := by decide +kernel
theorem V.dX17_blockType_41 : decode cX17_blockType 41 = .ok (.bipush 8, 2) := by decide +kernel
theorem V.dX17_blockType_43 : decode cX17_blockType 43 = .ok (.iload_n 1, 1) := by decide +kernel
theorem V.dX17_blockType_44 : decode cX17_blockType 44 = .ok (.invokevirtual 257, 3) := by decide +kernel
theorem V.dX17_blockType_47 : decode cX17_blockType 47 = .ok (.return_, 1) := by decide +kernel
theorem V.mdX17_562 : MD RX17 562 yX17_signed cX17_signed 10 (some .long) 1 := ⟨Or.inl q3706, q377, q3709, by decide, by decide, by decide +kernel⟩
/-! ModuleEngineModel.blockType()V -/
def V.Mdl_blockType (σ : HS) (x0 : Nat) : Option ((Nat ⊕ Unit) × HS) :=
  ck (tg σ x0 = 18) <|
  bn (gI σ x0 11) fun y1 =>
  ck (tg σ x0 = 18) <| clT (Mdl_next σ x0 ) fun r3 σ2 =>
  if r3 = (64 : Int32) then (
    some (.inr (), σ2))
  else (
    cl (Mdl_isType σ2 r3) fun r5 σ4 =>
    if r5 = 0 then (
      ck (tg σ4 x0 = 18) <| bn (sI σ4 x0 11 y1) fun σ6 =>
      ck (tg σ6 x0 = 18) <| clT (Mdl_signed σ6 x0 (33 : Int32)) fun r8 σ7 =>
      if (0 : Int64) ≤ r8 then (
        some (.inr (), σ7))
      else (
        ck (tg σ7 x0 = 18) <| clT (Mdl_stops σ7 x0 (8 : Int32) y1) fun _ σ9 =>
        some (.inr (), σ9)))
    else (
      some (.inr (), σ4)))
theorem V.ctX17_blockType (x0 : Nat) : Ct yX17_blockType  cX17_blockType 3 none 3 71 eXV [av x0] (fun σ => Mdl_blockType σ x0) := by
  refine Ct.of (own := RX17) (nm := "blockType") (desc := "()V") rfl (by decide) (Nat.le_of_ble_eq_true rfl) (by decide) (fun X σ => ?_)
  show G X RX17 "blockType" cX17_blockType 3 none 3 71 (enX enV (cxz X)) 0 [(0, av x0)] [] σ (Mdl_blockType σ x0)
  unfold Mdl_blockType
  refine g_aload_n 0 0 dX17_blockType_0 rfl rfl ?_
  refine g_getI fdX17_251 dX17_blockType_1 ?_
  refine g_nmI (fun y1 => ?_)
  refine g_istore_n 1 dX17_blockType_4 rfl (by decide) rfl ?_
  refine g_aload_n 0 1 dX17_blockType_5 rfl rfl ?_
  refine g_callVT (fc := fun sς => Mdl_next sς x0 ) (ci := 17) (as := []) rfl rfl rfl q3602 qs213 q3600 mdX17_264 (ctX17_next x0 ) rfl (Nat.le_of_ble_eq_true rfl) (Nat.le_of_ble_eq_true rfl) (Nat.le_of_ble_eq_true rfl) pu_I (by decide) dX17_blockType_6 (fun r3 σ2 => ?_)
  refine g_istore_n 2 dX17_blockType_9 rfl (by decide) rfl ?_
  refine g_iload_n 2 0 dX17_blockType_10 rfl rfl ?_
  refine g_bipush (v := 64) dX17_blockType_11 (by decide) ?_
  refine g_icmp_eq 23 dX17_blockType_13 (by decide) ?_ ?_
  · exact g_return rfl dX17_blockType_23
  · refine g_iload_n 2 0 dX17_blockType_16 rfl rfl ?_
    refine g_callS (fc := fun sς => Mdl_isType sς r3) (as := [iv r3]) q3660 mdX17_274 (ctX17_isType r3) rfl (Nat.le_of_ble_eq_true rfl) (Nat.le_of_ble_eq_true rfl) (Nat.le_of_ble_eq_true rfl) pu_I dX17_blockType_17 (fun r5 σ4 => ?_)
    refine g_if_eq 24 dX17_blockType_20 (by decide) ?_ ?_
    · refine g_aload_n 0 2 dX17_blockType_24 rfl rfl ?_
      refine g_iload_n 1 1 dX17_blockType_25 rfl rfl ?_
      refine g_putI fpX17_251 dX17_blockType_26 (fun σ6 => ?_)
      refine g_aload_n 0 2 dX17_blockType_29 rfl rfl ?_
      refine g_bipush (v := 33) dX17_blockType_30 (by decide) ?_
      refine g_callVT (fc := fun sς => Mdl_signed sς x0 (33 : Int32)) (ci := 17) (as := [iv (33 : Int32)]) rfl rfl rfl q3708 qs234 q3706 mdX17_562 (ctX17_signed x0 (33 : Int32)) rfl (Nat.le_of_ble_eq_true rfl) (Nat.le_of_ble_eq_true rfl) (Nat.le_of_ble_eq_true rfl) pu_J (by decide) dX17_blockType_32 (fun r8 σ7 => ?_)
      refine g_lconst (v := 0) dX17_blockType_35 (by decide) ?_
      refine g_lcmp_ge 47 dX17_blockType_36 dX17_blockType_37 (by decide) ?_ ?_
      · exact g_return rfl dX17_blockType_47
      · refine g_aload_n 0 2 dX17_blockType_40 rfl rfl ?_
        refine g_bipush (v := 8) dX17_blockType_41 (by decide) ?_
        refine g_iload_n 1 1 dX17_blockType_43 rfl rfl ?_
        refine g_callVT (fc := fun sς => Mdl_stops sς x0 (8 : Int32) y1) (ci := 17) (as := [iv (8 : Int32), iv y1]) rfl rfl rfl q3606 qs214 q3604 mdX17_257 (ctX17_stops x0 (8 : Int32) y1) rfl (Nat.le_of_ble_eq_true rfl) (Nat.le_of_ble_eq_true rfl) (Nat.le_of_ble_eq_true rfl) pu_V (by decide) dX17_blockType_44 (fun _ σ9 => ?_)
        exact g_return rfl dX17_blockType_47
    · exact g_return rfl dX17_blockType_23
theorem V.dX17_isAlone_0 : decode cX17_isAlone 0 = .ok (.iload_n 0, 1) := by decide +kernel
theorem V.dX17_isAlone_1 : decode cX17_isAlone 1 = .ok (.iconst 2, 1) := by decide +kernel
theorem V.dX17_isAlone_2 : decode cX17_isAlone 2 = .ok (.if_icmp .lt 41, 3) := by decide +kernel
theorem V.dX17_isAlone_5 : decode cX17_isAlone 5 = .ok (.iload_n 0, 1) := by decide +kernel
theorem V.dX17_isAlone_6 : decode cX17_isAlone 6 = .ok (.bipush 15, 2) := by decide +kernel
theorem V.dX17_isAlone_8 : decode cX17_isAlone 8 = .ok (.if_icmp .eq 35, 3) := by decide +kernel
theorem V.dX17_isAlone_11 : decode cX17_isAlone 11 = .ok (.iload_n 0, 1) := by decide +kernel
theorem V.dX17_isAlone_12 : decode cX17_isAlone 12 = .ok (.bipush 26, 2) := by decide +kernel
theorem V.dX17_isAlone_14 : decode cX17_isAlone 14 = .ok (.if_icmp .eq 29, 3) := by decide +kernel
theorem V.dX17_isAlone_17 : decode cX17_isAlone 17 = .ok (.iload_n 0, 1) := by decide +kernel
theorem V.dX17_isAlone_18 : decode cX17_isAlone 18 = .ok (.bipush 27, 2) := by decide +kernel
theorem V.dX17_isAlone_20 : decode cX17_isAlone 20 = .ok (.if_icmp .eq 23, 3) := by decide +kernel
theorem V.dX17_isAlone_23 : decode cX17_isAlone 23 = .ok (.iload_n 0, 1) := by decide +kernel
theorem V.dX17_isAlone_24 : decode cX17_isAlone 24 = .ok (.bipush 69, 2) := by decide +kernel
theorem V.dX17_isAlone_26 : decode cX17_isAlone 26 = .ok (.if_icmp .lt 10, 3) := by decide +kernel
theorem V.dX17_isAlone_29 : decode cX17_isAlone 29 = .ok (.iload_n 0, 1) := by decide +kernel
theorem V.dX17_isAlone_30 : decode cX17_isAlone 30 = .ok (.sipush 196, 3) := by decide +kernel
theorem V.dX17_isAlone_33 : decode cX17_isAlone 33 = .ok (.if_icmp .le 10, 3) := by decide +kernel
theorem V.dX17_isAlone_36 : decode cX17_isAlone 36 = .ok (.iload_n 0, 1) := by decide +kernel
theorem V.dX17_isAlone_37 : decode cX17_isAlone 37 = .ok (.sipush 209, 3) := by decide +kernel
theorem V.dX17_isAlone_40 : decode cX17_isAlone 40 = .ok (.if_icmp .ne 7, 3) := by decide +kernel
theorem V.dX17_isAlone_43 : decode cX17_isAlone 43 = .ok (.iconst 1, 1) := by decide +kernel
theorem V.dX17_isAlone_44 : decode cX17_isAlone 44 = .ok (.goto 4, 3) := by decide +kernel
theorem V.dX17_isAlone_47 : decode cX17_isAlone 47 = .ok (.iconst 0, 1) := by decide +kernel
theorem V.dX17_isAlone_48 : decode cX17_isAlone 48 = .ok (.ireturn, 1) := by decide +kernel
/-! ModuleEngineModel.isAlone(I)Z -/
def V.Mdl_isAlone_p43  (σ : HS)  : Option (Int32 × HS) :=
  some ((1 : Int32), σ)
theorem V.gX17_isAlone_p43 {X : CX}  (σ : HS)  : G X RX17 "isAlone" cX17_isAlone 1 (some .boolean) 0 0 enI 43 [] [] σ (Mdl_isAlone_p43 σ ) := by
  unfold Mdl_isAlone_p43
  refine g_iconst (v := 1) dX17_isAlone_43 (by decide) ?_
  refine g_goto 48 dX17_isAlone_44 (by decide) ?_
  exact g_zreturn rfl (by decide +kernel) dX17_isAlone_48
def V.Mdl_isAlone_p36  (σ : HS) (x0 : Int32) : Option (Int32 × HS) :=
  if x0 = (209 : Int32) then (
    Mdl_isAlone_p43 σ)
  else (
    some ((0 : Int32), σ))
theorem V.gX17_isAlone_p36 {X : CX}  (σ : HS) (x0 : Int32) : G X RX17 "isAlone" cX17_isAlone 1 (some .boolean) 0 0 enI 36 [(0, iv x0)] [] σ (Mdl_isAlone_p36 σ x0) := by
  unfold Mdl_isAlone_p36
  refine g_iload_n 0 0 dX17_isAlone_36 rfl rfl ?_
  refine g_sipush (v := 209) dX17_isAlone_37 (by decide) ?_
  refine g_icmp_ne 47 dX17_isAlone_40 (by decide) ?_ ?_
  · refine g_iconst (v := 0) dX17_isAlone_47 (by decide) ?_
    exact g_zreturn rfl (by decide +kernel) dX17_isAlone_48
  · refine G.sub [] rfl ?_
    exact gX17_isAlone_p43 _
def V.Mdl_isAlone (σ : HS) (x0 : Int32) : Option (Int32 × HS) :=
  if x0 < (2 : Int32) then (
    Mdl_isAlone_p43 σ)
  else (
    if x0 = (15 : Int32) then (
      Mdl_isAlone_p43 σ)
    else (
      if x0 = (26 : Int32) then (
        Mdl_isAlone_p43 σ)
      else (
        if x0 = (27 : Int32) then (
          Mdl_isAlone_p43 σ)
        else (
          if x0 < (69 : Int32) then (
            Mdl_isAlone_p36 σ x0)
          else (
            if x0 ≤ (196 : Int32) then (
              Mdl_isAlone_p43 σ)
            else (
              Mdl_isAlone_p36 σ x0))))))
theorem V.ctX17_isAlone (x0 : Int32) : Ct yX17_isAlone  cX17_isAlone 1 (some .boolean) 0 0 eI [iv x0] (fun σ => Mdl_isAlone σ x0) := by
  refine Ct.of (own := RX17) (nm := "isAlone") (desc := "(I)Z") rfl (by decide) (Nat.le_of_ble_eq_true rfl) (by decide) (fun X σ => ?_)
  show G X RX17 "isAlone" cX17_isAlone 1 (some .boolean) 0 0 enI 0 [(0, iv x0)] [] σ (Mdl_isAlone σ x0)
  unfold Mdl_isAlone
  refine g_iload_n 0 0 dX17_isAlone_0 rfl rfl ?_
  refine g_iconst (v := 2) dX17_isAlone_1 (by decide) ?_
  refine g_icmp_lt 43 dX17_isAlone_2 (by decide) ?_ ?_
  · refine G.sub [] rfl ?_
    exact gX17_isAlone_p43 _
  · refine g_iload_n 0 0 dX17_isAlone_5 rfl rfl ?_
    refine g_bipush (v := 15) dX17_isAlone_6 (by decide) ?_
    refine g_icmp_eq 43 dX17_isAlone_8 (by decide) ?_ ?_
    · refine G.sub [] rfl ?_
      exact gX17_isAlone_p43 _
    · refine g_iload_n 0 0 dX17_isAlone_11 rfl rfl ?_
      refine g_bipush (v := 26) dX17_isAlone_12 (by decide) ?_
      refine g_icmp_eq 43 dX17_isAlone_14 (by decide) ?_ ?_
      · refine G.sub [] rfl ?_
        exact gX17_isAlone_p43 _
      · refine g_iload_n 0 0 dX17_isAlone_17 rfl rfl ?_
        refine g_bipush (v := 27) dX17_isAlone_18 (by decide) ?_
        refine g_icmp_eq 43 dX17_isAlone_20 (by decide) ?_ ?_
        · refine G.sub [] rfl ?_
          exact gX17_isAlone_p43 _
        · refine g_iload_n 0 0 dX17_isAlone_23 rfl rfl ?_
          refine g_bipush (v := 69) dX17_isAlone_24 (by decide) ?_
          refine g_icmp_lt 36 dX17_isAlone_26 (by decide) ?_ ?_
          · exact gX17_isAlone_p36 _ _
          · refine g_iload_n 0 0 dX17_isAlone_29 rfl rfl ?_
            refine g_sipush (v := 196) dX17_isAlone_30 (by decide) ?_
            refine g_icmp_le 43 dX17_isAlone_33 (by decide) ?_ ?_
            · refine G.sub [] rfl ?_
              exact gX17_isAlone_p43 _
            · exact gX17_isAlone_p36 _ _
theorem V.dX17_hasNumber_0 : decode cX17_hasNumber 0 = .ok (.iload_n 0, 1) := by decide +kernel
theorem V.dX17_hasNumber_1 : decode cX17_hasNumber 1 = .ok (.bipush 12, 2) := by decide +kernel
theorem V.dX17_hasNumber_3 : decode cX17_hasNumber 3 = .ok (.if_icmp .eq 34, 3) := by decide +kernel
theorem V.dX17_hasNumber_6 : decode cX17_hasNumber 6 = .ok (.iload_n 0, 1) := by decide +kernel
theorem V.dX17_hasNumber_7 : decode cX17_hasNumber 7 = .ok (.bipush 13, 2) := by decide +kernel
theorem V.dX17_hasNumber_9 : decode cX17_hasNumber 9 = .ok (.if_icmp .eq 28, 3) := by decide +kernel
theorem V.dX17_hasNumber_12 : decode cX17_hasNumber 12 = .ok (.iload_n 0, 1) := by decide +kernel
theorem V.dX17_hasNumber_13 : decode cX17_hasNumber 13 = .ok (.bipush 16, 2) := by decide +kernel
theorem V.dX17_hasNumber_15 : decode cX17_hasNumber 15 = .ok (.if_icmp .eq 22, 3) := by decide +kernel
theorem V.dX17_hasNumber_18 : decode cX17_hasNumber 18 = .ok (.iload_n 0, 1) := by decide +kernel
theorem V.dX17_hasNumber_19 : decode cX17_hasNumber 19 = .ok (.bipush 32, 2) := by decide +kernel
theorem V.dX17_hasNumber_21 : decode cX17_hasNumber 21 = .ok (.if_icmp .lt 9, 3) := by decide +kernel
theorem V.dX17_hasNumber_24 : decode cX17_hasNumber 24 = .ok (.iload_n 0, 1) := by decide +kernel
theorem V.dX17_hasNumber_25 : decode cX17_hasNumber 25 = .ok (.bipush 38, 2) := by decide +kernel
theorem V.dX17_hasNumber_27 : decode cX17_hasNumber 27 = .ok (.if_icmp .le 10, 3) := by decide +kernel
theorem V.dX17_hasNumber_30 : decode cX17_hasNumber 30 = .ok (.iload_n 0, 1) := by decide +kernel
theorem V.dX17_hasNumber_31 : decode cX17_hasNumber 31 = .ok (.sipush 210, 3) := by decide +kernel
theorem V.dX17_hasNumber_34 : decode cX17_hasNumber 34 = .ok (.if_icmp .ne 7, 3) := by decide +kernel
theorem V.dX17_hasNumber_37 : decode cX17_hasNumber 37 = .ok (.iconst 1, 1) := by decide +kernel
theorem V.dX17_hasNumber_38 : decode cX17_hasNumber 38 = .ok (.goto 4, 3) := by decide +kernel
theorem V.dX17_hasNumber_41 : decode cX17_hasNumber 41 = .ok (.iconst 0, 1) := by decide +kernel
theorem V.dX17_hasNumber_42 : decode cX17_hasNumber 42 = .ok (.ireturn, 1) := by decide +kernel
/-! ModuleEngineModel.hasNumber(I)Z -/
def V.Mdl_hasNumber_p37  (σ : HS)  : Option (Int32 × HS) :=
  some ((1 : Int32), σ)
theorem V.gX17_hasNumber_p37 {X : CX}  (σ : HS)  : G X RX17 "hasNumber" cX17_hasNumber 1 (some .boolean) 0 0 enI 37 [] [] σ (Mdl_hasNumber_p37 σ ) := by
  unfold Mdl_hasNumber_p37
  refine g_iconst (v := 1) dX17_hasNumber_37 (by decide) ?_
  refine g_goto 42 dX17_hasNumber_38 (by decide) ?_
  exact g_zreturn rfl (by decide +kernel) dX17_hasNumber_42
def V.Mdl_hasNumber_p30  (σ : HS) (x0 : Int32) : Option (Int32 × HS) :=
  if x0 = (210 : Int32) then (
    Mdl_hasNumber_p37 σ)
  else (
    some ((0 : Int32), σ))
theorem V.gX17_hasNumber_p30 {X : CX}  (σ : HS) (x0 : Int32) : G X RX17 "hasNumber" cX17_hasNumber 1 (some .boolean) 0 0 enI 30 [(0, iv x0)] [] σ (Mdl_hasNumber_p30 σ x0) := by
  unfold Mdl_hasNumber_p30
  refine g_iload_n 0 0 dX17_hasNumber_30 rfl rfl ?_
  refine g_sipush (v := 210) dX17_hasNumber_31 (by decide) ?_
  refine g_icmp_ne 41 dX17_hasNumber_34 (by decide) ?_ ?_
  · refine g_iconst (v := 0) dX17_hasNumber_41 (by decide) ?_
    exact g_zreturn rfl (by decide +kernel) dX17_hasNumber_42
  · refine G.sub [] rfl ?_
    exact gX17_hasNumber_p37 _
def V.Mdl_hasNumber (σ : HS) (x0 : Int32) : Option (Int32 × HS) :=
  if x0 = (12 : Int32) then (
    Mdl_hasNumber_p37 σ)
  else (
    if x0 = (13 : Int32) then (
      Mdl_hasNumber_p37 σ)
    else (
      if x0 = (16 : Int32) then (
        Mdl_hasNumber_p37 σ)
      else (
        if x0 < (32 : Int32) then (
          Mdl_hasNumber_p30 σ x0)
        else (
          if x0 ≤ (38 : Int32) then (
            Mdl_hasNumber_p37 σ)
          else (
            Mdl_hasNumber_p30 σ x0)))))
theorem V.ctX17_hasNumber (x0 : Int32) : Ct yX17_hasNumber  cX17_hasNumber 1 (some .boolean) 0 0 eI [iv x0] (fun σ => Mdl_hasNumber σ x0) := by
  refine Ct.of (own := RX17) (nm := "hasNumber") (desc := "(I)Z") rfl (by decide) (Nat.le_of_ble_eq_true rfl) (by decide) (fun X σ => ?_)
  show G X RX17 "hasNumber" cX17_hasNumber 1 (some .boolean) 0 0 enI 0 [(0, iv x0)] [] σ (Mdl_hasNumber σ x0)
  unfold Mdl_hasNumber
  refine g_iload_n 0 0 dX17_hasNumber_0 rfl rfl ?_
  refine g_bipush (v := 12) dX17_hasNumber_1 (by decide) ?_
  refine g_icmp_eq 37 dX17_hasNumber_3 (by decide) ?_ ?_
  · refine G.sub [] rfl ?_
    exact gX17_hasNumber_p37 _
  · refine g_iload_n 0 0 dX17_hasNumber_6 rfl rfl ?_
    refine g_bipush (v := 13) dX17_hasNumber_7 (by decide) ?_
    refine g_icmp_eq 37 dX17_hasNumber_9 (by decide) ?_ ?_
    · refine G.sub [] rfl ?_
      exact gX17_hasNumber_p37 _
    · refine g_iload_n 0 0 dX17_hasNumber_12 rfl rfl ?_
      refine g_bipush (v := 16) dX17_hasNumber_13 (by decide) ?_
      refine g_icmp_eq 37 dX17_hasNumber_15 (by decide) ?_ ?_
      · refine G.sub [] rfl ?_
        exact gX17_hasNumber_p37 _
      · refine g_iload_n 0 0 dX17_hasNumber_18 rfl rfl ?_
        refine g_bipush (v := 32) dX17_hasNumber_19 (by decide) ?_
        refine g_icmp_lt 30 dX17_hasNumber_21 (by decide) ?_ ?_
        · exact gX17_hasNumber_p30 _ _
        · refine g_iload_n 0 0 dX17_hasNumber_24 rfl rfl ?_
          refine g_bipush (v := 38) dX17_hasNumber_25 (by decide) ?_
          refine g_icmp_le 37 dX17_hasNumber_27 (by decide) ?_ ?_
          · refine G.sub [] rfl ?_
            exact gX17_hasNumber_p37 _
          · exact gX17_hasNumber_p30 _ _
theorem V.dX17_isAccess_0 : decode cX17_isAccess 0 = .ok (.iload_n 0, 1) := by decide +kernel
theorem V.dX17_isAccess_1 : decode cX17_isAccess 1 = .ok (.bipush 40, 2) := by decide +kernel
theorem V.dX17_isAccess_3 : decode cX17_isAccess 3 = .ok (.if_icmp .lt 13, 3) := by decide +kernel
theorem V.dX17_isAccess_6 : decode cX17_isAccess 6 = .ok (.iload_n 0, 1) := by decide +kernel
theorem V.dX17_isAccess_7 : decode cX17_isAccess 7 = .ok (.bipush 62, 2) := by decide +kernel
theorem V.dX17_isAccess_9 : decode cX17_isAccess 9 = .ok (.if_icmp .gt 7, 3) := by decide +kernel
theorem V.dX17_isAccess_12 : decode cX17_isAccess 12 = .ok (.iconst 1, 1) := by decide +kernel
theorem V.dX17_isAccess_13 : decode cX17_isAccess 13 = .ok (.goto 4, 3) := by decide +kernel
theorem V.dX17_isAccess_16 : decode cX17_isAccess 16 = .ok (.iconst 0, 1) := by decide +kernel
theorem V.dX17_isAccess_17 : decode cX17_isAccess 17 = .ok (.ireturn, 1) := by decide +kernel
/-! ModuleEngineModel.isAccess(I)Z -/
def V.Mdl_isAccess (σ : HS) (x0 : Int32) : Option (Int32 × HS) :=
  if x0 < (40 : Int32) then (
    some ((0 : Int32), σ))
  else (
    if (62 : Int32) < x0 then (
      some ((0 : Int32), σ))
    else (
      some ((1 : Int32), σ)))
theorem V.ctX17_isAccess (x0 : Int32) : Ct yX17_isAccess  cX17_isAccess 1 (some .boolean) 0 0 eI [iv x0] (fun σ => Mdl_isAccess σ x0) := by
  refine Ct.of (own := RX17) (nm := "isAccess") (desc := "(I)Z") rfl (by decide) (Nat.le_of_ble_eq_true rfl) (by decide) (fun X σ => ?_)
  show G X RX17 "isAccess" cX17_isAccess 1 (some .boolean) 0 0 enI 0 [(0, iv x0)] [] σ (Mdl_isAccess σ x0)
  unfold Mdl_isAccess
  refine g_iload_n 0 0 dX17_isAccess_0 rfl rfl ?_
  refine g_bipush (v := 40) dX17_isAccess_1 (by decide) ?_
  refine g_icmp_lt 16 dX17_isAccess_3 (by decide) ?_ ?_
  · refine g_iconst (v := 0) dX17_isAccess_16 (by decide) ?_
    exact g_zreturn rfl (by decide +kernel) dX17_isAccess_17
  · refine g_iload_n 0 0 dX17_isAccess_6 rfl rfl ?_
    refine g_bipush (v := 62) dX17_isAccess_7 (by decide) ?_
    refine g_icmp_gt 16 dX17_isAccess_9 (by decide) ?_ ?_
    · refine g_iconst (v := 0) dX17_isAccess_16 (by decide) ?_
      exact g_zreturn rfl (by decide +kernel) dX17_isAccess_17
    · refine g_iconst (v := 1) dX17_isAccess_12 (by decide) ?_
      refine g_goto 17 dX17_isAccess_13 (by decide) ?_
      exact g_zreturn rfl (by decide +kernel) dX17_isAccess_17
theorem V.dX17_further_0 : decode cX17_further 0 = .ok (.aload_n 0, 1) := by decide +kernel
theorem V.dX17_further_1 : decode cX17_further 1 = .ok (.invokevirtual 277, 3) := by decide +kernel
theorem V.dX17_further_4 : decode cX17_further 4 = .ok (.lstore_n 2, 1) := by decide +kernel
theorem V.dX17_further_5 : decode cX17_further 5 = .ok (.lload_n 2, 1) := by decide +kernel
theorem V.dX17_further_6 : decode cX17_further 6 = .ok (.ldc2_w 580, 3) := by decide +kernel
theorem V.dX17_further_9 : decode cX17_further 9 = .ok (.lcmp, 1) := by decide +kernel
theorem V.dX17_further_10 : decode cX17_further 10 = .ok (.ifCond .le 10, 3) := by decide +kernel
theorem V.dX17_further_13 : decode cX17_further 13 = .ok (.aload_n 0, 1) := by decide +kernel
theorem V.dX17_further_14 : decode cX17_further 14 = .ok (.bipush 10, 2) := by decide +kernel
theorem V.dX17_further_16 : decode cX17_further 16 = .ok (.iload_n 1, 1) := by decide +kernel
theorem V.dX17_further_17 : decode cX17_further 17 = .ok (.invokevirtual 257, 3) := by decide +kernel
theorem V.dX17_further_20 : decode cX17_further 20 = .ok (.lload_n 2, 1) := by decide +kernel
theorem V.dX17_further_21 : decode cX17_further 21 = .ok (.ldc2_w 582, 3) := by decide +kernel
theorem V.dX17_further_24 : decode cX17_further 24 = .ok (.lcmp, 1) := by decide +kernel
theorem V.dX17_further_25 : decode cX17_further 25 = .ok (.ifCond .eq 11, 3) := by decide +kernel
theorem V.dX17_further_28 : decode cX17_further 28 = .ok (.lload_n 2, 1) := by decide +kernel
theorem V.dX17_further_29 : decode cX17_further 29 = .ok (.ldc2_w 584, 3) := by decide +kernel
theorem V.dX17_further_32 : decode cX17_further 32 = .ok (.lcmp, 1) := by decide +kernel
theorem V.dX17_further_33 : decode cX17_further 33 = .ok (.ifCond .ne 23, 3) := by decide +kernel
theorem V.dX17_further_36 : decode cX17_further 36 = .ok (.aload_n 0, 1) := by decide +kernel
theorem V.dX17_further_37 : decode cX17_further 37 = .ok (.getfield 221, 3) := by decide +kernel
theorem V.dX17_further_40 : decode cX17_further 40 = .ok (.getfield 302, 3) := by decide +kernel
theorem V.dX17_further_43 : decode cX17_further 43 = .ok (.bipush 12, 2) := by decide +kernel
theorem V.dX17_further_45 : decode cX17_further 45 = .ok (.iaload, 1) := by decide +kernel
theorem V.dX17_further_46 : decode cX17_further 46 = .ok (.ifCond .ge 10, 3) := by decide +kernel
theorem V.dX17_further_49 : decode cX17_further 49 = .ok (.aload_n 0, 1) := by decide +kernel
theorem V.dX17_further_50 : decode cX17_further 50 = .ok (.bipush 11, 2) := by decide +kernel
theorem V.dX17_further_52 : decode cX17_further 52 = .ok (.iload_n 1, 1) := by decide +kernel
theorem V.dX17_further_53 : decode cX17_further 53 = .ok (.invokevirtual 257, 3) := by decide +kernel
theorem V.dX17_further_56 : decode cX17_further 56 = .ok (.lload_n 2, 1) := by decide +kernel
theorem V.dX17_further_57 : decode cX17_further 57 = .ok (.ldc2_w 586, 3) := by decide +kernel
theorem V.dX17_further_60 : decode cX17_further 60 = .ok (.lcmp, 1) := by decide +kernel
theorem V.dX17_further_61 : decode cX17_further 61 = .ok (.ifCond .ne 10, 3) := by decide +kernel
theorem V.dX17_further_64 : decode cX17_further 64 = .ok (.aload_n 0, 1) := by decide +kernel
theorem V.dX17_further_65 : decode cX17_further 65 = .ok (.iconst 0, 1) := by decide +kernel
theorem V.dX17_further_66 : decode cX17_further 66 = .ok (.invokevirtual 393, 3) := by decide +kernel
theorem V.dX17_further_69 : decode cX17_further 69 = .ok (.istore 4, 2) := by decide +kernel
theorem V.dX17_further_71 : decode cX17_further 71 = .ok (.lload_n 2, 1) := by decide +kernel
theorem V.dX17_further_72 : decode cX17_further 72 = .ok (.ldc2_w 588, 3) := by decide +kernel
theorem V.dX17_further_75 : decode cX17_further 75 = .ok (.lcmp, 1) := by decide +kernel
theorem V.dX17_further_76 : decode cX17_further 76 = .ok (.ifCond .eq 11, 3) := by decide +kernel
theorem V.dX17_further_79 : decode cX17_further 79 = .ok (.lload_n 2, 1) := by decide +kernel
theorem V.dX17_further_80 : decode cX17_further 80 = .ok (.ldc2_w 590, 3) := by decide +kernel
theorem V.dX17_further_83 : decode cX17_further 83 = .ok (.lcmp, 1) := by decide +kernel
theorem V.dX17_further_84 : decode cX17_further 84 = .ok (.ifCond .ne 9, 3) := by decide +kernel
theorem V.dX17_further_87 : decode cX17_further 87 = .ok (.aload_n 0, 1) := by decide +kernel
theorem V.dX17_further_88 : decode cX17_further 88 = .ok (.invokevirtual 277, 3) := by decide +kernel
theorem V.dX17_further_91 : decode cX17_further 91 = .ok (.lstore 4, 2) := by decide +kernel
theorem V.dX17_further_93 : decode cX17_further 93 = .ok (.lload_n 2, 1) := by decide +kernel
theorem V.dX17_further_94 : decode cX17_further 94 = .ok (.ldc2_w 582, 3) := by decide +kernel
theorem V.dX17_further_97 : decode cX17_further 97 = .ok (.lcmp, 1) := by decide +kernel
theorem V.dX17_further_98 : decode cX17_further 98 = .ok (.ifCond .eq 19, 3) := by decide +kernel
theorem V.dX17_further_101 : decode cX17_further 101 = .ok (.lload_n 2, 1) := by decide +kernel
theorem V.dX17_further_102 : decode cX17_further 102 = .ok (.ldc2_w 584, 3) := by decide +kernel
theorem V.dX17_further_105 : decode cX17_further 105 = .ok (.lcmp, 1) := by decide +kernel
theorem V.dX17_further_106 : decode cX17_further 106 = .ok (.ifCond .eq 11, 3) := by decide +kernel
theorem V.dX17_further_109 : decode cX17_further 109 = .ok (.lload_n 2, 1) := by decide +kernel
theorem V.dX17_further_110 : decode cX17_further 110 = .ok (.ldc2_w 592, 3) := by decide +kernel
theorem V.dX17_further_113 : decode cX17_further 113 = .ok (.lcmp, 1) := by decide +kernel
theorem V.dX17_further_114 : decode cX17_further 114 = .ok (.ifCond .le 9, 3) := by decide +kernel
theorem V.dX17_further_117 : decode cX17_further 117 = .ok (.aload_n 0, 1) := by decide +kernel
theorem V.dX17_further_118 : decode cX17_further 118 = .ok (.invokevirtual 277, 3) := by decide +kernel
theorem V.dX17_further_121 : decode cX17_further 121 = .ok (.lstore 4, 2) := by decide +kernel
theorem V.dX17_further_123 : decode cX17_further 123 = .ok (.lload_n 2, 1) := by decide +kernel
theorem V.dX17_further_124 : decode cX17_further 124 = .ok (.ldc2_w 582, 3) := by decide +kernel
theorem V.dX17_further_127 : decode cX17_further 127 = .ok (.lcmp, 1) := by decide +kernel
theorem V.dX17_further_128 : decode cX17_further 128 = .ok (.ifCond .eq 19, 3) := by decide +kernel
theorem V.dX17_further_131 : decode cX17_further 131 = .ok (.lload_n 2, 1) := by decide +kernel
theorem V.dX17_further_132 : decode cX17_further 132 = .ok (.ldc2_w 586, 3) := by decide +kernel
theorem V.dX17_further_135 : decode cX17_further 135 = .ok (.lcmp, 1) := by decide +kernel
theorem V.dX17_further_136 : decode cX17_further 136 = .ok (.ifCond .eq 11, 3) := by decide +kernel
theorem V.dX17_further_139 : decode cX17_further 139 = .ok (.lload_n 2, 1) := by decide +kernel
theorem V.dX17_further_140 : decode cX17_further 140 = .ok (.ldc2_w 592, 3) := by decide +kernel
theorem V.dX17_further_143 : decode cX17_further 143 = .ok (.lcmp, 1) := by decide +kernel
theorem V.dX17_further_144 : decode cX17_further 144 = .ok (.ifCond .ne 10, 3) := by decide +kernel
theorem V.dX17_further_147 : decode cX17_further 147 = .ok (.aload_n 0, 1) := by decide +kernel
theorem V.dX17_further_148 : decode cX17_further 148 = .ok (.iconst 0, 1) := by decide +kernel
theorem V.dX17_further_149 : decode cX17_further 149 = .ok (.invokevirtual 393, 3) := by decide +kernel
theorem V.dX17_further_152 : decode cX17_further 152 = .ok (.istore 4, 2) := by decide +kernel
theorem V.dX17_further_154 : decode cX17_further 154 = .ok (.return_, 1) := by decide +kernel
theorem V.fdX17_302 : FD RX17 302 20 2 2 := ⟨(RX20, TX20, 58), tyX20, rfl, rfl, in_X20, by decide, Or.inr ⟨_, q3364⟩, rfl⟩
/-! ModuleEngineModel.further(I)V -/
def V.Mdl_further_p147  (σ : HS) (x0 : Nat) : Option ((Nat ⊕ Unit) × HS) :=
  ck (tg σ x0 = 18) <| clT (Mdl_small σ x0 (0 : Int32)) fun r2 σ1 =>
  some (.inr (), σ1)
theorem V.gX17_further_p147 {X : CX}  (σ : HS) (x0 : Nat) : G X RX17 "further" cX17_further 6 none 3 66 (enX enV (cxz X)) 147 [(0, av x0)] [] σ (Mdl_further_p147 σ x0) := by
  unfold Mdl_further_p147
  refine g_aload_n 0 0 dX17_further_147 rfl rfl ?_
  refine g_iconst (v := 0) dX17_further_148 (by decide) ?_
  refine g_callVT (fc := fun sς => Mdl_small sς x0 (0 : Int32)) (ci := 17) (as := [iv (0 : Int32)]) rfl rfl rfl q3671 qs225 q3669 mdX17_393 (ctX17_small x0 (0 : Int32)) rfl (Nat.le_of_ble_eq_true rfl) (Nat.le_of_ble_eq_true rfl) (Nat.le_of_ble_eq_true rfl) pu_I (by decide) dX17_further_149 (fun r2 σ1 => ?_)
  refine g_istore dX17_further_152 (by decide) rfl ?_
  exact g_return rfl dX17_further_154
def V.Mdl_further_p123  (σ : HS) (x0 : Nat) (x2 : Int64) : Option ((Nat ⊕ Unit) × HS) :=
  if x2 = (8 : Int64) then (
    Mdl_further_p147 σ x0)
  else (
    if x2 = (10 : Int64) then (
      Mdl_further_p147 σ x0)
    else (
      if x2 = (11 : Int64) then (
        Mdl_further_p147 σ x0)
      else (
        some (.inr (), σ))))
theorem V.gX17_further_p123 {X : CX}  (σ : HS) (x0 : Nat) (x2 : Int64) : G X RX17 "further" cX17_further 6 none 3 66 (enX enV (cxz X)) 123 [(0, av x0), (2, jv x2)] [] σ (Mdl_further_p123 σ x0 x2) := by
  unfold Mdl_further_p123
  refine g_lload_n 2 1 dX17_further_123 rfl rfl ?_
  refine g_ldc2 q3729 dX17_further_124 ?_
  refine g_lcmp_eq 147 dX17_further_127 dX17_further_128 (by decide) ?_ ?_
  · refine G.sub [0] rfl ?_
    exact gX17_further_p147 _ _
  · refine g_lload_n 2 1 dX17_further_131 rfl rfl ?_
    refine g_ldc2 q3731 dX17_further_132 ?_
    refine g_lcmp_eq 147 dX17_further_135 dX17_further_136 (by decide) ?_ ?_
    · refine G.sub [0] rfl ?_
      exact gX17_further_p147 _ _
    · refine g_lload_n 2 1 dX17_further_139 rfl rfl ?_
      refine g_ldc2 q3734 dX17_further_140 ?_
      refine g_lcmp_ne 154 dX17_further_143 dX17_further_144 (by decide) ?_ ?_
      · exact g_return rfl dX17_further_154
      · refine G.sub [0] rfl ?_
        exact gX17_further_p147 _ _
def V.Mdl_further_p117  (σ : HS) (x0 : Nat) (x2 : Int64) : Option ((Nat ⊕ Unit) × HS) :=
  ck (tg σ x0 = 18) <| clT (Mdl_number σ x0 ) fun r2 σ1 =>
  Mdl_further_p123 σ1 x0 x2
theorem V.gX17_further_p117 {X : CX}  (σ : HS) (x0 : Nat) (x2 : Int64) : G X RX17 "further" cX17_further 6 none 3 66 (enX enV (cxz X)) 117 [(0, av x0), (2, jv x2)] [] σ (Mdl_further_p117 σ x0 x2) := by
  unfold Mdl_further_p117
  refine g_aload_n 0 0 dX17_further_117 rfl rfl ?_
  refine g_callVT (fc := fun sς => Mdl_number sς x0 ) (ci := 17) (as := []) rfl rfl rfl q3619 qs215 q3617 mdX17_277 (ctX17_number x0 ) rfl (Nat.le_of_ble_eq_true rfl) (Nat.le_of_ble_eq_true rfl) (Nat.le_of_ble_eq_true rfl) pu_J (by decide) dX17_further_118 (fun r2 σ1 => ?_)
  refine g_lstore dX17_further_121 (by decide) rfl ?_
  refine G.sub [1, 2] rfl ?_
  exact gX17_further_p123 _ _ _
def V.Mdl_further_p93  (σ : HS) (x0 : Nat) (x2 : Int64) : Option ((Nat ⊕ Unit) × HS) :=
  if x2 = (8 : Int64) then (
    Mdl_further_p117 σ x0 x2)
  else (
    if x2 = (9 : Int64) then (
      Mdl_further_p117 σ x0 x2)
    else (
      if x2 ≤ (11 : Int64) then (
        Mdl_further_p123 σ x0 x2)
      else (
        Mdl_further_p117 σ x0 x2)))
theorem V.gX17_further_p93 {X : CX}  (σ : HS) (x0 : Nat) (x2 : Int64) : G X RX17 "further" cX17_further 6 none 3 66 (enX enV (cxz X)) 93 [(0, av x0), (2, jv x2)] [] σ (Mdl_further_p93 σ x0 x2) := by
  unfold Mdl_further_p93
  refine g_lload_n 2 1 dX17_further_93 rfl rfl ?_
  refine g_ldc2 q3729 dX17_further_94 ?_
  refine g_lcmp_eq 117 dX17_further_97 dX17_further_98 (by decide) ?_ ?_
  · exact gX17_further_p117 _ _ _
  · refine g_lload_n 2 1 dX17_further_101 rfl rfl ?_
    refine g_ldc2 q3730 dX17_further_102 ?_
    refine g_lcmp_eq 117 dX17_further_105 dX17_further_106 (by decide) ?_ ?_
    · exact gX17_further_p117 _ _ _
    · refine g_lload_n 2 1 dX17_further_109 rfl rfl ?_
      refine g_ldc2 q3734 dX17_further_110 ?_
      refine g_lcmp_le 123 dX17_further_113 dX17_further_114 (by decide) ?_ ?_
      · exact gX17_further_p123 _ _ _
      · exact gX17_further_p117 _ _ _
def V.Mdl_further_p87  (σ : HS) (x0 : Nat) (x2 : Int64) : Option ((Nat ⊕ Unit) × HS) :=
  ck (tg σ x0 = 18) <| clT (Mdl_number σ x0 ) fun r2 σ1 =>
  Mdl_further_p93 σ1 x0 x2
theorem V.gX17_further_p87 {X : CX}  (σ : HS) (x0 : Nat) (x2 : Int64) : G X RX17 "further" cX17_further 6 none 3 66 (enX enV (cxz X)) 87 [(0, av x0), (2, jv x2)] [] σ (Mdl_further_p87 σ x0 x2) := by
  unfold Mdl_further_p87
  refine g_aload_n 0 0 dX17_further_87 rfl rfl ?_
  refine g_callVT (fc := fun sς => Mdl_number sς x0 ) (ci := 17) (as := []) rfl rfl rfl q3619 qs215 q3617 mdX17_277 (ctX17_number x0 ) rfl (Nat.le_of_ble_eq_true rfl) (Nat.le_of_ble_eq_true rfl) (Nat.le_of_ble_eq_true rfl) pu_J (by decide) dX17_further_88 (fun r2 σ1 => ?_)
  refine g_lstore dX17_further_91 (by decide) rfl ?_
  refine G.sub [1, 2] rfl ?_
  exact gX17_further_p93 _ _ _
def V.Mdl_further_p71  (σ : HS) (x0 : Nat) (x2 : Int64) : Option ((Nat ⊕ Unit) × HS) :=
  if x2 = (12 : Int64) then (
    Mdl_further_p87 σ x0 x2)
  else (
    if x2 = (14 : Int64) then (
      Mdl_further_p87 σ x0 x2)
    else (
      Mdl_further_p93 σ x0 x2))
theorem V.gX17_further_p71 {X : CX}  (σ : HS) (x0 : Nat) (x2 : Int64) : G X RX17 "further" cX17_further 6 none 3 66 (enX enV (cxz X)) 71 [(0, av x0), (2, jv x2)] [] σ (Mdl_further_p71 σ x0 x2) := by
  unfold Mdl_further_p71
  refine g_lload_n 2 1 dX17_further_71 rfl rfl ?_
  refine g_ldc2 q3732 dX17_further_72 ?_
  refine g_lcmp_eq 87 dX17_further_75 dX17_further_76 (by decide) ?_ ?_
  · exact gX17_further_p87 _ _ _
  · refine g_lload_n 2 1 dX17_further_79 rfl rfl ?_
    refine g_ldc2 q3733 dX17_further_80 ?_
    refine g_lcmp_ne 93 dX17_further_83 dX17_further_84 (by decide) ?_ ?_
    · exact gX17_further_p93 _ _ _
    · exact gX17_further_p87 _ _ _
def V.Mdl_further_p56  (σ : HS) (x0 : Nat) (x2 : Int64) : Option ((Nat ⊕ Unit) × HS) :=
  if x2 = (10 : Int64) then (
    ck (tg σ x0 = 18) <| clT (Mdl_small σ x0 (0 : Int32)) fun r2 σ1 =>
    Mdl_further_p71 σ1 x0 x2)
  else (
    Mdl_further_p71 σ x0 x2)
theorem V.gX17_further_p56 {X : CX}  (σ : HS) (x0 : Nat) (x2 : Int64) : G X RX17 "further" cX17_further 6 none 3 66 (enX enV (cxz X)) 56 [(0, av x0), (2, jv x2)] [] σ (Mdl_further_p56 σ x0 x2) := by
  unfold Mdl_further_p56
  refine g_lload_n 2 1 dX17_further_56 rfl rfl ?_
  refine g_ldc2 q3731 dX17_further_57 ?_
  refine g_lcmp_ne 71 dX17_further_60 dX17_further_61 (by decide) ?_ ?_
  · exact gX17_further_p71 _ _ _
  · refine g_aload_n 0 0 dX17_further_64 rfl rfl ?_
    refine g_iconst (v := 0) dX17_further_65 (by decide) ?_
    refine g_callVT (fc := fun sς => Mdl_small sς x0 (0 : Int32)) (ci := 17) (as := [iv (0 : Int32)]) rfl rfl rfl q3671 qs225 q3669 mdX17_393 (ctX17_small x0 (0 : Int32)) rfl (Nat.le_of_ble_eq_true rfl) (Nat.le_of_ble_eq_true rfl) (Nat.le_of_ble_eq_true rfl) pu_I (by decide) dX17_further_66 (fun r2 σ1 => ?_)
    refine g_istore dX17_further_69 (by decide) rfl ?_
    refine G.sub [1, 2] rfl ?_
    exact gX17_further_p71 _ _ _
def V.Mdl_further_p36  (σ : HS) (x0 : Nat) (x1 : Int32) (x2 : Int64) : Option ((Nat ⊕ Unit) × HS) :=
  ck (tg σ x0 = 18) <|
  ck (tg σ (gR σ x0 10) = 21) <|
  ck (tg σ (gR σ (gR σ x0 10) 2) = 100 ∧ inb (12 : Int32) (ln σ (gR σ (gR σ x0 10) 2))) <|
  if 0 ≤ (gI σ (gR σ (gR σ x0 10) 2) (ix (12 : Int32))) then (
    Mdl_further_p56 σ x0 x2)
  else (
    ck (tg σ x0 = 18) <| clT (Mdl_stops σ x0 (11 : Int32) x1) fun _ σ1 =>
    Mdl_further_p56 σ1 x0 x2)
theorem V.gX17_further_p36 {X : CX}  (σ : HS) (x0 : Nat) (x1 : Int32) (x2 : Int64) : G X RX17 "further" cX17_further 6 none 3 66 (enX enV (cxz X)) 36 [(0, av x0), (1, iv x1), (2, jv x2)] [] σ (Mdl_further_p36 σ x0 x1 x2) := by
  unfold Mdl_further_p36
  refine g_aload_n 0 0 dX17_further_36 rfl rfl ?_
  refine g_getR fdX17_221 dX17_further_37 ?_
  refine g_getR fdX17_302 dX17_further_40 ?_
  refine g_bipush (v := 12) dX17_further_43 (by decide) ?_
  refine g_iaload dX17_further_45 ?_
  refine g_if_ge 56 dX17_further_46 (by decide) ?_ ?_
  · refine G.sub [0, 2] rfl ?_
    exact gX17_further_p56 _ _ _
  · refine g_aload_n 0 0 dX17_further_49 rfl rfl ?_
    refine g_bipush (v := 11) dX17_further_50 (by decide) ?_
    refine g_iload_n 1 1 dX17_further_52 rfl rfl ?_
    refine g_callVT (fc := fun sς => Mdl_stops sς x0 (11 : Int32) x1) (ci := 17) (as := [iv (11 : Int32), iv x1]) rfl rfl rfl q3606 qs214 q3604 mdX17_257 (ctX17_stops x0 (11 : Int32) x1) rfl (Nat.le_of_ble_eq_true rfl) (Nat.le_of_ble_eq_true rfl) (Nat.le_of_ble_eq_true rfl) pu_V (by decide) dX17_further_53 (fun _ σ1 => ?_)
    refine G.sub [0, 2] rfl ?_
    exact gX17_further_p56 _ _ _
def V.Mdl_further_p20  (σ : HS) (x0 : Nat) (x1 : Int32) (x2 : Int64) : Option ((Nat ⊕ Unit) × HS) :=
  if x2 = (8 : Int64) then (
    Mdl_further_p36 σ x0 x1 x2)
  else (
    if x2 = (9 : Int64) then (
      Mdl_further_p36 σ x0 x1 x2)
    else (
      Mdl_further_p56 σ x0 x2))
theorem V.gX17_further_p20 {X : CX}  (σ : HS) (x0 : Nat) (x1 : Int32) (x2 : Int64) : G X RX17 "further" cX17_further 6 none 3 66 (enX enV (cxz X)) 20 [(0, av x0), (1, iv x1), (2, jv x2)] [] σ (Mdl_further_p20 σ x0 x1 x2) := by
  unfold Mdl_further_p20
  refine g_lload_n 2 2 dX17_further_20 rfl rfl ?_
  refine g_ldc2 q3729 dX17_further_21 ?_
  refine g_lcmp_eq 36 dX17_further_24 dX17_further_25 (by decide) ?_ ?_
  · exact gX17_further_p36 _ _ _ _
  · refine g_lload_n 2 2 dX17_further_28 rfl rfl ?_
    refine g_ldc2 q3730 dX17_further_29 ?_
    refine g_lcmp_ne 56 dX17_further_32 dX17_further_33 (by decide) ?_ ?_
    · refine G.sub [0, 2] rfl ?_
      exact gX17_further_p56 _ _ _
    · exact gX17_further_p36 _ _ _ _
def V.Mdl_further (σ : HS) (x0 : Nat) (x1 : Int32) : Option ((Nat ⊕ Unit) × HS) :=
  ck (tg σ x0 = 18) <| clT (Mdl_number σ x0 ) fun r2 σ1 =>
  if r2 ≤ (17 : Int64) then (
    Mdl_further_p20 σ1 x0 x1 r2)
  else (
    ck (tg σ1 x0 = 18) <| clT (Mdl_stops σ1 x0 (10 : Int32) x1) fun _ σ3 =>
    Mdl_further_p20 σ3 x0 x1 r2)
theorem V.ctX17_further (x0 : Nat) (x1 : Int32) : Ct yX17_further  cX17_further 6 none 3 66 eXV [av x0, iv x1] (fun σ => Mdl_further σ x0 x1) := by
  refine Ct.of (own := RX17) (nm := "further") (desc := "(I)V") rfl (by decide) (Nat.le_of_ble_eq_true rfl) (by decide) (fun X σ => ?_)
  show G X RX17 "further" cX17_further 6 none 3 66 (enX enV (cxz X)) 0 [(0, av x0), (1, iv x1)] [] σ (Mdl_further σ x0 x1)
  unfold Mdl_further
  refine g_aload_n 0 0 dX17_further_0 rfl rfl ?_
  refine g_callVT (fc := fun sς => Mdl_number sς x0 ) (ci := 17) (as := []) rfl rfl rfl q3619 qs215 q3617 mdX17_277 (ctX17_number x0 ) rfl (Nat.le_of_ble_eq_true rfl) (Nat.le_of_ble_eq_true rfl) (Nat.le_of_ble_eq_true rfl) pu_J (by decide) dX17_further_1 (fun r2 σ1 => ?_)
  refine g_lstore_n 2 dX17_further_4 rfl (by decide) rfl ?_
  refine g_lload_n 2 0 dX17_further_5 rfl rfl ?_
  refine g_ldc2 q3728 dX17_further_6 ?_
  refine g_lcmp_le 20 dX17_further_9 dX17_further_10 (by decide) ?_ ?_
  · refine G.sub [1, 2, 0] rfl ?_
    exact gX17_further_p20 _ _ _ _
  · refine g_aload_n 0 1 dX17_further_13 rfl rfl ?_
    refine g_bipush (v := 10) dX17_further_14 (by decide) ?_
    refine g_iload_n 1 2 dX17_further_16 rfl rfl ?_
    refine g_callVT (fc := fun sς => Mdl_stops sς x0 (10 : Int32) x1) (ci := 17) (as := [iv (10 : Int32), iv x1]) rfl rfl rfl q3606 qs214 q3604 mdX17_257 (ctX17_stops x0 (10 : Int32) x1) rfl (Nat.le_of_ble_eq_true rfl) (Nat.le_of_ble_eq_true rfl) (Nat.le_of_ble_eq_true rfl) pu_V (by decide) dX17_further_17 (fun _ σ3 => ?_)
    refine G.sub [1, 2, 0] rfl ?_
    exact gX17_further_p20 _ _ _ _
theorem V.dX17_operands_0 : decode cX17_operands 0 = .ok (.iload_n 1, 1) := by decide +kernel
theorem V.dX17_operands_1 : decode cX17_operands 1 = .ok (.invokestatic 566, 3) := by decide +kernel
theorem V.dX17_operands_4 : decode cX17_operands 4 = .ok (.ifCond .eq 4, 3) := by decide +kernel
theorem V.dX17_operands_7 : decode cX17_operands 7 = .ok (.return_, 1) := by decide +kernel
theorem V.dX17_operands_8 : decode cX17_operands 8 = .ok (.iload_n 1, 1) := by decide +kernel
theorem V.dX17_operands_9 : decode cX17_operands 9 = .ok (.invokestatic 569, 3) := by decide +kernel
theorem V.dX17_operands_12 : decode cX17_operands 12 = .ok (.ifCond .eq 12, 3) := by decide +kernel
theorem V.dX17_operands_15 : decode cX17_operands 15 = .ok (.aload_n 0, 1) := by decide +kernel
theorem V.dX17_operands_16 : decode cX17_operands 16 = .ok (.invokevirtual 277, 3) := by decide +kernel
theorem V.dX17_operands_19 : decode cX17_operands 19 = .ok (.lstore 4, 2) := by decide +kernel
theorem V.dX17_operands_21 : decode cX17_operands 21 = .ok (.goto 296, 3) := by decide +kernel
theorem V.dX17_operands_24 : decode cX17_operands 24 = .ok (.iload_n 1, 1) := by decide +kernel
theorem V.dX17_operands_25 : decode cX17_operands 25 = .ok (.invokestatic 572, 3) := by decide +kernel
theorem V.dX17_operands_28 : decode cX17_operands 28 = .ok (.ifCond .ne 9, 3) := by decide +kernel
theorem V.dX17_operands_31 : decode cX17_operands 31 = .ok (.iload_n 1, 1) := by decide +kernel
theorem V.dX17_operands_32 : decode cX17_operands 32 = .ok (.bipush 17, 2) := by decide +kernel
theorem V.dX17_operands_34 : decode cX17_operands 34 = .ok (.if_icmp .ne 18, 3) := by decide +kernel
theorem V.dX17_operands_37 : decode cX17_operands 37 = .ok (.aload_n 0, 1) := by decide +kernel
theorem V.dX17_operands_38 : decode cX17_operands 38 = .ok (.invokevirtual 277, 3) := by decide +kernel
theorem V.dX17_operands_41 : decode cX17_operands 41 = .ok (.lstore 4, 2) := by decide +kernel
theorem V.dX17_operands_43 : decode cX17_operands 43 = .ok (.aload_n 0, 1) := by decide +kernel
theorem V.dX17_operands_44 : decode cX17_operands 44 = .ok (.invokevirtual 277, 3) := by decide +kernel
theorem V.dX17_operands_47 : decode cX17_operands 47 = .ok (.lstore 6, 2) := by decide +kernel
theorem V.dX17_operands_49 : decode cX17_operands 49 = .ok (.goto 268, 3) := by decide +kernel
theorem V.dX17_operands_52 : decode cX17_operands 52 = .ok (.iload_n 1, 1) := by decide +kernel
theorem V.dX17_operands_53 : decode cX17_operands 53 = .ok (.bipush 14, 2) := by decide +kernel
theorem V.dX17_operands_55 : decode cX17_operands 55 = .ok (.if_icmp .ne 60, 3) := by decide +kernel
theorem V.dX17_operands_58 : decode cX17_operands 58 = .ok (.aload_n 0, 1) := by decide +kernel
theorem V.dX17_operands_59 : decode cX17_operands 59 = .ok (.invokevirtual 277, 3) := by decide +kernel
theorem V.dX17_operands_62 : decode cX17_operands 62 = .ok (.lstore 4, 2) := by decide +kernel
theorem V.dX17_operands_64 : decode cX17_operands 64 = .ok (.iload_n 3, 1) := by decide +kernel
theorem V.dX17_operands_65 : decode cX17_operands 65 = .ok (.ifCond .eq 21, 3) := by decide +kernel
theorem V.dX17_operands_68 : decode cX17_operands 68 = .ok (.aload_n 0, 1) := by decide +kernel
theorem V.dX17_operands_69 : decode cX17_operands 69 = .ok (.lload 4, 2) := by decide +kernel
theorem V.dX17_operands_71 : decode cX17_operands 71 = .ok (.ldc2_w 575, 3) := by decide +kernel
theorem V.dX17_operands_74 : decode cX17_operands 74 = .ok (.lcmp, 1) := by decide +kernel
theorem V.dX17_operands_75 : decode cX17_operands 75 = .ok (.ifCond .le 7, 3) := by decide +kernel
theorem V.dX17_operands_78 : decode cX17_operands 78 = .ok (.iconst 1, 1) := by decide +kernel
theorem V.dX17_operands_79 : decode cX17_operands 79 = .ok (.goto 4, 3) := by decide +kernel
theorem V.dX17_operands_82 : decode cX17_operands 82 = .ok (.iconst 0, 1) := by decide +kernel
theorem V.dX17_operands_83 : decode cX17_operands 83 = .ok (.invokevirtual 365, 3) := by decide +kernel
theorem V.dX17_operands_86 : decode cX17_operands 86 = .ok (.lconst 0, 1) := by decide +kernel
theorem V.dX17_operands_87 : decode cX17_operands 87 = .ok (.lstore 6, 2) := by decide +kernel
theorem V.dX17_operands_89 : decode cX17_operands 89 = .ok (.lload 6, 2) := by decide +kernel
theorem V.dX17_operands_91 : decode cX17_operands 91 = .ok (.lload 4, 2) := by decide +kernel
theorem V.dX17_operands_93 : decode cX17_operands 93 = .ok (.lcmp, 1) := by decide +kernel
theorem V.dX17_operands_94 : decode cX17_operands 94 = .ok (.ifCond .gt 18, 3) := by decide +kernel
theorem V.dX17_operands_97 : decode cX17_operands 97 = .ok (.aload_n 0, 1) := by decide +kernel
theorem V.dX17_operands_98 : decode cX17_operands 98 = .ok (.invokevirtual 277, 3) := by decide +kernel
theorem V.dX17_operands_101 : decode cX17_operands 101 = .ok (.lstore 8, 2) := by decide +kernel
theorem V.dX17_operands_103 : decode cX17_operands 103 = .ok (.lload 6, 2) := by decide +kernel
theorem V.dX17_operands_105 : decode cX17_operands 105 = .ok (.lconst 1, 1) := by decide +kernel
theorem V.dX17_operands_106 : decode cX17_operands 106 = .ok (.ladd, 1) := by decide +kernel
theorem V.dX17_operands_107 : decode cX17_operands 107 = .ok (.lstore 6, 2) := by decide +kernel
theorem V.dX17_operands_109 : decode cX17_operands 109 = .ok (.goto (-20), 3) := by decide +kernel
theorem V.dX17_operands_112 : decode cX17_operands 112 = .ok (.goto 205, 3) := by decide +kernel
theorem V.dX17_operands_115 : decode cX17_operands 115 = .ok (.iload_n 1, 1) := by decide +kernel
theorem V.dX17_operands_116 : decode cX17_operands 116 = .ok (.bipush 28, 2) := by decide +kernel
theorem V.dX17_operands_118 : decode cX17_operands 118 = .ok (.if_icmp .ne 58, 3) := by decide +kernel
theorem V.dX17_operands_121 : decode cX17_operands 121 = .ok (.aload_n 0, 1) := by decide +kernel
theorem V.dX17_operands_122 : decode cX17_operands 122 = .ok (.invokevirtual 277, 3) := by decide +kernel
theorem V.dX17_operands_125 : decode cX17_operands 125 = .ok (.lstore 4, 2) := by decide +kernel
theorem V.dX17_operands_127 : decode cX17_operands 127 = .ok (.iload_n 3, 1) := by decide +kernel
theorem V.dX17_operands_128 : decode cX17_operands 128 = .ok (.ifCond .eq 19, 3) := by decide +kernel
theorem V.dX17_operands_131 : decode cX17_operands 131 = .ok (.aload_n 0, 1) := by decide +kernel
theorem V.dX17_operands_132 : decode cX17_operands 132 = .ok (.lload 4, 2) := by decide +kernel
theorem V.dX17_operands_134 : decode cX17_operands 134 = .ok (.lconst 1, 1) := by decide +kernel
theorem V.dX17_operands_135 : decode cX17_operands 135 = .ok (.lcmp, 1) := by decide +kernel
theorem V.dX17_operands_136 : decode cX17_operands 136 = .ok (.ifCond .eq 7, 3) := by decide +kernel
theorem V.dX17_operands_139 : decode cX17_operands 139 = .ok (.iconst 1, 1) := by decide +kernel
theorem V.dX17_operands_140 : decode cX17_operands 140 = .ok (.goto 4, 3) := by decide +kernel
theorem V.dX17_operands_143 : decode cX17_operands 143 = .ok (.iconst 0, 1) := by decide +kernel
theorem V.dX17_operands_144 : decode cX17_operands 144 = .ok (.invokevirtual 365, 3) := by decide +kernel
theorem V.dX17_operands_147 : decode cX17_operands 147 = .ok (.lconst 0, 1) := by decide +kernel
theorem V.dX17_operands_148 : decode cX17_operands 148 = .ok (.lstore 6, 2) := by decide +kernel
theorem V.dX17_operands_150 : decode cX17_operands 150 = .ok (.lload 6, 2) := by decide +kernel
theorem V.dX17_operands_152 : decode cX17_operands 152 = .ok (.lload 4, 2) := by decide +kernel
theorem V.dX17_operands_154 : decode cX17_operands 154 = .ok (.lcmp, 1) := by decide +kernel
theorem V.dX17_operands_155 : decode cX17_operands 155 = .ok (.ifCond .ge 18, 3) := by decide +kernel
theorem V.dX17_operands_158 : decode cX17_operands 158 = .ok (.aload_n 0, 1) := by decide +kernel
theorem V.dX17_operands_159 : decode cX17_operands 159 = .ok (.invokevirtual 371, 3) := by decide +kernel
theorem V.dX17_operands_162 : decode cX17_operands 162 = .ok (.istore 8, 2) := by decide +kernel
theorem V.dX17_operands_164 : decode cX17_operands 164 = .ok (.lload 6, 2) := by decide +kernel
theorem V.dX17_operands_166 : decode cX17_operands 166 = .ok (.lconst 1, 1) := by decide +kernel
theorem V.dX17_operands_167 : decode cX17_operands 167 = .ok (.ladd, 1) := by decide +kernel
theorem V.dX17_operands_168 : decode cX17_operands 168 = .ok (.lstore 6, 2) := by decide +kernel
theorem V.dX17_operands_170 : decode cX17_operands 170 = .ok (.goto (-20), 3) := by decide +kernel
theorem V.dX17_operands_173 : decode cX17_operands 173 = .ok (.goto 144, 3) := by decide +kernel
theorem V.dX17_operands_176 : decode cX17_operands 176 = .ok (.iload_n 1, 1) := by decide +kernel
theorem V.dX17_operands_177 : decode cX17_operands 177 = .ok (.bipush 63, 2) := by decide +kernel
theorem V.dX17_operands_179 : decode cX17_operands 179 = .ok (.if_icmp .eq 9, 3) := by decide +kernel
theorem V.dX17_operands_182 : decode cX17_operands 182 = .ok (.iload_n 1, 1) := by decide +kernel
theorem V.dX17_operands_183 : decode cX17_operands 183 = .ok (.bipush 64, 2) := by decide +kernel
theorem V.dX17_operands_185 : decode cX17_operands 185 = .ok (.if_icmp .ne 13, 3) := by decide +kernel
theorem V.dX17_operands_188 : decode cX17_operands 188 = .ok (.aload_n 0, 1) := by decide +kernel
theorem V.dX17_operands_189 : decode cX17_operands 189 = .ok (.iconst 0, 1) := by decide +kernel
theorem V.dX17_operands_190 : decode cX17_operands 190 = .ok (.invokevirtual 393, 3) := by decide +kernel
theorem V.dX17_operands_193 : decode cX17_operands 193 = .ok (.istore 4, 2) := by decide +kernel
theorem V.dX17_operands_195 : decode cX17_operands 195 = .ok (.goto 122, 3) := by decide +kernel
theorem V.dX17_operands_198 : decode cX17_operands 198 = .ok (.iload_n 1, 1) := by decide +kernel
theorem V.dX17_operands_199 : decode cX17_operands 199 = .ok (.bipush 65, 2) := by decide +kernel
theorem V.dX17_operands_201 : decode cX17_operands 201 = .ok (.if_icmp .eq 9, 3) := by decide +kernel
theorem V.dX17_operands_204 : decode cX17_operands 204 = .ok (.iload_n 1, 1) := by decide +kernel
theorem V.dX17_operands_205 : decode cX17_operands 205 = .ok (.bipush 66, 2) := by decide +kernel
theorem V.dX17_operands_207 : decode cX17_operands 207 = .ok (.if_icmp .ne 25, 3) := by decide +kernel
theorem V.dX17_operands_210 : decode cX17_operands 210 = .ok (.aload_n 0, 1) := by decide +kernel
theorem V.dX17_operands_211 : decode cX17_operands 211 = .ok (.iload_n 1, 1) := by decide +kernel
theorem V.dX17_operands_212 : decode cX17_operands 212 = .ok (.bipush 65, 2) := by decide +kernel
theorem V.dX17_operands_214 : decode cX17_operands 214 = .ok (.if_icmp .ne 8, 3) := by decide +kernel
theorem V.dX17_operands_217 : decode cX17_operands 217 = .ok (.bipush 32, 2) := by decide +kernel
theorem V.dX17_operands_219 : decode cX17_operands 219 = .ok (.goto 5, 3) := by decide +kernel
theorem V.dX17_operands_222 : decode cX17_operands 222 = .ok (.bipush 64, 2) := by decide +kernel
theorem V.dX17_operands_224 : decode cX17_operands 224 = .ok (.invokevirtual 562, 3) := by decide +kernel
theorem V.dX17_operands_227 : decode cX17_operands 227 = .ok (.lstore 4, 2) := by decide +kernel
theorem V.dX17_operands_229 : decode cX17_operands 229 = .ok (.goto 88, 3) := by decide +kernel
theorem V.dX17_operands_232 : decode cX17_operands 232 = .ok (.iload_n 1, 1) := by decide +kernel
theorem V.dX17_operands_233 : decode cX17_operands 233 = .ok (.bipush 67, 2) := by decide +kernel
theorem V.dX17_operands_235 : decode cX17_operands 235 = .ok (.if_icmp .eq 9, 3) := by decide +kernel
theorem V.dX17_operands_238 : decode cX17_operands 238 = .ok (.iload_n 1, 1) := by decide +kernel
theorem V.dX17_operands_239 : decode cX17_operands 239 = .ok (.bipush 68, 2) := by decide +kernel
theorem V.dX17_operands_241 : decode cX17_operands 241 = .ok (.if_icmp .ne 38, 3) := by decide +kernel
theorem V.dX17_operands_244 : decode cX17_operands 244 = .ok (.iconst 0, 1) := by decide +kernel
theorem V.dX17_operands_245 : decode cX17_operands 245 = .ok (.istore 4, 2) := by decide +kernel
theorem V.dX17_operands_247 : decode cX17_operands 247 = .ok (.iload 4, 2) := by decide +kernel
theorem V.dX17_operands_249 : decode cX17_operands 249 = .ok (.iload_n 1, 1) := by decide +kernel
theorem V.dX17_operands_250 : decode cX17_operands 250 = .ok (.bipush 67, 2) := by decide +kernel
theorem V.dX17_operands_252 : decode cX17_operands 252 = .ok (.if_icmp .ne 7, 3) := by decide +kernel
theorem V.dX17_operands_255 : decode cX17_operands 255 = .ok (.iconst 4, 1) := by decide +kernel
theorem V.dX17_operands_256 : decode cX17_operands 256 = .ok (.goto 5, 3) := by decide +kernel
theorem V.dX17_operands_259 : decode cX17_operands 259 = .ok (.bipush 8, 2) := by decide +kernel
theorem V.dX17_operands_261 : decode cX17_operands 261 = .ok (.if_icmp .ge 15, 3) := by decide +kernel
theorem V.dX17_operands_264 : decode cX17_operands 264 = .ok (.aload_n 0, 1) := by decide +kernel
theorem V.dX17_operands_265 : decode cX17_operands 265 = .ok (.invokevirtual 264, 3) := by decide +kernel
theorem V.dX17_operands_268 : decode cX17_operands 268 = .ok (.istore 5, 2) := by decide +kernel
theorem V.dX17_operands_270 : decode cX17_operands 270 = .ok (.iinc 4 1, 3) := by decide +kernel
theorem V.dX17_operands_273 : decode cX17_operands 273 = .ok (.goto (-26), 3) := by decide +kernel
theorem V.dX17_operands_276 : decode cX17_operands 276 = .ok (.goto 41, 3) := by decide +kernel
theorem V.dX17_operands_279 : decode cX17_operands 279 = .ok (.iload_n 1, 1) := by decide +kernel
theorem V.dX17_operands_280 : decode cX17_operands 280 = .ok (.sipush 208, 3) := by decide +kernel
theorem V.dX17_operands_283 : decode cX17_operands 283 = .ok (.if_icmp .ne 12, 3) := by decide +kernel
theorem V.dX17_operands_286 : decode cX17_operands 286 = .ok (.aload_n 0, 1) := by decide +kernel
theorem V.dX17_operands_287 : decode cX17_operands 287 = .ok (.invokevirtual 405, 3) := by decide +kernel
theorem V.dX17_operands_290 : decode cX17_operands 290 = .ok (.istore 4, 2) := by decide +kernel
theorem V.dX17_operands_292 : decode cX17_operands 292 = .ok (.goto 25, 3) := by decide +kernel
theorem V.dX17_operands_295 : decode cX17_operands 295 = .ok (.iload_n 1, 1) := by decide +kernel
theorem V.dX17_operands_296 : decode cX17_operands 296 = .ok (.sipush 252, 3) := by decide +kernel
theorem V.dX17_operands_299 : decode cX17_operands 299 = .ok (.if_icmp .ne 11, 3) := by decide +kernel
theorem V.dX17_operands_302 : decode cX17_operands 302 = .ok (.aload_n 0, 1) := by decide +kernel
theorem V.dX17_operands_303 : decode cX17_operands 303 = .ok (.iload_n 2, 1) := by decide +kernel
theorem V.dX17_operands_304 : decode cX17_operands 304 = .ok (.invokevirtual 577, 3) := by decide +kernel
theorem V.dX17_operands_307 : decode cX17_operands 307 = .ok (.goto 10, 3) := by decide +kernel
theorem V.dX17_operands_310 : decode cX17_operands 310 = .ok (.aload_n 0, 1) := by decide +kernel
theorem V.dX17_operands_311 : decode cX17_operands 311 = .ok (.bipush 10, 2) := by decide +kernel
theorem V.dX17_operands_313 : decode cX17_operands 313 = .ok (.iload_n 2, 1) := by decide +kernel
theorem V.dX17_operands_314 : decode cX17_operands 314 = .ok (.invokevirtual 257, 3) := by decide +kernel
theorem V.dX17_operands_317 : decode cX17_operands 317 = .ok (.return_, 1) := by decide +kernel
theorem V.mdX17_566 : MD RX17 566 yX17_isAlone cX17_isAlone 1 (some .boolean) 1 := ⟨Or.inl q3714, q377, q3716, by decide, by decide, by decide +kernel⟩
theorem V.mdX17_569 : MD RX17 569 yX17_hasNumber cX17_hasNumber 1 (some .boolean) 1 := ⟨Or.inl q3717, q377, q3719, by decide, by decide, by decide +kernel⟩
theorem V.mdX17_572 : MD RX17 572 yX17_isAccess cX17_isAccess 1 (some .boolean) 1 := ⟨Or.inl q3720, q377, q3722, by decide, by decide, by decide +kernel⟩
theorem V.mdX17_577 : MD RX17 577 yX17_further cX17_further 6 none 1 := ⟨Or.inl q3724, q377, q3727, by decide, by decide, by decide +kernel⟩
/-! ModuleEngineModel.operands(IIZ)V -/
def V.Mdl_operands_p37  (σ : HS) (x0 : Nat) : Option ((Nat ⊕ Unit) × HS) :=
  ck (tg σ x0 = 18) <| clT (Mdl_number σ x0 ) fun r2 σ1 =>
  ck (tg σ1 x0 = 18) <| clT (Mdl_number σ1 x0 ) fun r4 σ3 =>
  some (.inr (), σ3)
theorem V.gX17_operands_p37 {X : CX}  (σ : HS) (x0 : Nat) : G X RX17 "operands" cX17_operands 10 none 4 91 (enX enV (cxz X)) 37 [(0, av x0)] [] σ (Mdl_operands_p37 σ x0) := by
  unfold Mdl_operands_p37
  refine g_aload_n 0 0 dX17_operands_37 rfl rfl ?_
  refine g_callVT (fc := fun sς => Mdl_number sς x0 ) (ci := 17) (as := []) rfl rfl rfl q3619 qs215 q3617 mdX17_277 (ctX17_number x0 ) rfl (Nat.le_of_ble_eq_true rfl) (Nat.le_of_ble_eq_true rfl) (Nat.le_of_ble_eq_true rfl) pu_J (by decide) dX17_operands_38 (fun r2 σ1 => ?_)
  refine g_lstore dX17_operands_41 (by decide) rfl ?_
  refine g_aload_n 0 1 dX17_operands_43 rfl rfl ?_
  refine g_callVT (fc := fun sς => Mdl_number sς x0 ) (ci := 17) (as := []) rfl rfl rfl q3619 qs215 q3617 mdX17_277 (ctX17_number x0 ) rfl (Nat.le_of_ble_eq_true rfl) (Nat.le_of_ble_eq_true rfl) (Nat.le_of_ble_eq_true rfl) pu_J (by decide) dX17_operands_44 (fun r4 σ3 => ?_)
  refine g_lstore dX17_operands_47 (by decide) rfl ?_
  refine g_goto 317 dX17_operands_49 (by decide) ?_
  exact g_return rfl dX17_operands_317
def V.Mdl_operands_p188  (σ : HS) (x0 : Nat) : Option ((Nat ⊕ Unit) × HS) :=
  ck (tg σ x0 = 18) <| clT (Mdl_small σ x0 (0 : Int32)) fun r2 σ1 =>
  some (.inr (), σ1)
theorem V.gX17_operands_p188 {X : CX}  (σ : HS) (x0 : Nat) : G X RX17 "operands" cX17_operands 10 none 4 91 (enX enV (cxz X)) 188 [(0, av x0)] [] σ (Mdl_operands_p188 σ x0) := by
  unfold Mdl_operands_p188
  refine g_aload_n 0 0 dX17_operands_188 rfl rfl ?_
  refine g_iconst (v := 0) dX17_operands_189 (by decide) ?_
  refine g_callVT (fc := fun sς => Mdl_small sς x0 (0 : Int32)) (ci := 17) (as := [iv (0 : Int32)]) rfl rfl rfl q3671 qs225 q3669 mdX17_393 (ctX17_small x0 (0 : Int32)) rfl (Nat.le_of_ble_eq_true rfl) (Nat.le_of_ble_eq_true rfl) (Nat.le_of_ble_eq_true rfl) pu_I (by decide) dX17_operands_190 (fun r2 σ1 => ?_)
  refine g_istore dX17_operands_193 (by decide) rfl ?_
  refine g_goto 317 dX17_operands_195 (by decide) ?_
  exact g_return rfl dX17_operands_317
def V.Mdl_operands_p224  (σ : HS) (s0 : Int32) (s1 : Nat) : Option ((Nat ⊕ Unit) × HS) :=
  ck (tg σ s1 = 18) <| clT (Mdl_signed σ s1 s0) fun r2 σ1 =>
  some (.inr (), σ1)
theorem V.gX17_operands_p224 {X : CX}  (σ : HS) (s0 : Int32) (s1 : Nat) : G X RX17 "operands" cX17_operands 10 none 4 91 (enX enV (cxz X)) 224 [] [iv s0, av s1] σ (Mdl_operands_p224 σ s0 s1) := by
  unfold Mdl_operands_p224
  refine g_callVT (fc := fun sς => Mdl_signed sς s1 s0) (ci := 17) (as := [iv s0]) rfl rfl rfl q3708 qs234 q3706 mdX17_562 (ctX17_signed s1 s0) rfl (Nat.le_of_ble_eq_true rfl) (Nat.le_of_ble_eq_true rfl) (Nat.le_of_ble_eq_true rfl) pu_J (by decide) dX17_operands_224 (fun r2 σ1 => ?_)
  refine g_lstore dX17_operands_227 (by decide) rfl ?_
  refine g_goto 317 dX17_operands_229 (by decide) ?_
  exact g_return rfl dX17_operands_317
def V.Mdl_operands_p210  (σ : HS) (x0 : Nat) (x1 : Int32) : Option ((Nat ⊕ Unit) × HS) :=
  if x1 = (65 : Int32) then (
    Mdl_operands_p224 σ (32 : Int32) x0)
  else (
    Mdl_operands_p224 σ (64 : Int32) x0)
theorem V.gX17_operands_p210 {X : CX}  (σ : HS) (x0 : Nat) (x1 : Int32) : G X RX17 "operands" cX17_operands 10 none 4 91 (enX enV (cxz X)) 210 [(0, av x0), (1, iv x1)] [] σ (Mdl_operands_p210 σ x0 x1) := by
  unfold Mdl_operands_p210
  refine g_aload_n 0 0 dX17_operands_210 rfl rfl ?_
  refine g_iload_n 1 1 dX17_operands_211 rfl rfl ?_
  refine g_bipush (v := 65) dX17_operands_212 (by decide) ?_
  refine g_icmp_ne 222 dX17_operands_214 (by decide) ?_ ?_
  · refine g_bipush (v := 64) dX17_operands_222 (by decide) ?_
    refine G.sub [] rfl ?_
    exact gX17_operands_p224 _ _ _
  · refine g_bipush (v := 32) dX17_operands_217 (by decide) ?_
    refine g_goto 224 dX17_operands_219 (by decide) ?_
    refine G.sub [] rfl ?_
    exact gX17_operands_p224 _ _ _
def V.Mdl_operands_p261 (rec247 : HS → Nat → Int32 → Int32 → Option ((Nat ⊕ Unit) × HS)) (σ : HS) (x0 : Nat) (x1 : Int32) (x4 : Int32) (s0 : Int32) (s1 : Int32) : Option ((Nat ⊕ Unit) × HS) :=
  if s0 ≤ s1 then (
    some (.inr (), σ))
  else (
    ck (tg σ x0 = 18) <| clT (Mdl_next σ x0 ) fun r2 σ1 =>
    bn (x4 + (1 : Int32)) fun y3 =>
    rec247 σ1 x0 x1 y3)
theorem V.gX17_operands_p261 {X : CX} (rec247 : HS → Nat → Int32 → Int32 → Option ((Nat ⊕ Unit) × HS)) (hrec247 : ∀ (σ : HS) (x0 : Nat) (x1 : Int32) (x4 : Int32), G X RX17 "operands" cX17_operands 10 none 4 91 (enX enV (cxz X)) 247 [(0, av x0), (1, iv x1), (4, iv x4)] [] σ (rec247 σ x0 x1 x4)) (σ : HS) (x0 : Nat) (x1 : Int32) (x4 : Int32) (s0 : Int32) (s1 : Int32) : G X RX17 "operands" cX17_operands 10 none 4 91 (enX enV (cxz X)) 261 [(0, av x0), (1, iv x1), (4, iv x4)] [iv s0, iv s1] σ (Mdl_operands_p261 rec247 σ x0 x1 x4 s0 s1) := by
  unfold Mdl_operands_p261
  refine g_icmp_ge 276 dX17_operands_261 (by decide) ?_ ?_
  · refine g_goto 317 dX17_operands_276 (by decide) ?_
    exact g_return rfl dX17_operands_317
  · refine g_aload_n 0 0 dX17_operands_264 rfl rfl ?_
    refine g_callVT (fc := fun sς => Mdl_next sς x0 ) (ci := 17) (as := []) rfl rfl rfl q3602 qs213 q3600 mdX17_264 (ctX17_next x0 ) rfl (Nat.le_of_ble_eq_true rfl) (Nat.le_of_ble_eq_true rfl) (Nat.le_of_ble_eq_true rfl) pu_I (by decide) dX17_operands_265 (fun r2 σ1 => ?_)
    refine g_istore dX17_operands_268 (by decide) rfl ?_
    refine g_iincB (w := 1) 3 dX17_operands_270 rfl (by decide) (by decide) (fun _ => rfl) (fun y3 => ?_)
    refine g_goto 247 dX17_operands_273 (by decide) ?_
    refine G.sub [2, 3, 0] rfl ?_
    exact hrec247 _ _ _ _
def V.Mdl_operands_p247  : Nat → HS → Nat → Int32 → Int32 → Option ((Nat ⊕ Unit) × HS)
  | 0, _, _, _, _ => none
  | n + 1, σ, x0, x1, x4 =>
    if x1 = (67 : Int32) then (
      Mdl_operands_p261 (Mdl_operands_p247 n) σ x0 x1 x4 (4 : Int32) x4)
    else (
      Mdl_operands_p261 (Mdl_operands_p247 n) σ x0 x1 x4 (8 : Int32) x4)
theorem V.gX17_operands_p247 {X : CX}  : ∀ (n : Nat) (σ : HS) (x0 : Nat) (x1 : Int32) (x4 : Int32), G X RX17 "operands" cX17_operands 10 none 4 91 (enX enV (cxz X)) 247 [(0, av x0), (1, iv x1), (4, iv x4)] [] σ (Mdl_operands_p247 n σ x0 x1 x4)
  | 0, σ, x0, x1, x4 => by rw [Mdl_operands_p247]; exact G.nul
  | n + 1, σ, x0, x1, x4 => by
    rw [Mdl_operands_p247]
    refine g_iload 2 dX17_operands_247 rfl ?_
    refine g_iload_n 1 1 dX17_operands_249 rfl rfl ?_
    refine g_bipush (v := 67) dX17_operands_250 (by decide) ?_
    refine g_icmp_ne 259 dX17_operands_252 (by decide) ?_ ?_
    · refine g_bipush (v := 8) dX17_operands_259 (by decide) ?_
      exact gX17_operands_p261 (Mdl_operands_p247 n) (gX17_operands_p247 n) _ _ _ _ _ _
    · refine g_iconst (v := 4) dX17_operands_255 (by decide) ?_
      refine g_goto 261 dX17_operands_256 (by decide) ?_
      exact gX17_operands_p261 (Mdl_operands_p247 n) (gX17_operands_p247 n) _ _ _ _ _ _
def V.Mdl_operands_p244  (σ : HS) (x0 : Nat) (x1 : Int32) : Option ((Nat ⊕ Unit) × HS) :=
  Mdl_operands_p247 FU σ x0 x1 (0 : Int32)
theorem V.gX17_operands_p244 {X : CX}  (σ : HS) (x0 : Nat) (x1 : Int32) : G X RX17 "operands" cX17_operands 10 none 4 91 (enX enV (cxz X)) 244 [(0, av x0), (1, iv x1)] [] σ (Mdl_operands_p244 σ x0 x1) := by
  unfold Mdl_operands_p244
  refine g_iconst (v := 0) dX17_operands_244 (by decide) ?_
  refine g_istore dX17_operands_245 (by decide) rfl ?_
  refine G.sub [1, 2, 0] rfl ?_
  exact gX17_operands_p247 FU _ _ _ _
def V.Mdl_operands_p150  : Nat → HS → Nat → Int64 → Int64 → Option ((Nat ⊕ Unit) × HS)
  | 0, _, _, _, _ => none
  | n + 1, σ, x0, x4, x6 =>
    if x4 ≤ x6 then (
      some (.inr (), σ))
    else (
      ck (tg σ x0 = 18) <| clT (Mdl_type σ x0 ) fun r2 σ1 =>
      bn (x6 + (1 : Int64)) fun y3 =>
      Mdl_operands_p150 n σ1 x0 x4 y3)
theorem V.gX17_operands_p150 {X : CX}  : ∀ (n : Nat) (σ : HS) (x0 : Nat) (x4 : Int64) (x6 : Int64), G X RX17 "operands" cX17_operands 10 none 4 91 (enX enV (cxz X)) 150 [(0, av x0), (4, jv x4), (6, jv x6)] [] σ (Mdl_operands_p150 n σ x0 x4 x6)
  | 0, σ, x0, x4, x6 => by rw [Mdl_operands_p150]; exact G.nul
  | n + 1, σ, x0, x4, x6 => by
    rw [Mdl_operands_p150]
    refine g_lload 2 dX17_operands_150 rfl ?_
    refine g_lload 1 dX17_operands_152 rfl ?_
    refine g_lcmp_ge 173 dX17_operands_154 dX17_operands_155 (by decide) ?_ ?_
    · refine g_goto 317 dX17_operands_173 (by decide) ?_
      exact g_return rfl dX17_operands_317
    · refine g_aload_n 0 0 dX17_operands_158 rfl rfl ?_
      refine g_callVT (fc := fun sς => Mdl_type sς x0 ) (ci := 17) (as := []) rfl rfl rfl q3657 qs223 q3655 mdX17_371 (ctX17_type x0 ) rfl (Nat.le_of_ble_eq_true rfl) (Nat.le_of_ble_eq_true rfl) (Nat.le_of_ble_eq_true rfl) pu_I (by decide) dX17_operands_159 (fun r2 σ1 => ?_)
      refine g_istore dX17_operands_162 (by decide) rfl ?_
      refine g_lload 3 dX17_operands_164 rfl ?_
      refine g_lconst (v := 1) dX17_operands_166 (by decide) ?_
      refine g_ladd dX17_operands_167 ?_
      refine g_nmJ (fun y3 => ?_)
      refine g_lstore dX17_operands_168 (by decide) rfl ?_
      refine g_goto 150 dX17_operands_170 (by decide) ?_
      refine G.sub [2, 3, 0] rfl ?_
      exact gX17_operands_p150 n _ _ _ _
def V.Mdl_operands_p147  (σ : HS) (x0 : Nat) (x4 : Int64) : Option ((Nat ⊕ Unit) × HS) :=
  Mdl_operands_p150 FU σ x0 x4 (0 : Int64)
theorem V.gX17_operands_p147 {X : CX}  (σ : HS) (x0 : Nat) (x4 : Int64) : G X RX17 "operands" cX17_operands 10 none 4 91 (enX enV (cxz X)) 147 [(0, av x0), (4, jv x4)] [] σ (Mdl_operands_p147 σ x0 x4) := by
  unfold Mdl_operands_p147
  refine g_lconst (v := 0) dX17_operands_147 (by decide) ?_
  refine g_lstore dX17_operands_148 (by decide) rfl ?_
  refine G.sub [1, 2, 0] rfl ?_
  exact gX17_operands_p150 FU _ _ _ _
def V.Mdl_operands_p144  (σ : HS) (x0 : Nat) (x4 : Int64) (s0 : Int32) (s1 : Nat) : Option ((Nat ⊕ Unit) × HS) :=
  ck (tg σ s1 = 18) <| cl (Mdl_exceeds σ s1 s0) fun _ σ1 =>
  Mdl_operands_p147 σ1 x0 x4
theorem V.gX17_operands_p144 {X : CX}  (σ : HS) (x0 : Nat) (x4 : Int64) (s0 : Int32) (s1 : Nat) : G X RX17 "operands" cX17_operands 10 none 4 91 (enX enV (cxz X)) 144 [(0, av x0), (4, jv x4)] [iv s0, av s1] σ (Mdl_operands_p144 σ x0 x4 s0 s1) := by
  unfold Mdl_operands_p144
  refine g_callV (fc := fun sς => Mdl_exceeds sς s1 s0) (ci := 17) (as := [iv s0]) rfl rfl rfl q3648 qs221 mdX17_365 (ctX17_exceeds s1 s0) rfl (Nat.le_of_ble_eq_true rfl) (Nat.le_of_ble_eq_true rfl) (Nat.le_of_ble_eq_true rfl) pu_V dX17_operands_144 (fun _ σ1 => ?_)
  exact gX17_operands_p147 _ _ _
def V.Mdl_operands_p89  : Nat → HS → Nat → Int64 → Int64 → Option ((Nat ⊕ Unit) × HS)
  | 0, _, _, _, _ => none
  | n + 1, σ, x0, x4, x6 =>
    if x4 < x6 then (
      some (.inr (), σ))
    else (
      ck (tg σ x0 = 18) <| clT (Mdl_number σ x0 ) fun r2 σ1 =>
      bn (x6 + (1 : Int64)) fun y3 =>
      Mdl_operands_p89 n σ1 x0 x4 y3)
theorem V.gX17_operands_p89 {X : CX}  : ∀ (n : Nat) (σ : HS) (x0 : Nat) (x4 : Int64) (x6 : Int64), G X RX17 "operands" cX17_operands 10 none 4 91 (enX enV (cxz X)) 89 [(0, av x0), (4, jv x4), (6, jv x6)] [] σ (Mdl_operands_p89 n σ x0 x4 x6)
  | 0, σ, x0, x4, x6 => by rw [Mdl_operands_p89]; exact G.nul
  | n + 1, σ, x0, x4, x6 => by
    rw [Mdl_operands_p89]
    refine g_lload 2 dX17_operands_89 rfl ?_
    refine g_lload 1 dX17_operands_91 rfl ?_
    refine g_lcmp_gt 112 dX17_operands_93 dX17_operands_94 (by decide) ?_ ?_
    · refine g_goto 317 dX17_operands_112 (by decide) ?_
      exact g_return rfl dX17_operands_317
    · refine g_aload_n 0 0 dX17_operands_97 rfl rfl ?_
      refine g_callVT (fc := fun sς => Mdl_number sς x0 ) (ci := 17) (as := []) rfl rfl rfl q3619 qs215 q3617 mdX17_277 (ctX17_number x0 ) rfl (Nat.le_of_ble_eq_true rfl) (Nat.le_of_ble_eq_true rfl) (Nat.le_of_ble_eq_true rfl) pu_J (by decide) dX17_operands_98 (fun r2 σ1 => ?_)
      refine g_lstore dX17_operands_101 (by decide) rfl ?_
      refine g_lload 3 dX17_operands_103 rfl ?_
      refine g_lconst (v := 1) dX17_operands_105 (by decide) ?_
      refine g_ladd dX17_operands_106 ?_
      refine g_nmJ (fun y3 => ?_)
      refine g_lstore dX17_operands_107 (by decide) rfl ?_
      refine g_goto 89 dX17_operands_109 (by decide) ?_
      refine G.sub [2, 3, 0] rfl ?_
      exact gX17_operands_p89 n _ _ _ _
def V.Mdl_operands_p86  (σ : HS) (x0 : Nat) (x4 : Int64) : Option ((Nat ⊕ Unit) × HS) :=
  Mdl_operands_p89 FU σ x0 x4 (0 : Int64)
theorem V.gX17_operands_p86 {X : CX}  (σ : HS) (x0 : Nat) (x4 : Int64) : G X RX17 "operands" cX17_operands 10 none 4 91 (enX enV (cxz X)) 86 [(0, av x0), (4, jv x4)] [] σ (Mdl_operands_p86 σ x0 x4) := by
  unfold Mdl_operands_p86
  refine g_lconst (v := 0) dX17_operands_86 (by decide) ?_
  refine g_lstore dX17_operands_87 (by decide) rfl ?_
  refine G.sub [1, 2, 0] rfl ?_
  exact gX17_operands_p89 FU _ _ _ _
def V.Mdl_operands_p83  (σ : HS) (x0 : Nat) (x4 : Int64) (s0 : Int32) (s1 : Nat) : Option ((Nat ⊕ Unit) × HS) :=
  ck (tg σ s1 = 18) <| cl (Mdl_exceeds σ s1 s0) fun _ σ1 =>
  Mdl_operands_p86 σ1 x0 x4
theorem V.gX17_operands_p83 {X : CX}  (σ : HS) (x0 : Nat) (x4 : Int64) (s0 : Int32) (s1 : Nat) : G X RX17 "operands" cX17_operands 10 none 4 91 (enX enV (cxz X)) 83 [(0, av x0), (4, jv x4)] [iv s0, av s1] σ (Mdl_operands_p83 σ x0 x4 s0 s1) := by
  unfold Mdl_operands_p83
  refine g_callV (fc := fun sς => Mdl_exceeds sς s1 s0) (ci := 17) (as := [iv s0]) rfl rfl rfl q3648 qs221 mdX17_365 (ctX17_exceeds s1 s0) rfl (Nat.le_of_ble_eq_true rfl) (Nat.le_of_ble_eq_true rfl) (Nat.le_of_ble_eq_true rfl) pu_V dX17_operands_83 (fun _ σ1 => ?_)
  exact gX17_operands_p86 _ _ _
def V.Mdl_operands (σ : HS) (x0 : Nat) (x1 : Int32) (x2 : Int32) (x3 : Int32) : Option ((Nat ⊕ Unit) × HS) :=
  cl (Mdl_isAlone σ x1) fun r2 σ1 =>
  if r2 = 0 then (
    cl (Mdl_hasNumber σ1 x1) fun r4 σ3 =>
    if r4 = 0 then (
      cl (Mdl_isAccess σ3 x1) fun r6 σ5 =>
      if r6 = 0 then (
        if x1 = (17 : Int32) then (
          Mdl_operands_p37 σ5 x0)
        else (
          if x1 = (14 : Int32) then (
            ck (tg σ5 x0 = 18) <| clT (Mdl_number σ5 x0 ) fun r14 σ13 =>
            if x3 = 0 then (
              Mdl_operands_p86 σ13 x0 r14)
            else (
              if r14 ≤ (200 : Int64) then (
                Mdl_operands_p83 σ13 x0 r14 (0 : Int32) x0)
              else (
                Mdl_operands_p83 σ13 x0 r14 (1 : Int32) x0)))
          else (
            if x1 = (28 : Int32) then (
              ck (tg σ5 x0 = 18) <| clT (Mdl_number σ5 x0 ) fun r12 σ11 =>
              if x3 = 0 then (
                Mdl_operands_p147 σ11 x0 r12)
              else (
                if r12 = (1 : Int64) then (
                  Mdl_operands_p144 σ11 x0 r12 (0 : Int32) x0)
                else (
                  Mdl_operands_p144 σ11 x0 r12 (1 : Int32) x0)))
            else (
              if x1 = (63 : Int32) then (
                Mdl_operands_p188 σ5 x0)
              else (
                if x1 = (64 : Int32) then (
                  Mdl_operands_p188 σ5 x0)
                else (
                  if x1 = (65 : Int32) then (
                    Mdl_operands_p210 σ5 x0 x1)
                  else (
                    if x1 = (66 : Int32) then (
                      Mdl_operands_p210 σ5 x0 x1)
                    else (
                      if x1 = (67 : Int32) then (
                        Mdl_operands_p244 σ5 x0 x1)
                      else (
                        if x1 = (68 : Int32) then (
                          Mdl_operands_p244 σ5 x0 x1)
                        else (
                          if x1 = (208 : Int32) then (
                            ck (tg σ5 x0 = 18) <| clT (Mdl_referenceType σ5 x0 ) fun r10 σ9 =>
                            some (.inr (), σ9))
                          else (
                            if x1 = (252 : Int32) then (
                              ck (tg σ5 x0 = 18) <| clT (Mdl_further σ5 x0 x2) fun _ σ8 =>
                              some (.inr (), σ8))
                            else (
                              ck (tg σ5 x0 = 18) <| clT (Mdl_stops σ5 x0 (10 : Int32) x2) fun _ σ7 =>
                              some (.inr (), σ7)))))))))))))
      else (
        Mdl_operands_p37 σ5 x0))
    else (
      ck (tg σ3 x0 = 18) <| clT (Mdl_number σ3 x0 ) fun r16 σ15 =>
      some (.inr (), σ15)))
  else (
    some (.inr (), σ1))
theorem V.ctX17_operands (x0 : Nat) (x1 : Int32) (x2 : Int32) (x3 : Int32) : Ct yX17_operands  cX17_operands 10 none 4 91 eXV [av x0, iv x1, iv x2, iv x3] (fun σ => Mdl_operands σ x0 x1 x2 x3) := by
  refine Ct.of (own := RX17) (nm := "operands") (desc := "(IIZ)V") rfl (by decide) (Nat.le_of_ble_eq_true rfl) (by decide) (fun X σ => ?_)
  show G X RX17 "operands" cX17_operands 10 none 4 91 (enX enV (cxz X)) 0 [(0, av x0), (1, iv x1), (2, iv x2), (3, iv x3)] [] σ (Mdl_operands σ x0 x1 x2 x3)
  unfold Mdl_operands
  refine g_iload_n 1 1 dX17_operands_0 rfl rfl ?_
  refine g_callS (fc := fun sς => Mdl_isAlone sς x1) (as := [iv x1]) q3715 mdX17_566 (ctX17_isAlone x1) rfl (Nat.le_of_ble_eq_true rfl) (Nat.le_of_ble_eq_true rfl) (Nat.le_of_ble_eq_true rfl) pu_I dX17_operands_1 (fun r2 σ1 => ?_)
  refine g_if_eq 8 dX17_operands_4 (by decide) ?_ ?_
  · refine g_iload_n 1 1 dX17_operands_8 rfl rfl ?_
    refine g_callS (fc := fun sς => Mdl_hasNumber sς x1) (as := [iv x1]) q3718 mdX17_569 (ctX17_hasNumber x1) rfl (Nat.le_of_ble_eq_true rfl) (Nat.le_of_ble_eq_true rfl) (Nat.le_of_ble_eq_true rfl) pu_I dX17_operands_9 (fun r4 σ3 => ?_)
    refine g_if_eq 24 dX17_operands_12 (by decide) ?_ ?_
    · refine g_iload_n 1 1 dX17_operands_24 rfl rfl ?_
      refine g_callS (fc := fun sς => Mdl_isAccess sς x1) (as := [iv x1]) q3721 mdX17_572 (ctX17_isAccess x1) rfl (Nat.le_of_ble_eq_true rfl) (Nat.le_of_ble_eq_true rfl) (Nat.le_of_ble_eq_true rfl) pu_I dX17_operands_25 (fun r6 σ5 => ?_)
      refine g_if_ne 37 dX17_operands_28 (by decide) ?_ ?_
      · refine G.sub [0] rfl ?_
        exact gX17_operands_p37 _ _
      · refine g_iload_n 1 1 dX17_operands_31 rfl rfl ?_
        refine g_bipush (v := 17) dX17_operands_32 (by decide) ?_
        refine g_icmp_ne 52 dX17_operands_34 (by decide) ?_ ?_
        · refine g_iload_n 1 1 dX17_operands_52 rfl rfl ?_
          refine g_bipush (v := 14) dX17_operands_53 (by decide) ?_
          refine g_icmp_ne 115 dX17_operands_55 (by decide) ?_ ?_
          · refine g_iload_n 1 1 dX17_operands_115 rfl rfl ?_
            refine g_bipush (v := 28) dX17_operands_116 (by decide) ?_
            refine g_icmp_ne 176 dX17_operands_118 (by decide) ?_ ?_
            · refine g_iload_n 1 1 dX17_operands_176 rfl rfl ?_
              refine g_bipush (v := 63) dX17_operands_177 (by decide) ?_
              refine g_icmp_eq 188 dX17_operands_179 (by decide) ?_ ?_
              · refine G.sub [0] rfl ?_
                exact gX17_operands_p188 _ _
              · refine g_iload_n 1 1 dX17_operands_182 rfl rfl ?_
                refine g_bipush (v := 64) dX17_operands_183 (by decide) ?_
                refine g_icmp_ne 198 dX17_operands_185 (by decide) ?_ ?_
                · refine g_iload_n 1 1 dX17_operands_198 rfl rfl ?_
                  refine g_bipush (v := 65) dX17_operands_199 (by decide) ?_
                  refine g_icmp_eq 210 dX17_operands_201 (by decide) ?_ ?_
                  · refine G.sub [0, 1] rfl ?_
                    exact gX17_operands_p210 _ _ _
                  · refine g_iload_n 1 1 dX17_operands_204 rfl rfl ?_
                    refine g_bipush (v := 66) dX17_operands_205 (by decide) ?_
                    refine g_icmp_ne 232 dX17_operands_207 (by decide) ?_ ?_
                    · refine g_iload_n 1 1 dX17_operands_232 rfl rfl ?_
                      refine g_bipush (v := 67) dX17_operands_233 (by decide) ?_
                      refine g_icmp_eq 244 dX17_operands_235 (by decide) ?_ ?_
                      · refine G.sub [0, 1] rfl ?_
                        exact gX17_operands_p244 _ _ _
                      · refine g_iload_n 1 1 dX17_operands_238 rfl rfl ?_
                        refine g_bipush (v := 68) dX17_operands_239 (by decide) ?_
                        refine g_icmp_ne 279 dX17_operands_241 (by decide) ?_ ?_
                        · refine g_iload_n 1 1 dX17_operands_279 rfl rfl ?_
                          refine g_sipush (v := 208) dX17_operands_280 (by decide) ?_
                          refine g_icmp_ne 295 dX17_operands_283 (by decide) ?_ ?_
                          · refine g_iload_n 1 1 dX17_operands_295 rfl rfl ?_
                            refine g_sipush (v := 252) dX17_operands_296 (by decide) ?_
                            refine g_icmp_ne 310 dX17_operands_299 (by decide) ?_ ?_
                            · refine g_aload_n 0 0 dX17_operands_310 rfl rfl ?_
                              refine g_bipush (v := 10) dX17_operands_311 (by decide) ?_
                              refine g_iload_n 2 2 dX17_operands_313 rfl rfl ?_
                              refine g_callVT (fc := fun sς => Mdl_stops sς x0 (10 : Int32) x2) (ci := 17) (as := [iv (10 : Int32), iv x2]) rfl rfl rfl q3606 qs214 q3604 mdX17_257 (ctX17_stops x0 (10 : Int32) x2) rfl (Nat.le_of_ble_eq_true rfl) (Nat.le_of_ble_eq_true rfl) (Nat.le_of_ble_eq_true rfl) pu_V (by decide) dX17_operands_314 (fun _ σ7 => ?_)
                              exact g_return rfl dX17_operands_317
                            · refine g_aload_n 0 0 dX17_operands_302 rfl rfl ?_
                              refine g_iload_n 2 2 dX17_operands_303 rfl rfl ?_
                              refine g_callVT (fc := fun sς => Mdl_further sς x0 x2) (ci := 17) (as := [iv x2]) rfl rfl rfl q3726 qs236 q3724 mdX17_577 (ctX17_further x0 x2) rfl (Nat.le_of_ble_eq_true rfl) (Nat.le_of_ble_eq_true rfl) (Nat.le_of_ble_eq_true rfl) pu_V (by decide) dX17_operands_304 (fun _ σ8 => ?_)
                              refine g_goto 317 dX17_operands_307 (by decide) ?_
                              exact g_return rfl dX17_operands_317
                          · refine g_aload_n 0 0 dX17_operands_286 rfl rfl ?_
                            refine g_callVT (fc := fun sς => Mdl_referenceType sς x0 ) (ci := 17) (as := []) rfl rfl rfl q3676 qs226 q3674 mdX17_405 (ctX17_referenceType x0 ) rfl (Nat.le_of_ble_eq_true rfl) (Nat.le_of_ble_eq_true rfl) (Nat.le_of_ble_eq_true rfl) pu_I (by decide) dX17_operands_287 (fun r10 σ9 => ?_)
                            refine g_istore dX17_operands_290 (by decide) rfl ?_
                            refine g_goto 317 dX17_operands_292 (by decide) ?_
                            exact g_return rfl dX17_operands_317
                        · refine G.sub [0, 1] rfl ?_
                          exact gX17_operands_p244 _ _ _
                    · refine G.sub [0, 1] rfl ?_
                      exact gX17_operands_p210 _ _ _
                · refine G.sub [0] rfl ?_
                  exact gX17_operands_p188 _ _
            · refine g_aload_n 0 0 dX17_operands_121 rfl rfl ?_
              refine g_callVT (fc := fun sς => Mdl_number sς x0 ) (ci := 17) (as := []) rfl rfl rfl q3619 qs215 q3617 mdX17_277 (ctX17_number x0 ) rfl (Nat.le_of_ble_eq_true rfl) (Nat.le_of_ble_eq_true rfl) (Nat.le_of_ble_eq_true rfl) pu_J (by decide) dX17_operands_122 (fun r12 σ11 => ?_)
              refine g_lstore dX17_operands_125 (by decide) rfl ?_
              refine g_iload_n 3 4 dX17_operands_127 rfl rfl ?_
              refine g_if_eq 147 dX17_operands_128 (by decide) ?_ ?_
              · refine G.sub [1, 0] rfl ?_
                exact gX17_operands_p147 _ _ _
              · refine g_aload_n 0 1 dX17_operands_131 rfl rfl ?_
                refine g_lload 0 dX17_operands_132 rfl ?_
                refine g_lconst (v := 1) dX17_operands_134 (by decide) ?_
                refine g_lcmp_eq 143 dX17_operands_135 dX17_operands_136 (by decide) ?_ ?_
                · refine g_iconst (v := 0) dX17_operands_143 (by decide) ?_
                  refine G.sub [1, 0] rfl ?_
                  exact gX17_operands_p144 _ _ _ _ _
                · refine g_iconst (v := 1) dX17_operands_139 (by decide) ?_
                  refine g_goto 144 dX17_operands_140 (by decide) ?_
                  refine G.sub [1, 0] rfl ?_
                  exact gX17_operands_p144 _ _ _ _ _
          · refine g_aload_n 0 0 dX17_operands_58 rfl rfl ?_
            refine g_callVT (fc := fun sς => Mdl_number sς x0 ) (ci := 17) (as := []) rfl rfl rfl q3619 qs215 q3617 mdX17_277 (ctX17_number x0 ) rfl (Nat.le_of_ble_eq_true rfl) (Nat.le_of_ble_eq_true rfl) (Nat.le_of_ble_eq_true rfl) pu_J (by decide) dX17_operands_59 (fun r14 σ13 => ?_)
            refine g_lstore dX17_operands_62 (by decide) rfl ?_
            refine g_iload_n 3 4 dX17_operands_64 rfl rfl ?_
            refine g_if_eq 86 dX17_operands_65 (by decide) ?_ ?_
            · refine G.sub [1, 0] rfl ?_
              exact gX17_operands_p86 _ _ _
            · refine g_aload_n 0 1 dX17_operands_68 rfl rfl ?_
              refine g_lload 0 dX17_operands_69 rfl ?_
              refine g_ldc2 q3723 dX17_operands_71 ?_
              refine g_lcmp_le 82 dX17_operands_74 dX17_operands_75 (by decide) ?_ ?_
              · refine g_iconst (v := 0) dX17_operands_82 (by decide) ?_
                refine G.sub [1, 0] rfl ?_
                exact gX17_operands_p83 _ _ _ _ _
              · refine g_iconst (v := 1) dX17_operands_78 (by decide) ?_
                refine g_goto 83 dX17_operands_79 (by decide) ?_
                refine G.sub [1, 0] rfl ?_
                exact gX17_operands_p83 _ _ _ _ _
        · refine G.sub [0] rfl ?_
          exact gX17_operands_p37 _ _
    · refine g_aload_n 0 0 dX17_operands_15 rfl rfl ?_
      refine g_callVT (fc := fun sς => Mdl_number sς x0 ) (ci := 17) (as := []) rfl rfl rfl q3619 qs215 q3617 mdX17_277 (ctX17_number x0 ) rfl (Nat.le_of_ble_eq_true rfl) (Nat.le_of_ble_eq_true rfl) (Nat.le_of_ble_eq_true rfl) pu_J (by decide) dX17_operands_16 (fun r16 σ15 => ?_)
      refine g_lstore dX17_operands_19 (by decide) rfl ?_
      refine g_goto 317 dX17_operands_21 (by decide) ?_
      exact g_return rfl dX17_operands_317
  · exact g_return rfl dX17_operands_7
theorem V.dX17_expression_0 : decode cX17_expression 0 = .ok (.iconst 1, 1) := by decide +kernel
theorem V.dX17_expression_1 : decode cX17_expression 1 = .ok (.istore_n 2, 1) := by decide +kernel
theorem V.dX17_expression_2 : decode cX17_expression 2 = .ok (.aload_n 0, 1) := by decide +kernel
theorem V.dX17_expression_3 : decode cX17_expression 3 = .ok (.getfield 28, 3) := by decide +kernel
theorem V.dX17_expression_6 : decode cX17_expression 6 = .ok (.iconst 0, 1) := by decide +kernel
theorem V.dX17_expression_7 : decode cX17_expression 7 = .ok (.iconst 0, 1) := by decide +kernel
theorem V.dX17_expression_8 : decode cX17_expression 8 = .ok (.iastore, 1) := by decide +kernel
theorem V.dX17_expression_9 : decode cX17_expression 9 = .ok (.iload_n 2, 1) := by decide +kernel
theorem V.dX17_expression_10 : decode cX17_expression 10 = .ok (.ifCond .le 192, 3) := by decide +kernel
theorem V.dX17_expression_13 : decode cX17_expression 13 = .ok (.aload_n 0, 1) := by decide +kernel
theorem V.dX17_expression_14 : decode cX17_expression 14 = .ok (.getfield 251, 3) := by decide +kernel
theorem V.dX17_expression_17 : decode cX17_expression 17 = .ok (.istore_n 3, 1) := by decide +kernel
theorem V.dX17_expression_18 : decode cX17_expression 18 = .ok (.aload_n 0, 1) := by decide +kernel
theorem V.dX17_expression_19 : decode cX17_expression 19 = .ok (.invokevirtual 264, 3) := by decide +kernel
theorem V.dX17_expression_22 : decode cX17_expression 22 = .ok (.istore 4, 2) := by decide +kernel
theorem V.dX17_expression_24 : decode cX17_expression 24 = .ok (.iload 4, 2) := by decide +kernel
theorem V.dX17_expression_26 : decode cX17_expression 26 = .ok (.bipush 11, 2) := by decide +kernel
theorem V.dX17_expression_28 : decode cX17_expression 28 = .ok (.if_icmp .ne 72, 3) := by decide +kernel
theorem V.dX17_expression_31 : decode cX17_expression 31 = .ok (.iinc 2 (-1), 3) := by decide +kernel
theorem V.dX17_expression_34 : decode cX17_expression 34 = .ok (.iload_n 2, 1) := by decide +kernel
theorem V.dX17_expression_35 : decode cX17_expression 35 = .ok (.ifCond .le 18, 3) := by decide +kernel
theorem V.dX17_expression_38 : decode cX17_expression 38 = .ok (.aload_n 0, 1) := by decide +kernel
theorem V.dX17_expression_39 : decode cX17_expression 39 = .ok (.getfield 221, 3) := by decide +kernel
theorem V.dX17_expression_42 : decode cX17_expression 42 = .ok (.getfield 549, 3) := by decide +kernel
theorem V.dX17_expression_45 : decode cX17_expression 45 = .ok (.aload_n 0, 1) := by decide +kernel
theorem V.dX17_expression_46 : decode cX17_expression 46 = .ok (.getfield 32, 3) := by decide +kernel
theorem V.dX17_expression_49 : decode cX17_expression 49 = .ok (.iload_n 2, 1) := by decide +kernel
theorem V.dX17_expression_50 : decode cX17_expression 50 = .ok (.iaload, 1) := by decide +kernel
theorem V.dX17_expression_51 : decode cX17_expression 51 = .ok (.iload_n 3, 1) := by decide +kernel
theorem V.dX17_expression_52 : decode cX17_expression 52 = .ok (.iastore, 1) := by decide +kernel
theorem V.dX17_expression_53 : decode cX17_expression 53 = .ok (.iload_n 2, 1) := by decide +kernel
theorem V.dX17_expression_54 : decode cX17_expression 54 = .ok (.ifCond .le 145, 3) := by decide +kernel
theorem V.dX17_expression_57 : decode cX17_expression 57 = .ok (.aload_n 0, 1) := by decide +kernel
theorem V.dX17_expression_58 : decode cX17_expression 58 = .ok (.getfield 221, 3) := by decide +kernel
theorem V.dX17_expression_61 : decode cX17_expression 61 = .ok (.getfield 552, 3) := by decide +kernel
theorem V.dX17_expression_64 : decode cX17_expression 64 = .ok (.aload_n 0, 1) := by decide +kernel
theorem V.dX17_expression_65 : decode cX17_expression 65 = .ok (.getfield 32, 3) := by decide +kernel
theorem V.dX17_expression_68 : decode cX17_expression 68 = .ok (.iload_n 2, 1) := by decide +kernel
theorem V.dX17_expression_69 : decode cX17_expression 69 = .ok (.iaload, 1) := by decide +kernel
theorem V.dX17_expression_70 : decode cX17_expression 70 = .ok (.iaload, 1) := by decide +kernel
theorem V.dX17_expression_71 : decode cX17_expression 71 = .ok (.ifCond .le 128, 3) := by decide +kernel
theorem V.dX17_expression_74 : decode cX17_expression 74 = .ok (.aload_n 0, 1) := by decide +kernel
theorem V.dX17_expression_75 : decode cX17_expression 75 = .ok (.getfield 221, 3) := by decide +kernel
theorem V.dX17_expression_78 : decode cX17_expression 78 = .ok (.getfield 549, 3) := by decide +kernel
theorem V.dX17_expression_81 : decode cX17_expression 81 = .ok (.aload_n 0, 1) := by decide +kernel
theorem V.dX17_expression_82 : decode cX17_expression 82 = .ok (.getfield 221, 3) := by decide +kernel
theorem V.dX17_expression_85 : decode cX17_expression 85 = .ok (.getfield 552, 3) := by decide +kernel
theorem V.dX17_expression_88 : decode cX17_expression 88 = .ok (.aload_n 0, 1) := by decide +kernel
theorem V.dX17_expression_89 : decode cX17_expression 89 = .ok (.getfield 32, 3) := by decide +kernel
theorem V.dX17_expression_92 : decode cX17_expression 92 = .ok (.iload_n 2, 1) := by decide +kernel
theorem V.dX17_expression_93 : decode cX17_expression 93 = .ok (.iaload, 1) := by decide +kernel
theorem V.dX17_expression_94 : decode cX17_expression 94 = .ok (.iaload, 1) := by decide +kernel
theorem V.dX17_expression_95 : decode cX17_expression 95 = .ok (.iload_n 3, 1) := by decide +kernel
theorem V.dX17_expression_96 : decode cX17_expression 96 = .ok (.iastore, 1) := by decide +kernel
theorem V.dX17_expression_97 : decode cX17_expression 97 = .ok (.goto 102, 3) := by decide +kernel
theorem V.dX17_expression_100 : decode cX17_expression 100 = .ok (.iload 4, 2) := by decide +kernel
theorem V.dX17_expression_102 : decode cX17_expression 102 = .ok (.iconst 2, 1) := by decide +kernel
theorem V.dX17_expression_103 : decode cX17_expression 103 = .ok (.if_icmp .lt 34, 3) := by decide +kernel
theorem V.dX17_expression_106 : decode cX17_expression 106 = .ok (.iload 4, 2) := by decide +kernel
theorem V.dX17_expression_108 : decode cX17_expression 108 = .ok (.iconst 4, 1) := by decide +kernel
theorem V.dX17_expression_109 : decode cX17_expression 109 = .ok (.if_icmp .gt 28, 3) := by decide +kernel
theorem V.dX17_expression_112 : decode cX17_expression 112 = .ok (.aload_n 0, 1) := by decide +kernel
theorem V.dX17_expression_113 : decode cX17_expression 113 = .ok (.invokevirtual 555, 3) := by decide +kernel
theorem V.dX17_expression_116 : decode cX17_expression 116 = .ok (.aload_n 0, 1) := by decide +kernel
theorem V.dX17_expression_117 : decode cX17_expression 117 = .ok (.getfield 28, 3) := by decide +kernel
theorem V.dX17_expression_120 : decode cX17_expression 120 = .ok (.iload_n 2, 1) := by decide +kernel
theorem V.dX17_expression_121 : decode cX17_expression 121 = .ok (.iload 4, 2) := by decide +kernel
theorem V.dX17_expression_123 : decode cX17_expression 123 = .ok (.iastore, 1) := by decide +kernel
theorem V.dX17_expression_124 : decode cX17_expression 124 = .ok (.aload_n 0, 1) := by decide +kernel
theorem V.dX17_expression_125 : decode cX17_expression 125 = .ok (.getfield 32, 3) := by decide +kernel
theorem V.dX17_expression_128 : decode cX17_expression 128 = .ok (.iload_n 2, 1) := by decide +kernel
theorem V.dX17_expression_129 : decode cX17_expression 129 = .ok (.iload_n 3, 1) := by decide +kernel
theorem V.dX17_expression_130 : decode cX17_expression 130 = .ok (.iastore, 1) := by decide +kernel
theorem V.dX17_expression_131 : decode cX17_expression 131 = .ok (.iinc 2 1, 3) := by decide +kernel
theorem V.dX17_expression_134 : decode cX17_expression 134 = .ok (.goto 65, 3) := by decide +kernel
theorem V.dX17_expression_137 : decode cX17_expression 137 = .ok (.iload 4, 2) := by decide +kernel
theorem V.dX17_expression_139 : decode cX17_expression 139 = .ok (.iconst 5, 1) := by decide +kernel
theorem V.dX17_expression_140 : decode cX17_expression 140 = .ok (.if_icmp .ne 51, 3) := by decide +kernel
theorem V.dX17_expression_143 : decode cX17_expression 143 = .ok (.aload_n 0, 1) := by decide +kernel
theorem V.dX17_expression_144 : decode cX17_expression 144 = .ok (.getfield 28, 3) := by decide +kernel
theorem V.dX17_expression_147 : decode cX17_expression 147 = .ok (.iload_n 2, 1) := by decide +kernel
theorem V.dX17_expression_148 : decode cX17_expression 148 = .ok (.iconst 1, 1) := by decide +kernel
theorem V.dX17_expression_149 : decode cX17_expression 149 = .ok (.isub, 1) := by decide +kernel
theorem V.dX17_expression_150 : decode cX17_expression 150 = .ok (.iaload, 1) := by decide +kernel
theorem V.dX17_expression_151 : decode cX17_expression 151 = .ok (.iconst 4, 1) := by decide +kernel
theorem V.dX17_expression_152 : decode cX17_expression 152 = .ok (.if_icmp .eq 10, 3) := by decide +kernel
theorem V.dX17_expression_155 : decode cX17_expression 155 = .ok (.aload_n 0, 1) := by decide +kernel
theorem V.dX17_expression_156 : decode cX17_expression 156 = .ok (.bipush 10, 2) := by decide +kernel
theorem V.dX17_expression_158 : decode cX17_expression 158 = .ok (.iload_n 3, 1) := by decide +kernel
theorem V.dX17_expression_159 : decode cX17_expression 159 = .ok (.invokevirtual 257, 3) := by decide +kernel
theorem V.dX17_expression_162 : decode cX17_expression 162 = .ok (.aload_n 0, 1) := by decide +kernel
theorem V.dX17_expression_163 : decode cX17_expression 163 = .ok (.getfield 28, 3) := by decide +kernel
theorem V.dX17_expression_166 : decode cX17_expression 166 = .ok (.iload_n 2, 1) := by decide +kernel
theorem V.dX17_expression_167 : decode cX17_expression 167 = .ok (.iconst 1, 1) := by decide +kernel
theorem V.dX17_expression_168 : decode cX17_expression 168 = .ok (.isub, 1) := by decide +kernel
theorem V.dX17_expression_169 : decode cX17_expression 169 = .ok (.iconst 5, 1) := by decide +kernel
theorem V.dX17_expression_170 : decode cX17_expression 170 = .ok (.iastore, 1) := by decide +kernel
theorem V.dX17_expression_171 : decode cX17_expression 171 = .ok (.aload_n 0, 1) := by decide +kernel
theorem V.dX17_expression_172 : decode cX17_expression 172 = .ok (.getfield 221, 3) := by decide +kernel
theorem V.dX17_expression_175 : decode cX17_expression 175 = .ok (.getfield 552, 3) := by decide +kernel
theorem V.dX17_expression_178 : decode cX17_expression 178 = .ok (.aload_n 0, 1) := by decide +kernel
theorem V.dX17_expression_179 : decode cX17_expression 179 = .ok (.getfield 32, 3) := by decide +kernel
theorem V.dX17_expression_182 : decode cX17_expression 182 = .ok (.iload_n 2, 1) := by decide +kernel
theorem V.dX17_expression_183 : decode cX17_expression 183 = .ok (.iconst 1, 1) := by decide +kernel
theorem V.dX17_expression_184 : decode cX17_expression 184 = .ok (.isub, 1) := by decide +kernel
theorem V.dX17_expression_185 : decode cX17_expression 185 = .ok (.iaload, 1) := by decide +kernel
theorem V.dX17_expression_186 : decode cX17_expression 186 = .ok (.iload_n 3, 1) := by decide +kernel
theorem V.dX17_expression_187 : decode cX17_expression 187 = .ok (.iastore, 1) := by decide +kernel
theorem V.dX17_expression_188 : decode cX17_expression 188 = .ok (.goto 11, 3) := by decide +kernel
theorem V.dX17_expression_191 : decode cX17_expression 191 = .ok (.aload_n 0, 1) := by decide +kernel
theorem V.dX17_expression_192 : decode cX17_expression 192 = .ok (.iload 4, 2) := by decide +kernel
theorem V.dX17_expression_194 : decode cX17_expression 194 = .ok (.iload_n 3, 1) := by decide +kernel
theorem V.dX17_expression_195 : decode cX17_expression 195 = .ok (.iload_n 1, 1) := by decide +kernel
theorem V.dX17_expression_196 : decode cX17_expression 196 = .ok (.invokevirtual 558, 3) := by decide +kernel
theorem V.dX17_expression_199 : decode cX17_expression 199 = .ok (.goto (-190), 3) := by decide +kernel
theorem V.dX17_expression_202 : decode cX17_expression 202 = .ok (.return_, 1) := by decide +kernel
theorem V.fdX17_28 : FD RX17 28 17 14 2 := ⟨(RX17, TX17, 101), tyX17, rfl, rfl, in_X17, by decide, Or.inl q3050, rfl⟩
theorem V.mdX17_555 : MD RX17 555 yX17_blockType cX17_blockType 3 none 0 := ⟨Or.inl q3702, q377, q3705, by decide, by decide, by decide +kernel⟩
theorem V.fdX17_32 : FD RX17 32 17 15 2 := ⟨(RX17, TX17, 101), tyX17, rfl, rfl, in_X17, by decide, Or.inl q3051, rfl⟩
theorem V.fdX17_549 : FD RX17 549 20 56 2 := ⟨(RX20, TX20, 58), tyX20, rfl, rfl, in_X20, by decide, Or.inr ⟨_, q3472⟩, rfl⟩
theorem V.mdX17_558 : MD RX17 558 yX17_operands cX17_operands 10 none 3 := ⟨Or.inl q3710, q377, q3713, by decide, by decide, by decide +kernel⟩
theorem V.fdX17_552 : FD RX17 552 20 57 2 := ⟨(RX20, TX20, 58), tyX20, rfl, rfl, in_X20, by decide, Or.inr ⟨_, q3474⟩, rfl⟩
/-! ModuleEngineModel.expression(Z)V -/
def V.Mdl_expression_p162 (rec9 : HS → Nat → Int32 → Int32 → Option ((Nat ⊕ Unit) × HS)) (σ : HS) (x0 : Nat) (x1 : Int32) (x2 : Int32) (x3 : Int32) : Option ((Nat ⊕ Unit) × HS) :=
  ck (tg σ x0 = 18) <|
  ck (tg σ (gR σ x0 14) = 100 ∧ inb (x2 - (1 : Int32)) (ln σ (gR σ x0 14))) <| bn (sI σ (gR σ x0 14) (ix (x2 - (1 : Int32))) (5 : Int32)) fun σ1 =>
  ck (tg σ1 x0 = 18) <|
  ck (tg σ1 (gR σ1 x0 10) = 21) <|
  ck (tg σ1 x0 = 18) <|
  ck (tg σ1 (gR σ1 x0 15) = 100 ∧ inb (x2 - (1 : Int32)) (ln σ1 (gR σ1 x0 15))) <|
  ck (tg σ1 (gR σ1 (gR σ1 x0 10) 57) = 100 ∧ inb (gI σ1 (gR σ1 x0 15) (ix (x2 - (1 : Int32)))) (ln σ1 (gR σ1 (gR σ1 x0 10) 57))) <| bn (sI σ1 (gR σ1 (gR σ1 x0 10) 57) (ix (gI σ1 (gR σ1 x0 15) (ix (x2 - (1 : Int32))))) x3) fun σ2 =>
  rec9 σ2 x0 x1 x2
theorem V.gX17_expression_p162 {X : CX} (rec9 : HS → Nat → Int32 → Int32 → Option ((Nat ⊕ Unit) × HS)) (hrec9 : ∀ (σ : HS) (x0 : Nat) (x1 : Int32) (x2 : Int32), G X RX17 "expression" cX17_expression 5 none 5 120 (enX enV (cxz X)) 9 [(0, av x0), (1, iv x1), (2, iv x2)] [] σ (rec9 σ x0 x1 x2)) (σ : HS) (x0 : Nat) (x1 : Int32) (x2 : Int32) (x3 : Int32) : G X RX17 "expression" cX17_expression 5 none 5 120 (enX enV (cxz X)) 162 [(0, av x0), (1, iv x1), (2, iv x2), (3, iv x3)] [] σ (Mdl_expression_p162 rec9 σ x0 x1 x2 x3) := by
  unfold Mdl_expression_p162
  refine g_aload_n 0 0 dX17_expression_162 rfl rfl ?_
  refine g_getR fdX17_28 dX17_expression_163 ?_
  refine g_iload_n 2 2 dX17_expression_166 rfl rfl ?_
  refine g_iconst (v := 1) dX17_expression_167 (by decide) ?_
  refine g_isub dX17_expression_168 ?_
  refine g_iconst (v := 5) dX17_expression_169 (by decide) ?_
  refine g_iastore dX17_expression_170 (fun σ1 => ?_)
  refine g_aload_n 0 0 dX17_expression_171 rfl rfl ?_
  refine g_getR fdX17_221 dX17_expression_172 ?_
  refine g_getR fdX17_552 dX17_expression_175 ?_
  refine g_aload_n 0 0 dX17_expression_178 rfl rfl ?_
  refine g_getR fdX17_32 dX17_expression_179 ?_
  refine g_iload_n 2 2 dX17_expression_182 rfl rfl ?_
  refine g_iconst (v := 1) dX17_expression_183 (by decide) ?_
  refine g_isub dX17_expression_184 ?_
  refine g_iaload dX17_expression_185 ?_
  refine g_iload_n 3 3 dX17_expression_186 rfl rfl ?_
  refine g_iastore dX17_expression_187 (fun σ2 => ?_)
  refine g_goto 199 dX17_expression_188 (by decide) ?_
  refine g_goto 9 dX17_expression_199 (by decide) ?_
  refine G.sub [0, 1, 2] rfl ?_
  exact hrec9 _ _ _ _
def V.Mdl_expression_p137 (rec9 : HS → Nat → Int32 → Int32 → Option ((Nat ⊕ Unit) × HS)) (σ : HS) (x0 : Nat) (x1 : Int32) (x2 : Int32) (x3 : Int32) (x4 : Int32) : Option ((Nat ⊕ Unit) × HS) :=
  if x4 = (5 : Int32) then (
    ck (tg σ x0 = 18) <|
    ck (tg σ (gR σ x0 14) = 100 ∧ inb (x2 - (1 : Int32)) (ln σ (gR σ x0 14))) <|
    if (gI σ (gR σ x0 14) (ix (x2 - (1 : Int32)))) = (4 : Int32) then (
      Mdl_expression_p162 rec9 σ x0 x1 x2 x3)
    else (
      ck (tg σ x0 = 18) <| clT (Mdl_stops σ x0 (10 : Int32) x3) fun _ σ2 =>
      Mdl_expression_p162 rec9 σ2 x0 x1 x2 x3))
  else (
    ck (tg σ x0 = 18) <| clT (Mdl_operands σ x0 x4 x3 x1) fun _ σ1 =>
    rec9 σ1 x0 x1 x2)
theorem V.gX17_expression_p137 {X : CX} (rec9 : HS → Nat → Int32 → Int32 → Option ((Nat ⊕ Unit) × HS)) (hrec9 : ∀ (σ : HS) (x0 : Nat) (x1 : Int32) (x2 : Int32), G X RX17 "expression" cX17_expression 5 none 5 120 (enX enV (cxz X)) 9 [(0, av x0), (1, iv x1), (2, iv x2)] [] σ (rec9 σ x0 x1 x2)) (σ : HS) (x0 : Nat) (x1 : Int32) (x2 : Int32) (x3 : Int32) (x4 : Int32) : G X RX17 "expression" cX17_expression 5 none 5 120 (enX enV (cxz X)) 137 [(0, av x0), (1, iv x1), (2, iv x2), (3, iv x3), (4, iv x4)] [] σ (Mdl_expression_p137 rec9 σ x0 x1 x2 x3 x4) := by
  unfold Mdl_expression_p137
  refine g_iload 4 dX17_expression_137 rfl ?_
  refine g_iconst (v := 5) dX17_expression_139 (by decide) ?_
  refine g_icmp_ne 191 dX17_expression_140 (by decide) ?_ ?_
  · refine g_aload_n 0 0 dX17_expression_191 rfl rfl ?_
    refine g_iload 4 dX17_expression_192 rfl ?_
    refine g_iload_n 3 3 dX17_expression_194 rfl rfl ?_
    refine g_iload_n 1 1 dX17_expression_195 rfl rfl ?_
    refine g_callVT (fc := fun sς => Mdl_operands sς x0 x4 x3 x1) (ci := 17) (as := [iv x4, iv x3, iv x1]) rfl rfl rfl q3712 qs235 q3710 mdX17_558 (ctX17_operands x0 x4 x3 x1) rfl (Nat.le_of_ble_eq_true rfl) (Nat.le_of_ble_eq_true rfl) (Nat.le_of_ble_eq_true rfl) pu_V (by decide) dX17_expression_196 (fun _ σ1 => ?_)
    refine g_goto 9 dX17_expression_199 (by decide) ?_
    refine G.sub [0, 1, 2] rfl ?_
    exact hrec9 _ _ _ _
  · refine g_aload_n 0 0 dX17_expression_143 rfl rfl ?_
    refine g_getR fdX17_28 dX17_expression_144 ?_
    refine g_iload_n 2 2 dX17_expression_147 rfl rfl ?_
    refine g_iconst (v := 1) dX17_expression_148 (by decide) ?_
    refine g_isub dX17_expression_149 ?_
    refine g_iaload dX17_expression_150 ?_
    refine g_iconst (v := 4) dX17_expression_151 (by decide) ?_
    refine g_icmp_eq 162 dX17_expression_152 (by decide) ?_ ?_
    · refine G.sub [0, 1, 2, 3] rfl ?_
      exact gX17_expression_p162 rec9 hrec9 _ _ _ _ _
    · refine g_aload_n 0 0 dX17_expression_155 rfl rfl ?_
      refine g_bipush (v := 10) dX17_expression_156 (by decide) ?_
      refine g_iload_n 3 3 dX17_expression_158 rfl rfl ?_
      refine g_callVT (fc := fun sς => Mdl_stops sς x0 (10 : Int32) x3) (ci := 17) (as := [iv (10 : Int32), iv x3]) rfl rfl rfl q3606 qs214 q3604 mdX17_257 (ctX17_stops x0 (10 : Int32) x3) rfl (Nat.le_of_ble_eq_true rfl) (Nat.le_of_ble_eq_true rfl) (Nat.le_of_ble_eq_true rfl) pu_V (by decide) dX17_expression_159 (fun _ σ2 => ?_)
      refine G.sub [0, 1, 2, 3] rfl ?_
      exact gX17_expression_p162 rec9 hrec9 _ _ _ _ _
def V.Mdl_expression_p53 (rec9 : HS → Nat → Int32 → Int32 → Option ((Nat ⊕ Unit) × HS)) (σ : HS) (x0 : Nat) (x1 : Int32) (x2 : Int32) (x3 : Int32) : Option ((Nat ⊕ Unit) × HS) :=
  if x2 ≤ 0 then (
    rec9 σ x0 x1 x2)
  else (
    ck (tg σ x0 = 18) <|
    ck (tg σ (gR σ x0 10) = 21) <|
    ck (tg σ x0 = 18) <|
    ck (tg σ (gR σ x0 15) = 100 ∧ inb x2 (ln σ (gR σ x0 15))) <|
    ck (tg σ (gR σ (gR σ x0 10) 57) = 100 ∧ inb (gI σ (gR σ x0 15) (ix x2)) (ln σ (gR σ (gR σ x0 10) 57))) <|
    if (gI σ (gR σ (gR σ x0 10) 57) (ix (gI σ (gR σ x0 15) (ix x2)))) ≤ 0 then (
      rec9 σ x0 x1 x2)
    else (
      ck (tg σ x0 = 18) <|
      ck (tg σ (gR σ x0 10) = 21) <|
      ck (tg σ x0 = 18) <|
      ck (tg σ (gR σ x0 10) = 21) <|
      ck (tg σ x0 = 18) <|
      ck (tg σ (gR σ x0 15) = 100 ∧ inb x2 (ln σ (gR σ x0 15))) <|
      ck (tg σ (gR σ (gR σ x0 10) 57) = 100 ∧ inb (gI σ (gR σ x0 15) (ix x2)) (ln σ (gR σ (gR σ x0 10) 57))) <|
      ck (tg σ (gR σ (gR σ x0 10) 56) = 100 ∧ inb (gI σ (gR σ (gR σ x0 10) 57) (ix (gI σ (gR σ x0 15) (ix x2)))) (ln σ (gR σ (gR σ x0 10) 56))) <| bn (sI σ (gR σ (gR σ x0 10) 56) (ix (gI σ (gR σ (gR σ x0 10) 57) (ix (gI σ (gR σ x0 15) (ix x2))))) x3) fun σ1 =>
      rec9 σ1 x0 x1 x2))
theorem V.gX17_expression_p53 {X : CX} (rec9 : HS → Nat → Int32 → Int32 → Option ((Nat ⊕ Unit) × HS)) (hrec9 : ∀ (σ : HS) (x0 : Nat) (x1 : Int32) (x2 : Int32), G X RX17 "expression" cX17_expression 5 none 5 120 (enX enV (cxz X)) 9 [(0, av x0), (1, iv x1), (2, iv x2)] [] σ (rec9 σ x0 x1 x2)) (σ : HS) (x0 : Nat) (x1 : Int32) (x2 : Int32) (x3 : Int32) : G X RX17 "expression" cX17_expression 5 none 5 120 (enX enV (cxz X)) 53 [(0, av x0), (1, iv x1), (2, iv x2), (3, iv x3)] [] σ (Mdl_expression_p53 rec9 σ x0 x1 x2 x3) := by
  unfold Mdl_expression_p53
  refine g_iload_n 2 2 dX17_expression_53 rfl rfl ?_
  refine g_if_le 199 dX17_expression_54 (by decide) ?_ ?_
  · refine g_goto 9 dX17_expression_199 (by decide) ?_
    refine G.sub [0, 1, 2] rfl ?_
    exact hrec9 _ _ _ _
  · refine g_aload_n 0 0 dX17_expression_57 rfl rfl ?_
    refine g_getR fdX17_221 dX17_expression_58 ?_
    refine g_getR fdX17_552 dX17_expression_61 ?_
    refine g_aload_n 0 0 dX17_expression_64 rfl rfl ?_
    refine g_getR fdX17_32 dX17_expression_65 ?_
    refine g_iload_n 2 2 dX17_expression_68 rfl rfl ?_
    refine g_iaload dX17_expression_69 ?_
    refine g_iaload dX17_expression_70 ?_
    refine g_if_le 199 dX17_expression_71 (by decide) ?_ ?_
    · refine g_goto 9 dX17_expression_199 (by decide) ?_
      refine G.sub [0, 1, 2] rfl ?_
      exact hrec9 _ _ _ _
    · refine g_aload_n 0 0 dX17_expression_74 rfl rfl ?_
      refine g_getR fdX17_221 dX17_expression_75 ?_
      refine g_getR fdX17_549 dX17_expression_78 ?_
      refine g_aload_n 0 0 dX17_expression_81 rfl rfl ?_
      refine g_getR fdX17_221 dX17_expression_82 ?_
      refine g_getR fdX17_552 dX17_expression_85 ?_
      refine g_aload_n 0 0 dX17_expression_88 rfl rfl ?_
      refine g_getR fdX17_32 dX17_expression_89 ?_
      refine g_iload_n 2 2 dX17_expression_92 rfl rfl ?_
      refine g_iaload dX17_expression_93 ?_
      refine g_iaload dX17_expression_94 ?_
      refine g_iload_n 3 3 dX17_expression_95 rfl rfl ?_
      refine g_iastore dX17_expression_96 (fun σ1 => ?_)
      refine g_goto 199 dX17_expression_97 (by decide) ?_
      refine g_goto 9 dX17_expression_199 (by decide) ?_
      refine G.sub [0, 1, 2] rfl ?_
      exact hrec9 _ _ _ _
def V.Mdl_expression_p9  : Nat → HS → Nat → Int32 → Int32 → Option ((Nat ⊕ Unit) × HS)
  | 0, _, _, _, _ => none
  | n + 1, σ, x0, x1, x2 =>
    if x2 ≤ 0 then (
      some (.inr (), σ))
    else (
      ck (tg σ x0 = 18) <|
      bn (gI σ x0 11) fun y1 =>
      ck (tg σ x0 = 18) <| clT (Mdl_next σ x0 ) fun r3 σ2 =>
      if r3 = (11 : Int32) then (
        bn (x2 + (-1 : Int32)) fun y8 =>
        if y8 ≤ 0 then (
          Mdl_expression_p53 (Mdl_expression_p9 n) σ2 x0 x1 y8 y1)
        else (
          ck (tg σ2 x0 = 18) <|
          ck (tg σ2 (gR σ2 x0 10) = 21) <|
          ck (tg σ2 x0 = 18) <|
          ck (tg σ2 (gR σ2 x0 15) = 100 ∧ inb y8 (ln σ2 (gR σ2 x0 15))) <|
          ck (tg σ2 (gR σ2 (gR σ2 x0 10) 56) = 100 ∧ inb (gI σ2 (gR σ2 x0 15) (ix y8)) (ln σ2 (gR σ2 (gR σ2 x0 10) 56))) <| bn (sI σ2 (gR σ2 (gR σ2 x0 10) 56) (ix (gI σ2 (gR σ2 x0 15) (ix y8))) y1) fun σ9 =>
          Mdl_expression_p53 (Mdl_expression_p9 n) σ9 x0 x1 y8 y1))
      else (
        if r3 < (2 : Int32) then (
          Mdl_expression_p137 (Mdl_expression_p9 n) σ2 x0 x1 x2 y1 r3)
        else (
          if (4 : Int32) < r3 then (
            Mdl_expression_p137 (Mdl_expression_p9 n) σ2 x0 x1 x2 y1 r3)
          else (
            ck (tg σ2 x0 = 18) <| clT (Mdl_blockType σ2 x0 ) fun _ σ4 =>
            ck (tg σ4 x0 = 18) <|
            ck (tg σ4 (gR σ4 x0 14) = 100 ∧ inb x2 (ln σ4 (gR σ4 x0 14))) <| bn (sI σ4 (gR σ4 x0 14) (ix x2) r3) fun σ5 =>
            ck (tg σ5 x0 = 18) <|
            ck (tg σ5 (gR σ5 x0 15) = 100 ∧ inb x2 (ln σ5 (gR σ5 x0 15))) <| bn (sI σ5 (gR σ5 x0 15) (ix x2) y1) fun σ6 =>
            bn (x2 + (1 : Int32)) fun y7 =>
            Mdl_expression_p9 n σ6 x0 x1 y7))))
theorem V.gX17_expression_p9 {X : CX}  : ∀ (n : Nat) (σ : HS) (x0 : Nat) (x1 : Int32) (x2 : Int32), G X RX17 "expression" cX17_expression 5 none 5 120 (enX enV (cxz X)) 9 [(0, av x0), (1, iv x1), (2, iv x2)] [] σ (Mdl_expression_p9 n σ x0 x1 x2)
  | 0, σ, x0, x1, x2 => by rw [Mdl_expression_p9]; exact G.nul
  | n + 1, σ, x0, x1, x2 => by
    rw [Mdl_expression_p9]
    refine g_iload_n 2 2 dX17_expression_9 rfl rfl ?_
    refine g_if_le 202 dX17_expression_10 (by decide) ?_ ?_
    · exact g_return rfl dX17_expression_202
    · refine g_aload_n 0 0 dX17_expression_13 rfl rfl ?_
      refine g_getI fdX17_251 dX17_expression_14 ?_
      refine g_nmI (fun y1 => ?_)
      refine g_istore_n 3 dX17_expression_17 rfl (by decide) rfl ?_
      refine g_aload_n 0 1 dX17_expression_18 rfl rfl ?_
      refine g_callVT (fc := fun sς => Mdl_next sς x0 ) (ci := 17) (as := []) rfl rfl rfl q3602 qs213 q3600 mdX17_264 (ctX17_next x0 ) rfl (Nat.le_of_ble_eq_true rfl) (Nat.le_of_ble_eq_true rfl) (Nat.le_of_ble_eq_true rfl) pu_I (by decide) dX17_expression_19 (fun r3 σ2 => ?_)
      refine g_istore dX17_expression_22 (by decide) rfl ?_
      refine g_iload 0 dX17_expression_24 rfl ?_
      refine g_bipush (v := 11) dX17_expression_26 (by decide) ?_
      refine g_icmp_ne 100 dX17_expression_28 (by decide) ?_ ?_
      · refine g_iload 0 dX17_expression_100 rfl ?_
        refine g_iconst (v := 2) dX17_expression_102 (by decide) ?_
        refine g_icmp_lt 137 dX17_expression_103 (by decide) ?_ ?_
        · refine G.sub [2, 3, 4, 1, 0] rfl ?_
          exact gX17_expression_p137 (Mdl_expression_p9 n) (gX17_expression_p9 n) _ _ _ _ _ _
        · refine g_iload 0 dX17_expression_106 rfl ?_
          refine g_iconst (v := 4) dX17_expression_108 (by decide) ?_
          refine g_icmp_gt 137 dX17_expression_109 (by decide) ?_ ?_
          · refine G.sub [2, 3, 4, 1, 0] rfl ?_
            exact gX17_expression_p137 (Mdl_expression_p9 n) (gX17_expression_p9 n) _ _ _ _ _ _
          · refine g_aload_n 0 2 dX17_expression_112 rfl rfl ?_
            refine g_callVT (fc := fun sς => Mdl_blockType sς x0 ) (ci := 17) (as := []) rfl rfl rfl q3704 qs233 q3702 mdX17_555 (ctX17_blockType x0 ) rfl (Nat.le_of_ble_eq_true rfl) (Nat.le_of_ble_eq_true rfl) (Nat.le_of_ble_eq_true rfl) pu_V (by decide) dX17_expression_113 (fun _ σ4 => ?_)
            refine g_aload_n 0 2 dX17_expression_116 rfl rfl ?_
            refine g_getR fdX17_28 dX17_expression_117 ?_
            refine g_iload_n 2 4 dX17_expression_120 rfl rfl ?_
            refine g_iload 0 dX17_expression_121 rfl ?_
            refine g_iastore dX17_expression_123 (fun σ5 => ?_)
            refine g_aload_n 0 2 dX17_expression_124 rfl rfl ?_
            refine g_getR fdX17_32 dX17_expression_125 ?_
            refine g_iload_n 2 4 dX17_expression_128 rfl rfl ?_
            refine g_iload_n 3 1 dX17_expression_129 rfl rfl ?_
            refine g_iastore dX17_expression_130 (fun σ6 => ?_)
            refine g_iincB (w := 1) 4 dX17_expression_131 rfl (by decide) (by decide) (fun _ => rfl) (fun y7 => ?_)
            refine g_goto 199 dX17_expression_134 (by decide) ?_
            refine g_goto 9 dX17_expression_199 (by decide) ?_
            refine G.sub [3, 4, 0] rfl ?_
            exact gX17_expression_p9 n _ _ _ _
      · refine g_iincB (w := (-1)) 4 dX17_expression_31 rfl (by decide) (by decide) (fun _ => rfl) (fun y8 => ?_)
        refine g_iload_n 2 0 dX17_expression_34 rfl rfl ?_
        refine g_if_le 53 dX17_expression_35 (by decide) ?_ ?_
        · refine G.sub [3, 4, 0, 2] rfl ?_
          exact gX17_expression_p53 (Mdl_expression_p9 n) (gX17_expression_p9 n) _ _ _ _ _
        · refine g_aload_n 0 3 dX17_expression_38 rfl rfl ?_
          refine g_getR fdX17_221 dX17_expression_39 ?_
          refine g_getR fdX17_549 dX17_expression_42 ?_
          refine g_aload_n 0 3 dX17_expression_45 rfl rfl ?_
          refine g_getR fdX17_32 dX17_expression_46 ?_
          refine g_iload_n 2 0 dX17_expression_49 rfl rfl ?_
          refine g_iaload dX17_expression_50 ?_
          refine g_iload_n 3 2 dX17_expression_51 rfl rfl ?_
          refine g_iastore dX17_expression_52 (fun σ9 => ?_)
          refine G.sub [3, 4, 0, 2] rfl ?_
          exact gX17_expression_p53 (Mdl_expression_p9 n) (gX17_expression_p9 n) _ _ _ _ _
def V.Mdl_expression (σ : HS) (x0 : Nat) (x1 : Int32) : Option ((Nat ⊕ Unit) × HS) :=
  ck (tg σ x0 = 18) <|
  ck (tg σ (gR σ x0 14) = 100 ∧ inb (0 : Int32) (ln σ (gR σ x0 14))) <| bn (sI σ (gR σ x0 14) (ix (0 : Int32)) (0 : Int32)) fun σ1 =>
  Mdl_expression_p9 FU σ1 x0 x1 (1 : Int32)
theorem V.ctX17_expression (x0 : Nat) (x1 : Int32) : Ct yX17_expression  cX17_expression 5 none 5 120 eXV [av x0, iv x1] (fun σ => Mdl_expression σ x0 x1) := by
  refine Ct.of (own := RX17) (nm := "expression") (desc := "(Z)V") rfl (by decide) (Nat.le_of_ble_eq_true rfl) (by decide) (fun X σ => ?_)
  show G X RX17 "expression" cX17_expression 5 none 5 120 (enX enV (cxz X)) 0 [(0, av x0), (1, iv x1)] [] σ (Mdl_expression σ x0 x1)
  unfold Mdl_expression
  refine g_iconst (v := 1) dX17_expression_0 (by decide) ?_
  refine g_istore_n 2 dX17_expression_1 rfl (by decide) rfl ?_
  refine g_aload_n 0 1 dX17_expression_2 rfl rfl ?_
  refine g_getR fdX17_28 dX17_expression_3 ?_
  refine g_iconst (v := 0) dX17_expression_6 (by decide) ?_
  refine g_iconst (v := 0) dX17_expression_7 (by decide) ?_
  refine g_iastore dX17_expression_8 (fun σ1 => ?_)
  refine G.sub [1, 2, 0] rfl ?_
  exact gX17_expression_p9 FU _ _ _ _
theorem V.dX17_readsGlobals_0 : decode cX17_readsGlobals 0 = .ok (.aload_n 0, 1) := by decide +kernel
theorem V.dX17_readsGlobals_1 : decode cX17_readsGlobals 1 = .ok (.invokevirtual 277, 3) := by decide +kernel
theorem V.dX17_readsGlobals_4 : decode cX17_readsGlobals 4 = .ok (.lstore_n 1, 1) := by decide +kernel
theorem V.dX17_readsGlobals_5 : decode cX17_readsGlobals 5 = .ok (.aload_n 0, 1) := by decide +kernel
theorem V.dX17_readsGlobals_6 : decode cX17_readsGlobals 6 = .ok (.getfield 221, 3) := by decide +kernel
theorem V.dX17_readsGlobals_9 : decode cX17_readsGlobals 9 = .ok (.aload_n 0, 1) := by decide +kernel
theorem V.dX17_readsGlobals_10 : decode cX17_readsGlobals 10 = .ok (.lload_n 1, 1) := by decide +kernel
theorem V.dX17_readsGlobals_11 : decode cX17_readsGlobals 11 = .ok (.invokevirtual 377, 3) := by decide +kernel
theorem V.dX17_readsGlobals_14 : decode cX17_readsGlobals 14 = .ok (.putfield 453, 3) := by decide +kernel
theorem V.dX17_readsGlobals_17 : decode cX17_readsGlobals 17 = .ok (.lconst 0, 1) := by decide +kernel
theorem V.dX17_readsGlobals_18 : decode cX17_readsGlobals 18 = .ok (.lstore_n 3, 1) := by decide +kernel
theorem V.dX17_readsGlobals_19 : decode cX17_readsGlobals 19 = .ok (.lload_n 3, 1) := by decide +kernel
theorem V.dX17_readsGlobals_20 : decode cX17_readsGlobals 20 = .ok (.lload_n 1, 1) := by decide +kernel
theorem V.dX17_readsGlobals_21 : decode cX17_readsGlobals 21 = .ok (.lcmp, 1) := by decide +kernel
theorem V.dX17_readsGlobals_22 : decode cX17_readsGlobals 22 = .ok (.ifCond .ge 87, 3) := by decide +kernel
theorem V.dX17_readsGlobals_25 : decode cX17_readsGlobals 25 = .ok (.aload_n 0, 1) := by decide +kernel
theorem V.dX17_readsGlobals_26 : decode cX17_readsGlobals 26 = .ok (.invokevirtual 371, 3) := by decide +kernel
theorem V.dX17_readsGlobals_29 : decode cX17_readsGlobals 29 = .ok (.istore 5, 2) := by decide +kernel
theorem V.dX17_readsGlobals_31 : decode cX17_readsGlobals 31 = .ok (.aload_n 0, 1) := by decide +kernel
theorem V.dX17_readsGlobals_32 : decode cX17_readsGlobals 32 = .ok (.iconst 1, 1) := by decide +kernel
theorem V.dX17_readsGlobals_33 : decode cX17_readsGlobals 33 = .ok (.invokevirtual 393, 3) := by decide +kernel
theorem V.dX17_readsGlobals_36 : decode cX17_readsGlobals 36 = .ok (.iconst 1, 1) := by decide +kernel
theorem V.dX17_readsGlobals_37 : decode cX17_readsGlobals 37 = .ok (.if_icmp .ne 7, 3) := by decide +kernel
theorem V.dX17_readsGlobals_40 : decode cX17_readsGlobals 40 = .ok (.iconst 1, 1) := by decide +kernel
theorem V.dX17_readsGlobals_41 : decode cX17_readsGlobals 41 = .ok (.goto 4, 3) := by decide +kernel
theorem V.dX17_readsGlobals_44 : decode cX17_readsGlobals 44 = .ok (.iconst 0, 1) := by decide +kernel
theorem V.dX17_readsGlobals_45 : decode cX17_readsGlobals 45 = .ok (.istore 6, 2) := by decide +kernel
theorem V.dX17_readsGlobals_47 : decode cX17_readsGlobals 47 = .ok (.aload_n 0, 1) := by decide +kernel
theorem V.dX17_readsGlobals_48 : decode cX17_readsGlobals 48 = .ok (.getfield 251, 3) := by decide +kernel
theorem V.dX17_readsGlobals_51 : decode cX17_readsGlobals 51 = .ok (.istore 7, 2) := by decide +kernel
theorem V.dX17_readsGlobals_53 : decode cX17_readsGlobals 53 = .ok (.aload_n 0, 1) := by decide +kernel
theorem V.dX17_readsGlobals_54 : decode cX17_readsGlobals 54 = .ok (.iconst 0, 1) := by decide +kernel
theorem V.dX17_readsGlobals_55 : decode cX17_readsGlobals 55 = .ok (.invokevirtual 456, 3) := by decide +kernel
theorem V.dX17_readsGlobals_58 : decode cX17_readsGlobals 58 = .ok (.lload_n 3, 1) := by decide +kernel
theorem V.dX17_readsGlobals_59 : decode cX17_readsGlobals 59 = .ok (.ldc2_w 363, 3) := by decide +kernel
theorem V.dX17_readsGlobals_62 : decode cX17_readsGlobals 62 = .ok (.lcmp, 1) := by decide +kernel
theorem V.dX17_readsGlobals_63 : decode cX17_readsGlobals 63 = .ok (.ifCond .ge 39, 3) := by decide +kernel
theorem V.dX17_readsGlobals_66 : decode cX17_readsGlobals 66 = .ok (.aload_n 0, 1) := by decide +kernel
theorem V.dX17_readsGlobals_67 : decode cX17_readsGlobals 67 = .ok (.getfield 221, 3) := by decide +kernel
theorem V.dX17_readsGlobals_70 : decode cX17_readsGlobals 70 = .ok (.getfield 459, 3) := by decide +kernel
theorem V.dX17_readsGlobals_73 : decode cX17_readsGlobals 73 = .ok (.lload_n 3, 1) := by decide +kernel
theorem V.dX17_readsGlobals_74 : decode cX17_readsGlobals 74 = .ok (.l2i, 1) := by decide +kernel
theorem V.dX17_readsGlobals_75 : decode cX17_readsGlobals 75 = .ok (.iload 5, 2) := by decide +kernel
theorem V.dX17_readsGlobals_77 : decode cX17_readsGlobals 77 = .ok (.iastore, 1) := by decide +kernel
theorem V.dX17_readsGlobals_78 : decode cX17_readsGlobals 78 = .ok (.aload_n 0, 1) := by decide +kernel
theorem V.dX17_readsGlobals_79 : decode cX17_readsGlobals 79 = .ok (.getfield 221, 3) := by decide +kernel
theorem V.dX17_readsGlobals_82 : decode cX17_readsGlobals 82 = .ok (.getfield 462, 3) := by decide +kernel
theorem V.dX17_readsGlobals_85 : decode cX17_readsGlobals 85 = .ok (.lload_n 3, 1) := by decide +kernel
theorem V.dX17_readsGlobals_86 : decode cX17_readsGlobals 86 = .ok (.l2i, 1) := by decide +kernel
theorem V.dX17_readsGlobals_87 : decode cX17_readsGlobals 87 = .ok (.iload 6, 2) := by decide +kernel
theorem V.dX17_readsGlobals_89 : decode cX17_readsGlobals 89 = .ok (.bastore, 1) := by decide +kernel
theorem V.dX17_readsGlobals_90 : decode cX17_readsGlobals 90 = .ok (.aload_n 0, 1) := by decide +kernel
theorem V.dX17_readsGlobals_91 : decode cX17_readsGlobals 91 = .ok (.getfield 221, 3) := by decide +kernel
theorem V.dX17_readsGlobals_94 : decode cX17_readsGlobals 94 = .ok (.getfield 463, 3) := by decide +kernel
theorem V.dX17_readsGlobals_97 : decode cX17_readsGlobals 97 = .ok (.lload_n 3, 1) := by decide +kernel
theorem V.dX17_readsGlobals_98 : decode cX17_readsGlobals 98 = .ok (.l2i, 1) := by decide +kernel
theorem V.dX17_readsGlobals_99 : decode cX17_readsGlobals 99 = .ok (.iload 7, 2) := by decide +kernel
theorem V.dX17_readsGlobals_101 : decode cX17_readsGlobals 101 = .ok (.iastore, 1) := by decide +kernel
theorem V.dX17_readsGlobals_102 : decode cX17_readsGlobals 102 = .ok (.lload_n 3, 1) := by decide +kernel
theorem V.dX17_readsGlobals_103 : decode cX17_readsGlobals 103 = .ok (.lconst 1, 1) := by decide +kernel
theorem V.dX17_readsGlobals_104 : decode cX17_readsGlobals 104 = .ok (.ladd, 1) := by decide +kernel
theorem V.dX17_readsGlobals_105 : decode cX17_readsGlobals 105 = .ok (.lstore_n 3, 1) := by decide +kernel
theorem V.dX17_readsGlobals_106 : decode cX17_readsGlobals 106 = .ok (.goto (-87), 3) := by decide +kernel
theorem V.dX17_readsGlobals_109 : decode cX17_readsGlobals 109 = .ok (.return_, 1) := by decide +kernel
theorem V.fpX17_453 {nm : String} : FP RX17 nm 453 20 24 (.int) := ⟨(RX20, TX20, 58), tyX20, rfl, rfl, in_X20, by decide, tyX20_ok, nmX20, rfl, Or.inl ⟨rfl, Or.inr ⟨_, q3408⟩⟩⟩
theorem V.mdX17_456 : MD RX17 456 yX17_expression cX17_expression 5 none 1 := ⟨Or.inl q3698, q377, q3701, by decide, by decide, by decide +kernel⟩
theorem V.fdX17_459 : FD RX17 459 20 25 2 := ⟨(RX20, TX20, 58), tyX20, rfl, rfl, in_X20, by decide, Or.inr ⟨_, q3410⟩, rfl⟩
theorem V.fdX17_462 : FD RX17 462 20 26 2 := ⟨(RX20, TX20, 58), tyX20, rfl, rfl, in_X20, by decide, Or.inr ⟨_, q3412⟩, rfl⟩
theorem V.fdX17_463 : FD RX17 463 20 27 2 := ⟨(RX20, TX20, 58), tyX20, rfl, rfl, in_X20, by decide, Or.inr ⟨_, q3414⟩, rfl⟩
/-! ModuleEngineModel.readsGlobals()V -/
def V.Mdl_readsGlobals_p102 (rec19 : HS → Nat → Int64 → Int64 → Option ((Nat ⊕ Unit) × HS)) (σ : HS) (x0 : Nat) (x1 : Int64) (x3 : Int64) : Option ((Nat ⊕ Unit) × HS) :=
  bn (x3 + (1 : Int64)) fun y1 =>
  rec19 σ x0 x1 y1
theorem V.gX17_readsGlobals_p102 {X : CX} (rec19 : HS → Nat → Int64 → Int64 → Option ((Nat ⊕ Unit) × HS)) (hrec19 : ∀ (σ : HS) (x0 : Nat) (x1 : Int64) (x3 : Int64), G X RX17 "readsGlobals" cX17_readsGlobals 8 none 6 144 (enX enV (cxz X)) 19 [(0, av x0), (1, jv x1), (3, jv x3)] [] σ (rec19 σ x0 x1 x3)) (σ : HS) (x0 : Nat) (x1 : Int64) (x3 : Int64) : G X RX17 "readsGlobals" cX17_readsGlobals 8 none 6 144 (enX enV (cxz X)) 102 [(0, av x0), (1, jv x1), (3, jv x3)] [] σ (Mdl_readsGlobals_p102 rec19 σ x0 x1 x3) := by
  unfold Mdl_readsGlobals_p102
  refine g_lload_n 3 2 dX17_readsGlobals_102 rfl rfl ?_
  refine g_lconst (v := 1) dX17_readsGlobals_103 (by decide) ?_
  refine g_ladd dX17_readsGlobals_104 ?_
  refine g_nmJ (fun y1 => ?_)
  refine g_lstore_n 3 dX17_readsGlobals_105 rfl (by decide) rfl ?_
  refine g_goto 19 dX17_readsGlobals_106 (by decide) ?_
  refine G.sub [1, 2, 0] rfl ?_
  exact hrec19 _ _ _ _
def V.Mdl_readsGlobals_p45 (rec19 : HS → Nat → Int64 → Int64 → Option ((Nat ⊕ Unit) × HS)) (σ : HS) (x0 : Nat) (x1 : Int64) (x3 : Int64) (x5 : Int32) (s0 : Int32) : Option ((Nat ⊕ Unit) × HS) :=
  ck (tg σ x0 = 18) <|
  bn (gI σ x0 11) fun y1 =>
  ck (tg σ x0 = 18) <| clT (Mdl_expression σ x0 (0 : Int32)) fun _ σ2 =>
  if (64 : Int64) ≤ x3 then (
    Mdl_readsGlobals_p102 rec19 σ2 x0 x1 x3)
  else (
    ck (tg σ2 x0 = 18) <|
    ck (tg σ2 (gR σ2 x0 10) = 21) <|
    ck (tg σ2 (gR σ2 (gR σ2 x0 10) 25) = 100 ∧ inb x3.toInt32 (ln σ2 (gR σ2 (gR σ2 x0 10) 25))) <| bn (sI σ2 (gR σ2 (gR σ2 x0 10) 25) (ix x3.toInt32) x5) fun σ3 =>
    ck (tg σ3 x0 = 18) <|
    ck (tg σ3 (gR σ3 x0 10) = 21) <|
    ck (tg σ3 (gR σ3 (gR σ3 x0 10) 26) = 103 ∧ inb x3.toInt32 (ln σ3 (gR σ3 (gR σ3 x0 10) 26)) ∧ zb s0) <| bn (sI σ3 (gR σ3 (gR σ3 x0 10) 26) (ix x3.toInt32) s0) fun σ4 =>
    ck (tg σ4 x0 = 18) <|
    ck (tg σ4 (gR σ4 x0 10) = 21) <|
    ck (tg σ4 (gR σ4 (gR σ4 x0 10) 27) = 100 ∧ inb x3.toInt32 (ln σ4 (gR σ4 (gR σ4 x0 10) 27))) <| bn (sI σ4 (gR σ4 (gR σ4 x0 10) 27) (ix x3.toInt32) y1) fun σ5 =>
    Mdl_readsGlobals_p102 rec19 σ5 x0 x1 x3)
theorem V.gX17_readsGlobals_p45 {X : CX} (rec19 : HS → Nat → Int64 → Int64 → Option ((Nat ⊕ Unit) × HS)) (hrec19 : ∀ (σ : HS) (x0 : Nat) (x1 : Int64) (x3 : Int64), G X RX17 "readsGlobals" cX17_readsGlobals 8 none 6 144 (enX enV (cxz X)) 19 [(0, av x0), (1, jv x1), (3, jv x3)] [] σ (rec19 σ x0 x1 x3)) (σ : HS) (x0 : Nat) (x1 : Int64) (x3 : Int64) (x5 : Int32) (s0 : Int32) : G X RX17 "readsGlobals" cX17_readsGlobals 8 none 6 144 (enX enV (cxz X)) 45 [(0, av x0), (1, jv x1), (3, jv x3), (5, iv x5)] [iv s0] σ (Mdl_readsGlobals_p45 rec19 σ x0 x1 x3 x5 s0) := by
  unfold Mdl_readsGlobals_p45
  refine g_istore dX17_readsGlobals_45 (by decide) rfl ?_
  refine g_aload_n 0 1 dX17_readsGlobals_47 rfl rfl ?_
  refine g_getI fdX17_251 dX17_readsGlobals_48 ?_
  refine g_nmI (fun y1 => ?_)
  refine g_istore dX17_readsGlobals_51 (by decide) rfl ?_
  refine g_aload_n 0 2 dX17_readsGlobals_53 rfl rfl ?_
  refine g_iconst (v := 0) dX17_readsGlobals_54 (by decide) ?_
  refine g_callVT (fc := fun sς => Mdl_expression sς x0 (0 : Int32)) (ci := 17) (as := [iv (0 : Int32)]) rfl rfl rfl q3700 qs232 q3698 mdX17_456 (ctX17_expression x0 (0 : Int32)) rfl (Nat.le_of_ble_eq_true rfl) (Nat.le_of_ble_eq_true rfl) (Nat.le_of_ble_eq_true rfl) pu_V (by decide) dX17_readsGlobals_55 (fun _ σ2 => ?_)
  refine g_lload_n 3 4 dX17_readsGlobals_58 rfl rfl ?_
  refine g_ldc2 q3645 dX17_readsGlobals_59 ?_
  refine g_lcmp_ge 102 dX17_readsGlobals_62 dX17_readsGlobals_63 (by decide) ?_ ?_
  · refine G.sub [2, 3, 4] rfl ?_
    exact gX17_readsGlobals_p102 rec19 hrec19 _ _ _ _
  · refine g_aload_n 0 2 dX17_readsGlobals_66 rfl rfl ?_
    refine g_getR fdX17_221 dX17_readsGlobals_67 ?_
    refine g_getR fdX17_459 dX17_readsGlobals_70 ?_
    refine g_lload_n 3 4 dX17_readsGlobals_73 rfl rfl ?_
    refine g_l2i dX17_readsGlobals_74 ?_
    refine g_iload 5 dX17_readsGlobals_75 rfl ?_
    refine g_iastore dX17_readsGlobals_77 (fun σ3 => ?_)
    refine g_aload_n 0 2 dX17_readsGlobals_78 rfl rfl ?_
    refine g_getR fdX17_221 dX17_readsGlobals_79 ?_
    refine g_getR fdX17_462 dX17_readsGlobals_82 ?_
    refine g_lload_n 3 4 dX17_readsGlobals_85 rfl rfl ?_
    refine g_l2i dX17_readsGlobals_86 ?_
    refine g_iload 1 dX17_readsGlobals_87 rfl ?_
    refine g_zastore dX17_readsGlobals_89 (fun σ4 => ?_)
    refine g_aload_n 0 2 dX17_readsGlobals_90 rfl rfl ?_
    refine g_getR fdX17_221 dX17_readsGlobals_91 ?_
    refine g_getR fdX17_463 dX17_readsGlobals_94 ?_
    refine g_lload_n 3 4 dX17_readsGlobals_97 rfl rfl ?_
    refine g_l2i dX17_readsGlobals_98 ?_
    refine g_iload 0 dX17_readsGlobals_99 rfl ?_
    refine g_iastore dX17_readsGlobals_101 (fun σ5 => ?_)
    refine G.sub [2, 3, 4] rfl ?_
    exact gX17_readsGlobals_p102 rec19 hrec19 _ _ _ _
def V.Mdl_readsGlobals_p19  : Nat → HS → Nat → Int64 → Int64 → Option ((Nat ⊕ Unit) × HS)
  | 0, _, _, _, _ => none
  | n + 1, σ, x0, x1, x3 =>
    if x1 ≤ x3 then (
      some (.inr (), σ))
    else (
      ck (tg σ x0 = 18) <| clT (Mdl_type σ x0 ) fun r2 σ1 =>
      ck (tg σ1 x0 = 18) <| clT (Mdl_small σ1 x0 (1 : Int32)) fun r4 σ3 =>
      if r4 = (1 : Int32) then (
        Mdl_readsGlobals_p45 (Mdl_readsGlobals_p19 n) σ3 x0 x1 x3 r2 (1 : Int32))
      else (
        Mdl_readsGlobals_p45 (Mdl_readsGlobals_p19 n) σ3 x0 x1 x3 r2 (0 : Int32)))
theorem V.gX17_readsGlobals_p19 {X : CX}  : ∀ (n : Nat) (σ : HS) (x0 : Nat) (x1 : Int64) (x3 : Int64), G X RX17 "readsGlobals" cX17_readsGlobals 8 none 6 144 (enX enV (cxz X)) 19 [(0, av x0), (1, jv x1), (3, jv x3)] [] σ (Mdl_readsGlobals_p19 n σ x0 x1 x3)
  | 0, σ, x0, x1, x3 => by rw [Mdl_readsGlobals_p19]; exact G.nul
  | n + 1, σ, x0, x1, x3 => by
    rw [Mdl_readsGlobals_p19]
    refine g_lload_n 3 2 dX17_readsGlobals_19 rfl rfl ?_
    refine g_lload_n 1 1 dX17_readsGlobals_20 rfl rfl ?_
    refine g_lcmp_ge 109 dX17_readsGlobals_21 dX17_readsGlobals_22 (by decide) ?_ ?_
    · exact g_return rfl dX17_readsGlobals_109
    · refine g_aload_n 0 0 dX17_readsGlobals_25 rfl rfl ?_
      refine g_callVT (fc := fun sς => Mdl_type sς x0 ) (ci := 17) (as := []) rfl rfl rfl q3657 qs223 q3655 mdX17_371 (ctX17_type x0 ) rfl (Nat.le_of_ble_eq_true rfl) (Nat.le_of_ble_eq_true rfl) (Nat.le_of_ble_eq_true rfl) pu_I (by decide) dX17_readsGlobals_26 (fun r2 σ1 => ?_)
      refine g_istore dX17_readsGlobals_29 (by decide) rfl ?_
      refine g_aload_n 0 1 dX17_readsGlobals_31 rfl rfl ?_
      refine g_iconst (v := 1) dX17_readsGlobals_32 (by decide) ?_
      refine g_callVT (fc := fun sς => Mdl_small sς x0 (1 : Int32)) (ci := 17) (as := [iv (1 : Int32)]) rfl rfl rfl q3671 qs225 q3669 mdX17_393 (ctX17_small x0 (1 : Int32)) rfl (Nat.le_of_ble_eq_true rfl) (Nat.le_of_ble_eq_true rfl) (Nat.le_of_ble_eq_true rfl) pu_I (by decide) dX17_readsGlobals_33 (fun r4 σ3 => ?_)
      refine g_iconst (v := 1) dX17_readsGlobals_36 (by decide) ?_
      refine g_icmp_ne 44 dX17_readsGlobals_37 (by decide) ?_ ?_
      · refine g_iconst (v := 0) dX17_readsGlobals_44 (by decide) ?_
        refine G.sub [1, 2, 3, 0] rfl ?_
        exact gX17_readsGlobals_p45 (Mdl_readsGlobals_p19 n) (gX17_readsGlobals_p19 n) _ _ _ _ _ _
      · refine g_iconst (v := 1) dX17_readsGlobals_40 (by decide) ?_
        refine g_goto 45 dX17_readsGlobals_41 (by decide) ?_
        refine G.sub [1, 2, 3, 0] rfl ?_
        exact gX17_readsGlobals_p45 (Mdl_readsGlobals_p19 n) (gX17_readsGlobals_p19 n) _ _ _ _ _ _
def V.Mdl_readsGlobals (σ : HS) (x0 : Nat) : Option ((Nat ⊕ Unit) × HS) :=
  ck (tg σ x0 = 18) <| clT (Mdl_number σ x0 ) fun r2 σ1 =>
  ck (tg σ1 x0 = 18) <|
  ck (tg σ1 x0 = 18) <| cl (Mdl_kept σ1 x0 r2) fun r4 σ3 =>
  ck (tg σ3 (gR σ1 x0 10) = 21) <| bn (sI σ3 (gR σ1 x0 10) 24 r4) fun σ5 =>
  Mdl_readsGlobals_p19 FU σ5 x0 r2 (0 : Int64)
theorem V.ctX17_readsGlobals (x0 : Nat) : Ct yX17_readsGlobals  cX17_readsGlobals 8 none 6 144 eXV [av x0] (fun σ => Mdl_readsGlobals σ x0) := by
  refine Ct.of (own := RX17) (nm := "readsGlobals") (desc := "()V") rfl (by decide) (Nat.le_of_ble_eq_true rfl) (by decide) (fun X σ => ?_)
  show G X RX17 "readsGlobals" cX17_readsGlobals 8 none 6 144 (enX enV (cxz X)) 0 [(0, av x0)] [] σ (Mdl_readsGlobals σ x0)
  unfold Mdl_readsGlobals
  refine g_aload_n 0 0 dX17_readsGlobals_0 rfl rfl ?_
  refine g_callVT (fc := fun sς => Mdl_number sς x0 ) (ci := 17) (as := []) rfl rfl rfl q3619 qs215 q3617 mdX17_277 (ctX17_number x0 ) rfl (Nat.le_of_ble_eq_true rfl) (Nat.le_of_ble_eq_true rfl) (Nat.le_of_ble_eq_true rfl) pu_J (by decide) dX17_readsGlobals_1 (fun r2 σ1 => ?_)
  refine g_lstore_n 1 dX17_readsGlobals_4 rfl (by decide) rfl ?_
  refine g_aload_n 0 1 dX17_readsGlobals_5 rfl rfl ?_
  refine g_getR fdX17_221 dX17_readsGlobals_6 ?_
  refine g_aload_n 0 1 dX17_readsGlobals_9 rfl rfl ?_
  refine g_lload_n 1 0 dX17_readsGlobals_10 rfl rfl ?_
  refine g_callV (fc := fun sς => Mdl_kept sς x0 r2) (ci := 17) (as := [jv r2]) rfl rfl rfl q3643 qs220 mdX17_377 (ctX17_kept x0 r2) rfl (Nat.le_of_ble_eq_true rfl) (Nat.le_of_ble_eq_true rfl) (Nat.le_of_ble_eq_true rfl) pu_I dX17_readsGlobals_11 (fun r4 σ3 => ?_)
  refine g_putI fpX17_453 dX17_readsGlobals_14 (fun σ5 => ?_)
  refine g_lconst (v := 0) dX17_readsGlobals_17 (by decide) ?_
  refine g_lstore_n 3 dX17_readsGlobals_18 rfl (by decide) rfl ?_
  refine G.sub [2, 1, 0] rfl ?_
  exact gX17_readsGlobals_p19 FU _ _ _ _
theorem V.dX17_readsExports_0 : decode cX17_readsExports 0 = .ok (.aload_n 0, 1) := by decide +kernel
theorem V.dX17_readsExports_1 : decode cX17_readsExports 1 = .ok (.invokevirtual 277, 3) := by decide +kernel
theorem V.dX17_readsExports_4 : decode cX17_readsExports 4 = .ok (.lstore_n 1, 1) := by decide +kernel
theorem V.dX17_readsExports_5 : decode cX17_readsExports 5 = .ok (.aload_n 0, 1) := by decide +kernel
theorem V.dX17_readsExports_6 : decode cX17_readsExports 6 = .ok (.getfield 221, 3) := by decide +kernel
theorem V.dX17_readsExports_9 : decode cX17_readsExports 9 = .ok (.aload_n 0, 1) := by decide +kernel
theorem V.dX17_readsExports_10 : decode cX17_readsExports 10 = .ok (.lload_n 1, 1) := by decide +kernel
theorem V.dX17_readsExports_11 : decode cX17_readsExports 11 = .ok (.invokevirtual 377, 3) := by decide +kernel
theorem V.dX17_readsExports_14 : decode cX17_readsExports 14 = .ok (.putfield 466, 3) := by decide +kernel
theorem V.dX17_readsExports_17 : decode cX17_readsExports 17 = .ok (.lconst 0, 1) := by decide +kernel
theorem V.dX17_readsExports_18 : decode cX17_readsExports 18 = .ok (.lstore_n 3, 1) := by decide +kernel
theorem V.dX17_readsExports_19 : decode cX17_readsExports 19 = .ok (.lload_n 3, 1) := by decide +kernel
theorem V.dX17_readsExports_20 : decode cX17_readsExports 20 = .ok (.lload_n 1, 1) := by decide +kernel
theorem V.dX17_readsExports_21 : decode cX17_readsExports 21 = .ok (.lcmp, 1) := by decide +kernel
theorem V.dX17_readsExports_22 : decode cX17_readsExports 22 = .ok (.ifCond .ge 98, 3) := by decide +kernel
theorem V.dX17_readsExports_25 : decode cX17_readsExports 25 = .ok (.aload_n 0, 1) := by decide +kernel
theorem V.dX17_readsExports_26 : decode cX17_readsExports 26 = .ok (.invokevirtual 324, 3) := by decide +kernel
theorem V.dX17_readsExports_29 : decode cX17_readsExports 29 = .ok (.aload_n 0, 1) := by decide +kernel
theorem V.dX17_readsExports_30 : decode cX17_readsExports 30 = .ok (.getfield 281, 3) := by decide +kernel
theorem V.dX17_readsExports_33 : decode cX17_readsExports 33 = .ok (.istore 5, 2) := by decide +kernel
theorem V.dX17_readsExports_35 : decode cX17_readsExports 35 = .ok (.aload_n 0, 1) := by decide +kernel
theorem V.dX17_readsExports_36 : decode cX17_readsExports 36 = .ok (.getfield 251, 3) := by decide +kernel
theorem V.dX17_readsExports_39 : decode cX17_readsExports 39 = .ok (.istore 6, 2) := by decide +kernel
theorem V.dX17_readsExports_41 : decode cX17_readsExports 41 = .ok (.aload_n 0, 1) := by decide +kernel
theorem V.dX17_readsExports_42 : decode cX17_readsExports 42 = .ok (.iconst 3, 1) := by decide +kernel
theorem V.dX17_readsExports_43 : decode cX17_readsExports 43 = .ok (.invokevirtual 393, 3) := by decide +kernel
theorem V.dX17_readsExports_46 : decode cX17_readsExports 46 = .ok (.istore 7, 2) := by decide +kernel
theorem V.dX17_readsExports_48 : decode cX17_readsExports 48 = .ok (.aload_n 0, 1) := by decide +kernel
theorem V.dX17_readsExports_49 : decode cX17_readsExports 49 = .ok (.invokevirtual 277, 3) := by decide +kernel
theorem V.dX17_readsExports_52 : decode cX17_readsExports 52 = .ok (.lstore 8, 2) := by decide +kernel
theorem V.dX17_readsExports_54 : decode cX17_readsExports 54 = .ok (.lload_n 3, 1) := by decide +kernel
theorem V.dX17_readsExports_55 : decode cX17_readsExports 55 = .ok (.ldc2_w 363, 3) := by decide +kernel
theorem V.dX17_readsExports_58 : decode cX17_readsExports 58 = .ok (.lcmp, 1) := by decide +kernel
theorem V.dX17_readsExports_59 : decode cX17_readsExports 59 = .ok (.ifCond .ge 54, 3) := by decide +kernel
theorem V.dX17_readsExports_62 : decode cX17_readsExports 62 = .ok (.aload_n 0, 1) := by decide +kernel
theorem V.dX17_readsExports_63 : decode cX17_readsExports 63 = .ok (.getfield 221, 3) := by decide +kernel
theorem V.dX17_readsExports_66 : decode cX17_readsExports 66 = .ok (.getfield 469, 3) := by decide +kernel
theorem V.dX17_readsExports_69 : decode cX17_readsExports 69 = .ok (.lload_n 3, 1) := by decide +kernel
theorem V.dX17_readsExports_70 : decode cX17_readsExports 70 = .ok (.l2i, 1) := by decide +kernel
theorem V.dX17_readsExports_71 : decode cX17_readsExports 71 = .ok (.iload 5, 2) := by decide +kernel
theorem V.dX17_readsExports_73 : decode cX17_readsExports 73 = .ok (.iastore, 1) := by decide +kernel
theorem V.dX17_readsExports_74 : decode cX17_readsExports 74 = .ok (.aload_n 0, 1) := by decide +kernel
theorem V.dX17_readsExports_75 : decode cX17_readsExports 75 = .ok (.getfield 221, 3) := by decide +kernel
theorem V.dX17_readsExports_78 : decode cX17_readsExports 78 = .ok (.getfield 472, 3) := by decide +kernel
theorem V.dX17_readsExports_81 : decode cX17_readsExports 81 = .ok (.lload_n 3, 1) := by decide +kernel
theorem V.dX17_readsExports_82 : decode cX17_readsExports 82 = .ok (.l2i, 1) := by decide +kernel
theorem V.dX17_readsExports_83 : decode cX17_readsExports 83 = .ok (.iload 6, 2) := by decide +kernel
theorem V.dX17_readsExports_85 : decode cX17_readsExports 85 = .ok (.iload 5, 2) := by decide +kernel
theorem V.dX17_readsExports_87 : decode cX17_readsExports 87 = .ok (.isub, 1) := by decide +kernel
theorem V.dX17_readsExports_88 : decode cX17_readsExports 88 = .ok (.iastore, 1) := by decide +kernel
theorem V.dX17_readsExports_89 : decode cX17_readsExports 89 = .ok (.aload_n 0, 1) := by decide +kernel
theorem V.dX17_readsExports_90 : decode cX17_readsExports 90 = .ok (.getfield 221, 3) := by decide +kernel
theorem V.dX17_readsExports_93 : decode cX17_readsExports 93 = .ok (.getfield 475, 3) := by decide +kernel
theorem V.dX17_readsExports_96 : decode cX17_readsExports 96 = .ok (.lload_n 3, 1) := by decide +kernel
theorem V.dX17_readsExports_97 : decode cX17_readsExports 97 = .ok (.l2i, 1) := by decide +kernel
theorem V.dX17_readsExports_98 : decode cX17_readsExports 98 = .ok (.iload 7, 2) := by decide +kernel
theorem V.dX17_readsExports_100 : decode cX17_readsExports 100 = .ok (.iastore, 1) := by decide +kernel
theorem V.dX17_readsExports_101 : decode cX17_readsExports 101 = .ok (.aload_n 0, 1) := by decide +kernel
theorem V.dX17_readsExports_102 : decode cX17_readsExports 102 = .ok (.getfield 221, 3) := by decide +kernel
theorem V.dX17_readsExports_105 : decode cX17_readsExports 105 = .ok (.getfield 478, 3) := by decide +kernel
theorem V.dX17_readsExports_108 : decode cX17_readsExports 108 = .ok (.lload_n 3, 1) := by decide +kernel
theorem V.dX17_readsExports_109 : decode cX17_readsExports 109 = .ok (.l2i, 1) := by decide +kernel
theorem V.dX17_readsExports_110 : decode cX17_readsExports 110 = .ok (.lload 8, 2) := by decide +kernel
theorem V.dX17_readsExports_112 : decode cX17_readsExports 112 = .ok (.lastore, 1) := by decide +kernel
theorem V.dX17_readsExports_113 : decode cX17_readsExports 113 = .ok (.lload_n 3, 1) := by decide +kernel
theorem V.dX17_readsExports_114 : decode cX17_readsExports 114 = .ok (.lconst 1, 1) := by decide +kernel
theorem V.dX17_readsExports_115 : decode cX17_readsExports 115 = .ok (.ladd, 1) := by decide +kernel
theorem V.dX17_readsExports_116 : decode cX17_readsExports 116 = .ok (.lstore_n 3, 1) := by decide +kernel
theorem V.dX17_readsExports_117 : decode cX17_readsExports 117 = .ok (.goto (-98), 3) := by decide +kernel
theorem V.dX17_readsExports_120 : decode cX17_readsExports 120 = .ok (.return_, 1) := by decide +kernel
theorem V.fpX17_466 {nm : String} : FP RX17 nm 466 20 28 (.int) := ⟨(RX20, TX20, 58), tyX20, rfl, rfl, in_X20, by decide, tyX20_ok, nmX20, rfl, Or.inl ⟨rfl, Or.inr ⟨_, q3416⟩⟩⟩
theorem V.fdX17_469 : FD RX17 469 20 29 2 := ⟨(RX20, TX20, 58), tyX20, rfl, rfl, in_X20, by decide, Or.inr ⟨_, q3418⟩, rfl⟩
theorem V.fdX17_472 : FD RX17 472 20 30 2 := ⟨(RX20, TX20, 58), tyX20, rfl, rfl, in_X20, by decide, Or.inr ⟨_, q3420⟩, rfl⟩
theorem V.fdX17_475 : FD RX17 475 20 31 2 := ⟨(RX20, TX20, 58), tyX20, rfl, rfl, in_X20, by decide, Or.inr ⟨_, q3422⟩, rfl⟩
theorem V.fdX17_478 : FD RX17 478 20 32 2 := ⟨(RX20, TX20, 58), tyX20, rfl, rfl, in_X20, by decide, Or.inr ⟨_, q3424⟩, rfl⟩
/-! ModuleEngineModel.readsExports()V -/
def V.Mdl_readsExports_p113 (rec19 : HS → Nat → Int64 → Int64 → Option ((Nat ⊕ Unit) × HS)) (σ : HS) (x0 : Nat) (x1 : Int64) (x3 : Int64) : Option ((Nat ⊕ Unit) × HS) :=
  bn (x3 + (1 : Int64)) fun y1 =>
  rec19 σ x0 x1 y1
theorem V.gX17_readsExports_p113 {X : CX} (rec19 : HS → Nat → Int64 → Int64 → Option ((Nat ⊕ Unit) × HS)) (hrec19 : ∀ (σ : HS) (x0 : Nat) (x1 : Int64) (x3 : Int64), G X RX17 "readsExports" cX17_readsExports 10 none 4 91 (enX enV (cxz X)) 19 [(0, av x0), (1, jv x1), (3, jv x3)] [] σ (rec19 σ x0 x1 x3)) (σ : HS) (x0 : Nat) (x1 : Int64) (x3 : Int64) : G X RX17 "readsExports" cX17_readsExports 10 none 4 91 (enX enV (cxz X)) 113 [(0, av x0), (1, jv x1), (3, jv x3)] [] σ (Mdl_readsExports_p113 rec19 σ x0 x1 x3) := by
  unfold Mdl_readsExports_p113
  refine g_lload_n 3 2 dX17_readsExports_113 rfl rfl ?_
  refine g_lconst (v := 1) dX17_readsExports_114 (by decide) ?_
  refine g_ladd dX17_readsExports_115 ?_
  refine g_nmJ (fun y1 => ?_)
  refine g_lstore_n 3 dX17_readsExports_116 rfl (by decide) rfl ?_
  refine g_goto 19 dX17_readsExports_117 (by decide) ?_
  refine G.sub [1, 2, 0] rfl ?_
  exact hrec19 _ _ _ _
def V.Mdl_readsExports_p19  : Nat → HS → Nat → Int64 → Int64 → Option ((Nat ⊕ Unit) × HS)
  | 0, _, _, _, _ => none
  | n + 1, σ, x0, x1, x3 =>
    if x1 ≤ x3 then (
      some (.inr (), σ))
    else (
      ck (tg σ x0 = 18) <| clT (Mdl_name σ x0 ) fun _ σ1 =>
      ck (tg σ1 x0 = 18) <|
      bn (gI σ1 x0 16) fun y2 =>
      ck (tg σ1 x0 = 18) <|
      bn (gI σ1 x0 11) fun y3 =>
      ck (tg σ1 x0 = 18) <| clT (Mdl_small σ1 x0 (3 : Int32)) fun r5 σ4 =>
      ck (tg σ4 x0 = 18) <| clT (Mdl_number σ4 x0 ) fun r7 σ6 =>
      if (64 : Int64) ≤ x3 then (
        Mdl_readsExports_p113 (Mdl_readsExports_p19 n) σ6 x0 x1 x3)
      else (
        ck (tg σ6 x0 = 18) <|
        ck (tg σ6 (gR σ6 x0 10) = 21) <|
        ck (tg σ6 (gR σ6 (gR σ6 x0 10) 29) = 100 ∧ inb x3.toInt32 (ln σ6 (gR σ6 (gR σ6 x0 10) 29))) <| bn (sI σ6 (gR σ6 (gR σ6 x0 10) 29) (ix x3.toInt32) y2) fun σ8 =>
        ck (tg σ8 x0 = 18) <|
        ck (tg σ8 (gR σ8 x0 10) = 21) <|
        ck (tg σ8 (gR σ8 (gR σ8 x0 10) 30) = 100 ∧ inb x3.toInt32 (ln σ8 (gR σ8 (gR σ8 x0 10) 30))) <| bn (sI σ8 (gR σ8 (gR σ8 x0 10) 30) (ix x3.toInt32) (y3 - y2)) fun σ9 =>
        ck (tg σ9 x0 = 18) <|
        ck (tg σ9 (gR σ9 x0 10) = 21) <|
        ck (tg σ9 (gR σ9 (gR σ9 x0 10) 31) = 100 ∧ inb x3.toInt32 (ln σ9 (gR σ9 (gR σ9 x0 10) 31))) <| bn (sI σ9 (gR σ9 (gR σ9 x0 10) 31) (ix x3.toInt32) r5) fun σ10 =>
        ck (tg σ10 x0 = 18) <|
        ck (tg σ10 (gR σ10 x0 10) = 21) <|
        ck (tg σ10 (gR σ10 (gR σ10 x0 10) 32) = 101 ∧ inb x3.toInt32 (ln σ10 (gR σ10 (gR σ10 x0 10) 32))) <| bn (sJ σ10 (gR σ10 (gR σ10 x0 10) 32) (ix x3.toInt32) r7) fun σ11 =>
        Mdl_readsExports_p113 (Mdl_readsExports_p19 n) σ11 x0 x1 x3))
theorem V.gX17_readsExports_p19 {X : CX}  : ∀ (n : Nat) (σ : HS) (x0 : Nat) (x1 : Int64) (x3 : Int64), G X RX17 "readsExports" cX17_readsExports 10 none 4 91 (enX enV (cxz X)) 19 [(0, av x0), (1, jv x1), (3, jv x3)] [] σ (Mdl_readsExports_p19 n σ x0 x1 x3)
  | 0, σ, x0, x1, x3 => by rw [Mdl_readsExports_p19]; exact G.nul
  | n + 1, σ, x0, x1, x3 => by
    rw [Mdl_readsExports_p19]
    refine g_lload_n 3 2 dX17_readsExports_19 rfl rfl ?_
    refine g_lload_n 1 1 dX17_readsExports_20 rfl rfl ?_
    refine g_lcmp_ge 120 dX17_readsExports_21 dX17_readsExports_22 (by decide) ?_ ?_
    · exact g_return rfl dX17_readsExports_120
    · refine g_aload_n 0 0 dX17_readsExports_25 rfl rfl ?_
      refine g_callVT (fc := fun sς => Mdl_name sς x0 ) (ci := 17) (as := []) rfl rfl rfl q3627 qs217 q3625 mdX17_324 (ctX17_name x0 ) rfl (Nat.le_of_ble_eq_true rfl) (Nat.le_of_ble_eq_true rfl) (Nat.le_of_ble_eq_true rfl) pu_V (by decide) dX17_readsExports_26 (fun _ σ1 => ?_)
      refine g_aload_n 0 0 dX17_readsExports_29 rfl rfl ?_
      refine g_getI fdX17_281 dX17_readsExports_30 ?_
      refine g_nmI (fun y2 => ?_)
      refine g_istore dX17_readsExports_33 (by decide) rfl ?_
      refine g_aload_n 0 1 dX17_readsExports_35 rfl rfl ?_
      refine g_getI fdX17_251 dX17_readsExports_36 ?_
      refine g_nmI (fun y3 => ?_)
      refine g_istore dX17_readsExports_39 (by decide) rfl ?_
      refine g_aload_n 0 2 dX17_readsExports_41 rfl rfl ?_
      refine g_iconst (v := 3) dX17_readsExports_42 (by decide) ?_
      refine g_callVT (fc := fun sς => Mdl_small sς x0 (3 : Int32)) (ci := 17) (as := [iv (3 : Int32)]) rfl rfl rfl q3671 qs225 q3669 mdX17_393 (ctX17_small x0 (3 : Int32)) rfl (Nat.le_of_ble_eq_true rfl) (Nat.le_of_ble_eq_true rfl) (Nat.le_of_ble_eq_true rfl) pu_I (by decide) dX17_readsExports_43 (fun r5 σ4 => ?_)
      refine g_istore dX17_readsExports_46 (by decide) rfl ?_
      refine g_aload_n 0 3 dX17_readsExports_48 rfl rfl ?_
      refine g_callVT (fc := fun sς => Mdl_number sς x0 ) (ci := 17) (as := []) rfl rfl rfl q3619 qs215 q3617 mdX17_277 (ctX17_number x0 ) rfl (Nat.le_of_ble_eq_true rfl) (Nat.le_of_ble_eq_true rfl) (Nat.le_of_ble_eq_true rfl) pu_J (by decide) dX17_readsExports_49 (fun r7 σ6 => ?_)
      refine g_lstore dX17_readsExports_52 (by decide) rfl ?_
      refine g_lload_n 3 6 dX17_readsExports_54 rfl rfl ?_
      refine g_ldc2 q3645 dX17_readsExports_55 ?_
      refine g_lcmp_ge 113 dX17_readsExports_58 dX17_readsExports_59 (by decide) ?_ ?_
      · refine G.sub [4, 5, 6] rfl ?_
        exact gX17_readsExports_p113 (Mdl_readsExports_p19 n) (gX17_readsExports_p19 n) _ _ _ _
      · refine g_aload_n 0 4 dX17_readsExports_62 rfl rfl ?_
        refine g_getR fdX17_221 dX17_readsExports_63 ?_
        refine g_getR fdX17_469 dX17_readsExports_66 ?_
        refine g_lload_n 3 6 dX17_readsExports_69 rfl rfl ?_
        refine g_l2i dX17_readsExports_70 ?_
        refine g_iload 3 dX17_readsExports_71 rfl ?_
        refine g_iastore dX17_readsExports_73 (fun σ8 => ?_)
        refine g_aload_n 0 4 dX17_readsExports_74 rfl rfl ?_
        refine g_getR fdX17_221 dX17_readsExports_75 ?_
        refine g_getR fdX17_472 dX17_readsExports_78 ?_
        refine g_lload_n 3 6 dX17_readsExports_81 rfl rfl ?_
        refine g_l2i dX17_readsExports_82 ?_
        refine g_iload 2 dX17_readsExports_83 rfl ?_
        refine g_iload 3 dX17_readsExports_85 rfl ?_
        refine g_isub dX17_readsExports_87 ?_
        refine g_iastore dX17_readsExports_88 (fun σ9 => ?_)
        refine g_aload_n 0 4 dX17_readsExports_89 rfl rfl ?_
        refine g_getR fdX17_221 dX17_readsExports_90 ?_
        refine g_getR fdX17_475 dX17_readsExports_93 ?_
        refine g_lload_n 3 6 dX17_readsExports_96 rfl rfl ?_
        refine g_l2i dX17_readsExports_97 ?_
        refine g_iload 1 dX17_readsExports_98 rfl ?_
        refine g_iastore dX17_readsExports_100 (fun σ10 => ?_)
        refine g_aload_n 0 4 dX17_readsExports_101 rfl rfl ?_
        refine g_getR fdX17_221 dX17_readsExports_102 ?_
        refine g_getR fdX17_478 dX17_readsExports_105 ?_
        refine g_lload_n 3 6 dX17_readsExports_108 rfl rfl ?_
        refine g_l2i dX17_readsExports_109 ?_
        refine g_lload 0 dX17_readsExports_110 rfl ?_
        refine g_lastore dX17_readsExports_112 (fun σ11 => ?_)
        refine G.sub [4, 5, 6] rfl ?_
        exact gX17_readsExports_p113 (Mdl_readsExports_p19 n) (gX17_readsExports_p19 n) _ _ _ _
def V.Mdl_readsExports (σ : HS) (x0 : Nat) : Option ((Nat ⊕ Unit) × HS) :=
  ck (tg σ x0 = 18) <| clT (Mdl_number σ x0 ) fun r2 σ1 =>
  ck (tg σ1 x0 = 18) <|
  ck (tg σ1 x0 = 18) <| cl (Mdl_kept σ1 x0 r2) fun r4 σ3 =>
  ck (tg σ3 (gR σ1 x0 10) = 21) <| bn (sI σ3 (gR σ1 x0 10) 28 r4) fun σ5 =>
  Mdl_readsExports_p19 FU σ5 x0 r2 (0 : Int64)
theorem V.ctX17_readsExports (x0 : Nat) : Ct yX17_readsExports  cX17_readsExports 10 none 4 91 eXV [av x0] (fun σ => Mdl_readsExports σ x0) := by
  refine Ct.of (own := RX17) (nm := "readsExports") (desc := "()V") rfl (by decide) (Nat.le_of_ble_eq_true rfl) (by decide) (fun X σ => ?_)
  show G X RX17 "readsExports" cX17_readsExports 10 none 4 91 (enX enV (cxz X)) 0 [(0, av x0)] [] σ (Mdl_readsExports σ x0)
  unfold Mdl_readsExports
  refine g_aload_n 0 0 dX17_readsExports_0 rfl rfl ?_
  refine g_callVT (fc := fun sς => Mdl_number sς x0 ) (ci := 17) (as := []) rfl rfl rfl q3619 qs215 q3617 mdX17_277 (ctX17_number x0 ) rfl (Nat.le_of_ble_eq_true rfl) (Nat.le_of_ble_eq_true rfl) (Nat.le_of_ble_eq_true rfl) pu_J (by decide) dX17_readsExports_1 (fun r2 σ1 => ?_)
  refine g_lstore_n 1 dX17_readsExports_4 rfl (by decide) rfl ?_
  refine g_aload_n 0 1 dX17_readsExports_5 rfl rfl ?_
  refine g_getR fdX17_221 dX17_readsExports_6 ?_
  refine g_aload_n 0 1 dX17_readsExports_9 rfl rfl ?_
  refine g_lload_n 1 0 dX17_readsExports_10 rfl rfl ?_
  refine g_callV (fc := fun sς => Mdl_kept sς x0 r2) (ci := 17) (as := [jv r2]) rfl rfl rfl q3643 qs220 mdX17_377 (ctX17_kept x0 r2) rfl (Nat.le_of_ble_eq_true rfl) (Nat.le_of_ble_eq_true rfl) (Nat.le_of_ble_eq_true rfl) pu_I dX17_readsExports_11 (fun r4 σ3 => ?_)
  refine g_putI fpX17_466 dX17_readsExports_14 (fun σ5 => ?_)
  refine g_lconst (v := 0) dX17_readsExports_17 (by decide) ?_
  refine g_lstore_n 3 dX17_readsExports_18 rfl (by decide) rfl ?_
  refine G.sub [2, 1, 0] rfl ?_
  exact gX17_readsExports_p19 FU _ _ _ _
theorem V.dX17_readsElement_0 : decode cX17_readsElement 0 = .ok (.iload_n 1, 1) := by decide +kernel
theorem V.dX17_readsElement_1 : decode cX17_readsElement 1 = .ok (.iconst 1, 1) := by decide +kernel
theorem V.dX17_readsElement_2 : decode cX17_readsElement 2 = .ok (.iand, 1) := by decide +kernel
theorem V.dX17_readsElement_3 : decode cX17_readsElement 3 = .ok (.ifCond .ne 7, 3) := by decide +kernel
theorem V.dX17_readsElement_6 : decode cX17_readsElement 6 = .ok (.iconst 1, 1) := by decide +kernel
theorem V.dX17_readsElement_7 : decode cX17_readsElement 7 = .ok (.goto 4, 3) := by decide +kernel
theorem V.dX17_readsElement_10 : decode cX17_readsElement 10 = .ok (.iconst 0, 1) := by decide +kernel
theorem V.dX17_readsElement_11 : decode cX17_readsElement 11 = .ok (.istore_n 3, 1) := by decide +kernel
theorem V.dX17_readsElement_12 : decode cX17_readsElement 12 = .ok (.aload_n 0, 1) := by decide +kernel
theorem V.dX17_readsElement_13 : decode cX17_readsElement 13 = .ok (.getfield 221, 3) := by decide +kernel
theorem V.dX17_readsElement_16 : decode cX17_readsElement 16 = .ok (.getfield 489, 3) := by decide +kernel
theorem V.dX17_readsElement_19 : decode cX17_readsElement 19 = .ok (.iload_n 2, 1) := by decide +kernel
theorem V.dX17_readsElement_20 : decode cX17_readsElement 20 = .ok (.iload_n 3, 1) := by decide +kernel
theorem V.dX17_readsElement_21 : decode cX17_readsElement 21 = .ok (.ifCond .eq 7, 3) := by decide +kernel
theorem V.dX17_readsElement_24 : decode cX17_readsElement 24 = .ok (.iconst 0, 1) := by decide +kernel
theorem V.dX17_readsElement_25 : decode cX17_readsElement 25 = .ok (.goto 14, 3) := by decide +kernel
theorem V.dX17_readsElement_28 : decode cX17_readsElement 28 = .ok (.iload_n 1, 1) := by decide +kernel
theorem V.dX17_readsElement_29 : decode cX17_readsElement 29 = .ok (.iconst 2, 1) := by decide +kernel
theorem V.dX17_readsElement_30 : decode cX17_readsElement 30 = .ok (.iand, 1) := by decide +kernel
theorem V.dX17_readsElement_31 : decode cX17_readsElement 31 = .ok (.ifCond .eq 7, 3) := by decide +kernel
theorem V.dX17_readsElement_34 : decode cX17_readsElement 34 = .ok (.iconst 2, 1) := by decide +kernel
theorem V.dX17_readsElement_35 : decode cX17_readsElement 35 = .ok (.goto 4, 3) := by decide +kernel
theorem V.dX17_readsElement_38 : decode cX17_readsElement 38 = .ok (.iconst 1, 1) := by decide +kernel
theorem V.dX17_readsElement_39 : decode cX17_readsElement 39 = .ok (.iastore, 1) := by decide +kernel
theorem V.dX17_readsElement_40 : decode cX17_readsElement 40 = .ok (.aload_n 0, 1) := by decide +kernel
theorem V.dX17_readsElement_41 : decode cX17_readsElement 41 = .ok (.getfield 221, 3) := by decide +kernel
theorem V.dX17_readsElement_44 : decode cX17_readsElement 44 = .ok (.getfield 492, 3) := by decide +kernel
theorem V.dX17_readsElement_47 : decode cX17_readsElement 47 = .ok (.iload_n 2, 1) := by decide +kernel
theorem V.dX17_readsElement_48 : decode cX17_readsElement 48 = .ok (.iload_n 3, 1) := by decide +kernel
theorem V.dX17_readsElement_49 : decode cX17_readsElement 49 = .ok (.ifCond .eq 16, 3) := by decide +kernel
theorem V.dX17_readsElement_52 : decode cX17_readsElement 52 = .ok (.iload_n 1, 1) := by decide +kernel
theorem V.dX17_readsElement_53 : decode cX17_readsElement 53 = .ok (.iconst 2, 1) := by decide +kernel
theorem V.dX17_readsElement_54 : decode cX17_readsElement 54 = .ok (.iand, 1) := by decide +kernel
theorem V.dX17_readsElement_55 : decode cX17_readsElement 55 = .ok (.ifCond .eq 10, 3) := by decide +kernel
theorem V.dX17_readsElement_58 : decode cX17_readsElement 58 = .ok (.aload_n 0, 1) := by decide +kernel
theorem V.dX17_readsElement_59 : decode cX17_readsElement 59 = .ok (.invokevirtual 277, 3) := by decide +kernel
theorem V.dX17_readsElement_62 : decode cX17_readsElement 62 = .ok (.goto 4, 3) := by decide +kernel
theorem V.dX17_readsElement_65 : decode cX17_readsElement 65 = .ok (.lconst 0, 1) := by decide +kernel
theorem V.dX17_readsElement_66 : decode cX17_readsElement 66 = .ok (.lastore, 1) := by decide +kernel
theorem V.dX17_readsElement_67 : decode cX17_readsElement 67 = .ok (.aload_n 0, 1) := by decide +kernel
theorem V.dX17_readsElement_68 : decode cX17_readsElement 68 = .ok (.getfield 221, 3) := by decide +kernel
theorem V.dX17_readsElement_71 : decode cX17_readsElement 71 = .ok (.getfield 495, 3) := by decide +kernel
theorem V.dX17_readsElement_74 : decode cX17_readsElement 74 = .ok (.iload_n 2, 1) := by decide +kernel
theorem V.dX17_readsElement_75 : decode cX17_readsElement 75 = .ok (.aload_n 0, 1) := by decide +kernel
theorem V.dX17_readsElement_76 : decode cX17_readsElement 76 = .ok (.getfield 251, 3) := by decide +kernel
theorem V.dX17_readsElement_79 : decode cX17_readsElement 79 = .ok (.iastore, 1) := by decide +kernel
theorem V.dX17_readsElement_80 : decode cX17_readsElement 80 = .ok (.iload_n 3, 1) := by decide +kernel
theorem V.dX17_readsElement_81 : decode cX17_readsElement 81 = .ok (.ifCond .eq 8, 3) := by decide +kernel
theorem V.dX17_readsElement_84 : decode cX17_readsElement 84 = .ok (.aload_n 0, 1) := by decide +kernel
theorem V.dX17_readsElement_85 : decode cX17_readsElement 85 = .ok (.iconst 0, 1) := by decide +kernel
theorem V.dX17_readsElement_86 : decode cX17_readsElement 86 = .ok (.invokevirtual 456, 3) := by decide +kernel
theorem V.dX17_readsElement_89 : decode cX17_readsElement 89 = .ok (.aload_n 0, 1) := by decide +kernel
theorem V.dX17_readsElement_90 : decode cX17_readsElement 90 = .ok (.getfield 221, 3) := by decide +kernel
theorem V.dX17_readsElement_93 : decode cX17_readsElement 93 = .ok (.getfield 498, 3) := by decide +kernel
theorem V.dX17_readsElement_96 : decode cX17_readsElement 96 = .ok (.iload_n 2, 1) := by decide +kernel
theorem V.dX17_readsElement_97 : decode cX17_readsElement 97 = .ok (.iload_n 1, 1) := by decide +kernel
theorem V.dX17_readsElement_98 : decode cX17_readsElement 98 = .ok (.iconst 4, 1) := by decide +kernel
theorem V.dX17_readsElement_99 : decode cX17_readsElement 99 = .ok (.iand, 1) := by decide +kernel
theorem V.dX17_readsElement_100 : decode cX17_readsElement 100 = .ok (.ifCond .eq 7, 3) := by decide +kernel
theorem V.dX17_readsElement_103 : decode cX17_readsElement 103 = .ok (.iconst 1, 1) := by decide +kernel
theorem V.dX17_readsElement_104 : decode cX17_readsElement 104 = .ok (.goto 4, 3) := by decide +kernel
theorem V.dX17_readsElement_107 : decode cX17_readsElement 107 = .ok (.iconst 0, 1) := by decide +kernel
theorem V.dX17_readsElement_108 : decode cX17_readsElement 108 = .ok (.bastore, 1) := by decide +kernel
theorem V.dX17_readsElement_109 : decode cX17_readsElement 109 = .ok (.aload_n 0, 1) := by decide +kernel
theorem V.dX17_readsElement_110 : decode cX17_readsElement 110 = .ok (.getfield 221, 3) := by decide +kernel
theorem V.dX17_readsElement_113 : decode cX17_readsElement 113 = .ok (.getfield 501, 3) := by decide +kernel
theorem V.dX17_readsElement_116 : decode cX17_readsElement 116 = .ok (.iload_n 2, 1) := by decide +kernel
theorem V.dX17_readsElement_117 : decode cX17_readsElement 117 = .ok (.bipush 112, 2) := by decide +kernel
theorem V.dX17_readsElement_119 : decode cX17_readsElement 119 = .ok (.iastore, 1) := by decide +kernel
theorem V.dX17_readsElement_120 : decode cX17_readsElement 120 = .ok (.iload_n 1, 1) := by decide +kernel
theorem V.dX17_readsElement_121 : decode cX17_readsElement 121 = .ok (.ifCond .eq 37, 3) := by decide +kernel
theorem V.dX17_readsElement_124 : decode cX17_readsElement 124 = .ok (.iload_n 1, 1) := by decide +kernel
theorem V.dX17_readsElement_125 : decode cX17_readsElement 125 = .ok (.iconst 4, 1) := by decide +kernel
theorem V.dX17_readsElement_126 : decode cX17_readsElement 126 = .ok (.if_icmp .eq 32, 3) := by decide +kernel
theorem V.dX17_readsElement_129 : decode cX17_readsElement 129 = .ok (.iload_n 1, 1) := by decide +kernel
theorem V.dX17_readsElement_130 : decode cX17_readsElement 130 = .ok (.iconst 4, 1) := by decide +kernel
theorem V.dX17_readsElement_131 : decode cX17_readsElement 131 = .ok (.iand, 1) := by decide +kernel
theorem V.dX17_readsElement_132 : decode cX17_readsElement 132 = .ok (.ifCond .ne 13, 3) := by decide +kernel
theorem V.dX17_readsElement_135 : decode cX17_readsElement 135 = .ok (.aload_n 0, 1) := by decide +kernel
theorem V.dX17_readsElement_136 : decode cX17_readsElement 136 = .ok (.iconst 0, 1) := by decide +kernel
theorem V.dX17_readsElement_137 : decode cX17_readsElement 137 = .ok (.invokevirtual 393, 3) := by decide +kernel
theorem V.dX17_readsElement_140 : decode cX17_readsElement 140 = .ok (.istore 4, 2) := by decide +kernel
theorem V.dX17_readsElement_142 : decode cX17_readsElement 142 = .ok (.goto 16, 3) := by decide +kernel
theorem V.dX17_readsElement_145 : decode cX17_readsElement 145 = .ok (.aload_n 0, 1) := by decide +kernel
theorem V.dX17_readsElement_146 : decode cX17_readsElement 146 = .ok (.getfield 221, 3) := by decide +kernel
theorem V.dX17_readsElement_149 : decode cX17_readsElement 149 = .ok (.getfield 501, 3) := by decide +kernel
theorem V.dX17_readsElement_152 : decode cX17_readsElement 152 = .ok (.iload_n 2, 1) := by decide +kernel
theorem V.dX17_readsElement_153 : decode cX17_readsElement 153 = .ok (.aload_n 0, 1) := by decide +kernel
theorem V.dX17_readsElement_154 : decode cX17_readsElement 154 = .ok (.invokevirtual 405, 3) := by decide +kernel
theorem V.dX17_readsElement_157 : decode cX17_readsElement 157 = .ok (.iastore, 1) := by decide +kernel
theorem V.dX17_readsElement_158 : decode cX17_readsElement 158 = .ok (.aload_n 0, 1) := by decide +kernel
theorem V.dX17_readsElement_159 : decode cX17_readsElement 159 = .ok (.invokevirtual 277, 3) := by decide +kernel
theorem V.dX17_readsElement_162 : decode cX17_readsElement 162 = .ok (.lstore 4, 2) := by decide +kernel
theorem V.dX17_readsElement_164 : decode cX17_readsElement 164 = .ok (.aload_n 0, 1) := by decide +kernel
theorem V.dX17_readsElement_165 : decode cX17_readsElement 165 = .ok (.getfield 221, 3) := by decide +kernel
theorem V.dX17_readsElement_168 : decode cX17_readsElement 168 = .ok (.getfield 504, 3) := by decide +kernel
theorem V.dX17_readsElement_171 : decode cX17_readsElement 171 = .ok (.iload_n 2, 1) := by decide +kernel
theorem V.dX17_readsElement_172 : decode cX17_readsElement 172 = .ok (.aload_n 0, 1) := by decide +kernel
theorem V.dX17_readsElement_173 : decode cX17_readsElement 173 = .ok (.getfield 251, 3) := by decide +kernel
theorem V.dX17_readsElement_176 : decode cX17_readsElement 176 = .ok (.iastore, 1) := by decide +kernel
theorem V.dX17_readsElement_177 : decode cX17_readsElement 177 = .ok (.lconst 0, 1) := by decide +kernel
theorem V.dX17_readsElement_178 : decode cX17_readsElement 178 = .ok (.lstore 6, 2) := by decide +kernel
theorem V.dX17_readsElement_180 : decode cX17_readsElement 180 = .ok (.lload 6, 2) := by decide +kernel
theorem V.dX17_readsElement_182 : decode cX17_readsElement 182 = .ok (.lload 4, 2) := by decide +kernel
theorem V.dX17_readsElement_184 : decode cX17_readsElement 184 = .ok (.lcmp, 1) := by decide +kernel
theorem V.dX17_readsElement_185 : decode cX17_readsElement 185 = .ok (.ifCond .ge 32, 3) := by decide +kernel
theorem V.dX17_readsElement_188 : decode cX17_readsElement 188 = .ok (.iload_n 1, 1) := by decide +kernel
theorem V.dX17_readsElement_189 : decode cX17_readsElement 189 = .ok (.iconst 4, 1) := by decide +kernel
theorem V.dX17_readsElement_190 : decode cX17_readsElement 190 = .ok (.iand, 1) := by decide +kernel
theorem V.dX17_readsElement_191 : decode cX17_readsElement 191 = .ok (.ifCond .ne 12, 3) := by decide +kernel
theorem V.dX17_readsElement_194 : decode cX17_readsElement 194 = .ok (.aload_n 0, 1) := by decide +kernel
theorem V.dX17_readsElement_195 : decode cX17_readsElement 195 = .ok (.invokevirtual 277, 3) := by decide +kernel
theorem V.dX17_readsElement_198 : decode cX17_readsElement 198 = .ok (.lstore 8, 2) := by decide +kernel
theorem V.dX17_readsElement_200 : decode cX17_readsElement 200 = .ok (.goto 8, 3) := by decide +kernel
theorem V.dX17_readsElement_203 : decode cX17_readsElement 203 = .ok (.aload_n 0, 1) := by decide +kernel
theorem V.dX17_readsElement_204 : decode cX17_readsElement 204 = .ok (.iconst 0, 1) := by decide +kernel
theorem V.dX17_readsElement_205 : decode cX17_readsElement 205 = .ok (.invokevirtual 456, 3) := by decide +kernel
theorem V.dX17_readsElement_208 : decode cX17_readsElement 208 = .ok (.lload 6, 2) := by decide +kernel
theorem V.dX17_readsElement_210 : decode cX17_readsElement 210 = .ok (.lconst 1, 1) := by decide +kernel
theorem V.dX17_readsElement_211 : decode cX17_readsElement 211 = .ok (.ladd, 1) := by decide +kernel
theorem V.dX17_readsElement_212 : decode cX17_readsElement 212 = .ok (.lstore 6, 2) := by decide +kernel
theorem V.dX17_readsElement_214 : decode cX17_readsElement 214 = .ok (.goto (-34), 3) := by decide +kernel
theorem V.dX17_readsElement_217 : decode cX17_readsElement 217 = .ok (.aload_n 0, 1) := by decide +kernel
theorem V.dX17_readsElement_218 : decode cX17_readsElement 218 = .ok (.getfield 221, 3) := by decide +kernel
theorem V.dX17_readsElement_221 : decode cX17_readsElement 221 = .ok (.getfield 507, 3) := by decide +kernel
theorem V.dX17_readsElement_224 : decode cX17_readsElement 224 = .ok (.iload_n 2, 1) := by decide +kernel
theorem V.dX17_readsElement_225 : decode cX17_readsElement 225 = .ok (.lload 4, 2) := by decide +kernel
theorem V.dX17_readsElement_227 : decode cX17_readsElement 227 = .ok (.l2i, 1) := by decide +kernel
theorem V.dX17_readsElement_228 : decode cX17_readsElement 228 = .ok (.iastore, 1) := by decide +kernel
theorem V.dX17_readsElement_229 : decode cX17_readsElement 229 = .ok (.return_, 1) := by decide +kernel
theorem V.fdX17_489 : FD RX17 489 20 35 2 := ⟨(RX20, TX20, 58), tyX20, rfl, rfl, in_X20, by decide, Or.inr ⟨_, q3430⟩, rfl⟩
theorem V.fdX17_492 : FD RX17 492 20 36 2 := ⟨(RX20, TX20, 58), tyX20, rfl, rfl, in_X20, by decide, Or.inr ⟨_, q3432⟩, rfl⟩
theorem V.fdX17_495 : FD RX17 495 20 37 2 := ⟨(RX20, TX20, 58), tyX20, rfl, rfl, in_X20, by decide, Or.inr ⟨_, q3434⟩, rfl⟩
theorem V.fdX17_498 : FD RX17 498 20 39 2 := ⟨(RX20, TX20, 58), tyX20, rfl, rfl, in_X20, by decide, Or.inr ⟨_, q3438⟩, rfl⟩
theorem V.fdX17_501 : FD RX17 501 20 38 2 := ⟨(RX20, TX20, 58), tyX20, rfl, rfl, in_X20, by decide, Or.inr ⟨_, q3436⟩, rfl⟩
theorem V.fdX17_504 : FD RX17 504 20 41 2 := ⟨(RX20, TX20, 58), tyX20, rfl, rfl, in_X20, by decide, Or.inr ⟨_, q3442⟩, rfl⟩
theorem V.fdX17_507 : FD RX17 507 20 40 2 := ⟨(RX20, TX20, 58), tyX20, rfl, rfl, in_X20, by decide, Or.inr ⟨_, q3440⟩, rfl⟩
/-! ModuleEngineModel.readsElement(II)V -/
def V.Mdl_readsElement_p208 (rec180 : HS → Nat → Int32 → Int32 → Int64 → Int64 → Option ((Nat ⊕ Unit) × HS)) (σ : HS) (x0 : Nat) (x1 : Int32) (x2 : Int32) (x4 : Int64) (x6 : Int64) : Option ((Nat ⊕ Unit) × HS) :=
  bn (x6 + (1 : Int64)) fun y1 =>
  rec180 σ x0 x1 x2 x4 y1
theorem V.gX17_readsElement_p208 {X : CX} (rec180 : HS → Nat → Int32 → Int32 → Int64 → Int64 → Option ((Nat ⊕ Unit) × HS)) (hrec180 : ∀ (σ : HS) (x0 : Nat) (x1 : Int32) (x2 : Int32) (x4 : Int64) (x6 : Int64), G X RX17 "readsElement" cX17_readsElement 10 none 6 144 (enX enV (cxz X)) 180 [(0, av x0), (1, iv x1), (2, iv x2), (4, jv x4), (6, jv x6)] [] σ (rec180 σ x0 x1 x2 x4 x6)) (σ : HS) (x0 : Nat) (x1 : Int32) (x2 : Int32) (x4 : Int64) (x6 : Int64) : G X RX17 "readsElement" cX17_readsElement 10 none 6 144 (enX enV (cxz X)) 208 [(0, av x0), (1, iv x1), (2, iv x2), (4, jv x4), (6, jv x6)] [] σ (Mdl_readsElement_p208 rec180 σ x0 x1 x2 x4 x6) := by
  unfold Mdl_readsElement_p208
  refine g_lload 4 dX17_readsElement_208 rfl ?_
  refine g_lconst (v := 1) dX17_readsElement_210 (by decide) ?_
  refine g_ladd dX17_readsElement_211 ?_
  refine g_nmJ (fun y1 => ?_)
  refine g_lstore dX17_readsElement_212 (by decide) rfl ?_
  refine g_goto 180 dX17_readsElement_214 (by decide) ?_
  refine G.sub [1, 2, 3, 4, 0] rfl ?_
  exact hrec180 _ _ _ _ _ _
def V.Mdl_readsElement_p180  : Nat → HS → Nat → Int32 → Int32 → Int64 → Int64 → Option ((Nat ⊕ Unit) × HS)
  | 0, _, _, _, _, _, _ => none
  | n + 1, σ, x0, x1, x2, x4, x6 =>
    if x4 ≤ x6 then (
      ck (tg σ x0 = 18) <|
      ck (tg σ (gR σ x0 10) = 21) <|
      ck (tg σ (gR σ (gR σ x0 10) 40) = 100 ∧ inb x2 (ln σ (gR σ (gR σ x0 10) 40))) <| bn (sI σ (gR σ (gR σ x0 10) 40) (ix x2) x4.toInt32) fun σ1 =>
      some (.inr (), σ1))
    else (
      if (x1 &&& (4 : Int32)) = 0 then (
        ck (tg σ x0 = 18) <| clT (Mdl_number σ x0 ) fun r4 σ3 =>
        Mdl_readsElement_p208 (Mdl_readsElement_p180 n) σ3 x0 x1 x2 x4 x6)
      else (
        ck (tg σ x0 = 18) <| clT (Mdl_expression σ x0 (0 : Int32)) fun _ σ2 =>
        Mdl_readsElement_p208 (Mdl_readsElement_p180 n) σ2 x0 x1 x2 x4 x6))
theorem V.gX17_readsElement_p180 {X : CX}  : ∀ (n : Nat) (σ : HS) (x0 : Nat) (x1 : Int32) (x2 : Int32) (x4 : Int64) (x6 : Int64), G X RX17 "readsElement" cX17_readsElement 10 none 6 144 (enX enV (cxz X)) 180 [(0, av x0), (1, iv x1), (2, iv x2), (4, jv x4), (6, jv x6)] [] σ (Mdl_readsElement_p180 n σ x0 x1 x2 x4 x6)
  | 0, σ, x0, x1, x2, x4, x6 => by rw [Mdl_readsElement_p180]; exact G.nul
  | n + 1, σ, x0, x1, x2, x4, x6 => by
    rw [Mdl_readsElement_p180]
    refine g_lload 4 dX17_readsElement_180 rfl ?_
    refine g_lload 3 dX17_readsElement_182 rfl ?_
    refine g_lcmp_ge 217 dX17_readsElement_184 dX17_readsElement_185 (by decide) ?_ ?_
    · refine g_aload_n 0 0 dX17_readsElement_217 rfl rfl ?_
      refine g_getR fdX17_221 dX17_readsElement_218 ?_
      refine g_getR fdX17_507 dX17_readsElement_221 ?_
      refine g_iload_n 2 2 dX17_readsElement_224 rfl rfl ?_
      refine g_lload 3 dX17_readsElement_225 rfl ?_
      refine g_l2i dX17_readsElement_227 ?_
      refine g_iastore dX17_readsElement_228 (fun σ1 => ?_)
      exact g_return rfl dX17_readsElement_229
    · refine g_iload_n 1 1 dX17_readsElement_188 rfl rfl ?_
      refine g_iconst (v := 4) dX17_readsElement_189 (by decide) ?_
      refine g_iand dX17_readsElement_190 ?_
      refine g_if_ne 203 dX17_readsElement_191 (by decide) ?_ ?_
      · refine g_aload_n 0 0 dX17_readsElement_203 rfl rfl ?_
        refine g_iconst (v := 0) dX17_readsElement_204 (by decide) ?_
        refine g_callVT (fc := fun sς => Mdl_expression sς x0 (0 : Int32)) (ci := 17) (as := [iv (0 : Int32)]) rfl rfl rfl q3700 qs232 q3698 mdX17_456 (ctX17_expression x0 (0 : Int32)) rfl (Nat.le_of_ble_eq_true rfl) (Nat.le_of_ble_eq_true rfl) (Nat.le_of_ble_eq_true rfl) pu_V (by decide) dX17_readsElement_205 (fun _ σ2 => ?_)
        exact gX17_readsElement_p208 (Mdl_readsElement_p180 n) (gX17_readsElement_p180 n) _ _ _ _ _ _
      · refine g_aload_n 0 0 dX17_readsElement_194 rfl rfl ?_
        refine g_callVT (fc := fun sς => Mdl_number sς x0 ) (ci := 17) (as := []) rfl rfl rfl q3619 qs215 q3617 mdX17_277 (ctX17_number x0 ) rfl (Nat.le_of_ble_eq_true rfl) (Nat.le_of_ble_eq_true rfl) (Nat.le_of_ble_eq_true rfl) pu_J (by decide) dX17_readsElement_195 (fun r4 σ3 => ?_)
        refine g_lstore dX17_readsElement_198 (by decide) rfl ?_
        refine g_goto 208 dX17_readsElement_200 (by decide) ?_
        refine G.sub [1, 2, 3, 4, 5] rfl ?_
        exact gX17_readsElement_p208 (Mdl_readsElement_p180 n) (gX17_readsElement_p180 n) _ _ _ _ _ _
def V.Mdl_readsElement_p158  (σ : HS) (x0 : Nat) (x1 : Int32) (x2 : Int32) : Option ((Nat ⊕ Unit) × HS) :=
  ck (tg σ x0 = 18) <| clT (Mdl_number σ x0 ) fun r2 σ1 =>
  ck (tg σ1 x0 = 18) <|
  ck (tg σ1 (gR σ1 x0 10) = 21) <|
  ck (tg σ1 x0 = 18) <|
  ck (tg σ1 (gR σ1 (gR σ1 x0 10) 41) = 100 ∧ inb x2 (ln σ1 (gR σ1 (gR σ1 x0 10) 41))) <| bn (sI σ1 (gR σ1 (gR σ1 x0 10) 41) (ix x2) (gI σ1 x0 11)) fun σ3 =>
  Mdl_readsElement_p180 FU σ3 x0 x1 x2 r2 (0 : Int64)
theorem V.gX17_readsElement_p158 {X : CX}  (σ : HS) (x0 : Nat) (x1 : Int32) (x2 : Int32) : G X RX17 "readsElement" cX17_readsElement 10 none 6 144 (enX enV (cxz X)) 158 [(0, av x0), (1, iv x1), (2, iv x2)] [] σ (Mdl_readsElement_p158 σ x0 x1 x2) := by
  unfold Mdl_readsElement_p158
  refine g_aload_n 0 0 dX17_readsElement_158 rfl rfl ?_
  refine g_callVT (fc := fun sς => Mdl_number sς x0 ) (ci := 17) (as := []) rfl rfl rfl q3619 qs215 q3617 mdX17_277 (ctX17_number x0 ) rfl (Nat.le_of_ble_eq_true rfl) (Nat.le_of_ble_eq_true rfl) (Nat.le_of_ble_eq_true rfl) pu_J (by decide) dX17_readsElement_159 (fun r2 σ1 => ?_)
  refine g_lstore dX17_readsElement_162 (by decide) rfl ?_
  refine g_aload_n 0 1 dX17_readsElement_164 rfl rfl ?_
  refine g_getR fdX17_221 dX17_readsElement_165 ?_
  refine g_getR fdX17_504 dX17_readsElement_168 ?_
  refine g_iload_n 2 3 dX17_readsElement_171 rfl rfl ?_
  refine g_aload_n 0 1 dX17_readsElement_172 rfl rfl ?_
  refine g_getI fdX17_251 dX17_readsElement_173 ?_
  refine g_iastore dX17_readsElement_176 (fun σ3 => ?_)
  refine g_lconst (v := 0) dX17_readsElement_177 (by decide) ?_
  refine g_lstore dX17_readsElement_178 (by decide) rfl ?_
  refine G.sub [2, 3, 4, 1, 0] rfl ?_
  exact gX17_readsElement_p180 FU _ _ _ _ _ _
def V.Mdl_readsElement_p108  (σ : HS) (x0 : Nat) (x1 : Int32) (x2 : Int32) (s0 : Int32) (s1 : Int32) (s2 : Nat) : Option ((Nat ⊕ Unit) × HS) :=
  ck (tg σ s2 = 103 ∧ inb s1 (ln σ s2) ∧ zb s0) <| bn (sI σ s2 (ix s1) s0) fun σ1 =>
  ck (tg σ1 x0 = 18) <|
  ck (tg σ1 (gR σ1 x0 10) = 21) <|
  ck (tg σ1 (gR σ1 (gR σ1 x0 10) 38) = 100 ∧ inb x2 (ln σ1 (gR σ1 (gR σ1 x0 10) 38))) <| bn (sI σ1 (gR σ1 (gR σ1 x0 10) 38) (ix x2) (112 : Int32)) fun σ2 =>
  if x1 = 0 then (
    Mdl_readsElement_p158 σ2 x0 x1 x2)
  else (
    if x1 = (4 : Int32) then (
      Mdl_readsElement_p158 σ2 x0 x1 x2)
    else (
      if (x1 &&& (4 : Int32)) = 0 then (
        ck (tg σ2 x0 = 18) <| clT (Mdl_small σ2 x0 (0 : Int32)) fun r7 σ6 =>
        Mdl_readsElement_p158 σ6 x0 x1 x2)
      else (
        ck (tg σ2 x0 = 18) <|
        ck (tg σ2 (gR σ2 x0 10) = 21) <|
        ck (tg σ2 x0 = 18) <| clT (Mdl_referenceType σ2 x0 ) fun r4 σ3 =>
        ck (tg σ3 (gR σ2 (gR σ2 x0 10) 38) = 100 ∧ inb x2 (ln σ3 (gR σ2 (gR σ2 x0 10) 38))) <| bn (sI σ3 (gR σ2 (gR σ2 x0 10) 38) (ix x2) r4) fun σ5 =>
        Mdl_readsElement_p158 σ5 x0 x1 x2)))
theorem V.gX17_readsElement_p108 {X : CX}  (σ : HS) (x0 : Nat) (x1 : Int32) (x2 : Int32) (s0 : Int32) (s1 : Int32) (s2 : Nat) : G X RX17 "readsElement" cX17_readsElement 10 none 6 144 (enX enV (cxz X)) 108 [(0, av x0), (1, iv x1), (2, iv x2)] [iv s0, iv s1, av s2] σ (Mdl_readsElement_p108 σ x0 x1 x2 s0 s1 s2) := by
  unfold Mdl_readsElement_p108
  refine g_zastore dX17_readsElement_108 (fun σ1 => ?_)
  refine g_aload_n 0 0 dX17_readsElement_109 rfl rfl ?_
  refine g_getR fdX17_221 dX17_readsElement_110 ?_
  refine g_getR fdX17_501 dX17_readsElement_113 ?_
  refine g_iload_n 2 2 dX17_readsElement_116 rfl rfl ?_
  refine g_bipush (v := 112) dX17_readsElement_117 (by decide) ?_
  refine g_iastore dX17_readsElement_119 (fun σ2 => ?_)
  refine g_iload_n 1 1 dX17_readsElement_120 rfl rfl ?_
  refine g_if_eq 158 dX17_readsElement_121 (by decide) ?_ ?_
  · exact gX17_readsElement_p158 _ _ _ _
  · refine g_iload_n 1 1 dX17_readsElement_124 rfl rfl ?_
    refine g_iconst (v := 4) dX17_readsElement_125 (by decide) ?_
    refine g_icmp_eq 158 dX17_readsElement_126 (by decide) ?_ ?_
    · exact gX17_readsElement_p158 _ _ _ _
    · refine g_iload_n 1 1 dX17_readsElement_129 rfl rfl ?_
      refine g_iconst (v := 4) dX17_readsElement_130 (by decide) ?_
      refine g_iand dX17_readsElement_131 ?_
      refine g_if_ne 145 dX17_readsElement_132 (by decide) ?_ ?_
      · refine g_aload_n 0 0 dX17_readsElement_145 rfl rfl ?_
        refine g_getR fdX17_221 dX17_readsElement_146 ?_
        refine g_getR fdX17_501 dX17_readsElement_149 ?_
        refine g_iload_n 2 2 dX17_readsElement_152 rfl rfl ?_
        refine g_aload_n 0 0 dX17_readsElement_153 rfl rfl ?_
        refine g_callVT (fc := fun sς => Mdl_referenceType sς x0 ) (ci := 17) (as := []) rfl rfl rfl q3676 qs226 q3674 mdX17_405 (ctX17_referenceType x0 ) rfl (Nat.le_of_ble_eq_true rfl) (Nat.le_of_ble_eq_true rfl) (Nat.le_of_ble_eq_true rfl) pu_I (by decide) dX17_readsElement_154 (fun r4 σ3 => ?_)
        refine g_iastore dX17_readsElement_157 (fun σ5 => ?_)
        exact gX17_readsElement_p158 _ _ _ _
      · refine g_aload_n 0 0 dX17_readsElement_135 rfl rfl ?_
        refine g_iconst (v := 0) dX17_readsElement_136 (by decide) ?_
        refine g_callVT (fc := fun sς => Mdl_small sς x0 (0 : Int32)) (ci := 17) (as := [iv (0 : Int32)]) rfl rfl rfl q3671 qs225 q3669 mdX17_393 (ctX17_small x0 (0 : Int32)) rfl (Nat.le_of_ble_eq_true rfl) (Nat.le_of_ble_eq_true rfl) (Nat.le_of_ble_eq_true rfl) pu_I (by decide) dX17_readsElement_137 (fun r7 σ6 => ?_)
        refine g_istore dX17_readsElement_140 (by decide) rfl ?_
        refine g_goto 158 dX17_readsElement_142 (by decide) ?_
        refine G.sub [1, 2, 3] rfl ?_
        exact gX17_readsElement_p158 _ _ _ _
def V.Mdl_readsElement_p89  (σ : HS) (x0 : Nat) (x1 : Int32) (x2 : Int32) : Option ((Nat ⊕ Unit) × HS) :=
  ck (tg σ x0 = 18) <|
  ck (tg σ (gR σ x0 10) = 21) <|
  if (x1 &&& (4 : Int32)) = 0 then (
    Mdl_readsElement_p108 σ x0 x1 x2 (0 : Int32) x2 (gR σ (gR σ x0 10) 39))
  else (
    Mdl_readsElement_p108 σ x0 x1 x2 (1 : Int32) x2 (gR σ (gR σ x0 10) 39))
theorem V.gX17_readsElement_p89 {X : CX}  (σ : HS) (x0 : Nat) (x1 : Int32) (x2 : Int32) : G X RX17 "readsElement" cX17_readsElement 10 none 6 144 (enX enV (cxz X)) 89 [(0, av x0), (1, iv x1), (2, iv x2)] [] σ (Mdl_readsElement_p89 σ x0 x1 x2) := by
  unfold Mdl_readsElement_p89
  refine g_aload_n 0 0 dX17_readsElement_89 rfl rfl ?_
  refine g_getR fdX17_221 dX17_readsElement_90 ?_
  refine g_getR fdX17_498 dX17_readsElement_93 ?_
  refine g_iload_n 2 2 dX17_readsElement_96 rfl rfl ?_
  refine g_iload_n 1 1 dX17_readsElement_97 rfl rfl ?_
  refine g_iconst (v := 4) dX17_readsElement_98 (by decide) ?_
  refine g_iand dX17_readsElement_99 ?_
  refine g_if_eq 107 dX17_readsElement_100 (by decide) ?_ ?_
  · refine g_iconst (v := 0) dX17_readsElement_107 (by decide) ?_
    exact gX17_readsElement_p108 _ _ _ _ _ _ _
  · refine g_iconst (v := 1) dX17_readsElement_103 (by decide) ?_
    refine g_goto 108 dX17_readsElement_104 (by decide) ?_
    exact gX17_readsElement_p108 _ _ _ _ _ _ _
def V.Mdl_readsElement_p66  (σ : HS) (x0 : Nat) (x1 : Int32) (x2 : Int32) (x3 : Int32) (s0 : Int64) (s1 : Int32) (s2 : Nat) : Option ((Nat ⊕ Unit) × HS) :=
  ck (tg σ s2 = 101 ∧ inb s1 (ln σ s2)) <| bn (sJ σ s2 (ix s1) s0) fun σ1 =>
  ck (tg σ1 x0 = 18) <|
  ck (tg σ1 (gR σ1 x0 10) = 21) <|
  ck (tg σ1 x0 = 18) <|
  ck (tg σ1 (gR σ1 (gR σ1 x0 10) 37) = 100 ∧ inb x2 (ln σ1 (gR σ1 (gR σ1 x0 10) 37))) <| bn (sI σ1 (gR σ1 (gR σ1 x0 10) 37) (ix x2) (gI σ1 x0 11)) fun σ2 =>
  if x3 = 0 then (
    Mdl_readsElement_p89 σ2 x0 x1 x2)
  else (
    ck (tg σ2 x0 = 18) <| clT (Mdl_expression σ2 x0 (0 : Int32)) fun _ σ3 =>
    Mdl_readsElement_p89 σ3 x0 x1 x2)
theorem V.gX17_readsElement_p66 {X : CX}  (σ : HS) (x0 : Nat) (x1 : Int32) (x2 : Int32) (x3 : Int32) (s0 : Int64) (s1 : Int32) (s2 : Nat) : G X RX17 "readsElement" cX17_readsElement 10 none 6 144 (enX enV (cxz X)) 66 [(0, av x0), (1, iv x1), (2, iv x2), (3, iv x3)] [jv s0, iv s1, av s2] σ (Mdl_readsElement_p66 σ x0 x1 x2 x3 s0 s1 s2) := by
  unfold Mdl_readsElement_p66
  refine g_lastore dX17_readsElement_66 (fun σ1 => ?_)
  refine g_aload_n 0 0 dX17_readsElement_67 rfl rfl ?_
  refine g_getR fdX17_221 dX17_readsElement_68 ?_
  refine g_getR fdX17_495 dX17_readsElement_71 ?_
  refine g_iload_n 2 2 dX17_readsElement_74 rfl rfl ?_
  refine g_aload_n 0 0 dX17_readsElement_75 rfl rfl ?_
  refine g_getI fdX17_251 dX17_readsElement_76 ?_
  refine g_iastore dX17_readsElement_79 (fun σ2 => ?_)
  refine g_iload_n 3 3 dX17_readsElement_80 rfl rfl ?_
  refine g_if_eq 89 dX17_readsElement_81 (by decide) ?_ ?_
  · refine G.sub [0, 1, 2] rfl ?_
    exact gX17_readsElement_p89 _ _ _ _
  · refine g_aload_n 0 0 dX17_readsElement_84 rfl rfl ?_
    refine g_iconst (v := 0) dX17_readsElement_85 (by decide) ?_
    refine g_callVT (fc := fun sς => Mdl_expression sς x0 (0 : Int32)) (ci := 17) (as := [iv (0 : Int32)]) rfl rfl rfl q3700 qs232 q3698 mdX17_456 (ctX17_expression x0 (0 : Int32)) rfl (Nat.le_of_ble_eq_true rfl) (Nat.le_of_ble_eq_true rfl) (Nat.le_of_ble_eq_true rfl) pu_V (by decide) dX17_readsElement_86 (fun _ σ3 => ?_)
    refine G.sub [0, 1, 2] rfl ?_
    exact gX17_readsElement_p89 _ _ _ _
def V.Mdl_readsElement_p65  (σ : HS) (x0 : Nat) (x1 : Int32) (x2 : Int32) (x3 : Int32) (s0 : Int32) (s1 : Nat) : Option ((Nat ⊕ Unit) × HS) :=
  Mdl_readsElement_p66 σ x0 x1 x2 x3 (0 : Int64) s0 s1
theorem V.gX17_readsElement_p65 {X : CX}  (σ : HS) (x0 : Nat) (x1 : Int32) (x2 : Int32) (x3 : Int32) (s0 : Int32) (s1 : Nat) : G X RX17 "readsElement" cX17_readsElement 10 none 6 144 (enX enV (cxz X)) 65 [(0, av x0), (1, iv x1), (2, iv x2), (3, iv x3)] [iv s0, av s1] σ (Mdl_readsElement_p65 σ x0 x1 x2 x3 s0 s1) := by
  unfold Mdl_readsElement_p65
  refine g_lconst (v := 0) dX17_readsElement_65 (by decide) ?_
  exact gX17_readsElement_p66 _ _ _ _ _ _ _ _
def V.Mdl_readsElement_p39  (σ : HS) (x0 : Nat) (x1 : Int32) (x2 : Int32) (x3 : Int32) (s0 : Int32) (s1 : Int32) (s2 : Nat) : Option ((Nat ⊕ Unit) × HS) :=
  ck (tg σ s2 = 100 ∧ inb s1 (ln σ s2)) <| bn (sI σ s2 (ix s1) s0) fun σ1 =>
  ck (tg σ1 x0 = 18) <|
  ck (tg σ1 (gR σ1 x0 10) = 21) <|
  if x3 = 0 then (
    Mdl_readsElement_p65 σ1 x0 x1 x2 x3 x2 (gR σ1 (gR σ1 x0 10) 36))
  else (
    if (x1 &&& (2 : Int32)) = 0 then (
      Mdl_readsElement_p65 σ1 x0 x1 x2 x3 x2 (gR σ1 (gR σ1 x0 10) 36))
    else (
      ck (tg σ1 x0 = 18) <| clT (Mdl_number σ1 x0 ) fun r3 σ2 =>
      Mdl_readsElement_p66 σ2 x0 x1 x2 x3 r3 x2 (gR σ1 (gR σ1 x0 10) 36)))
theorem V.gX17_readsElement_p39 {X : CX}  (σ : HS) (x0 : Nat) (x1 : Int32) (x2 : Int32) (x3 : Int32) (s0 : Int32) (s1 : Int32) (s2 : Nat) : G X RX17 "readsElement" cX17_readsElement 10 none 6 144 (enX enV (cxz X)) 39 [(0, av x0), (1, iv x1), (2, iv x2), (3, iv x3)] [iv s0, iv s1, av s2] σ (Mdl_readsElement_p39 σ x0 x1 x2 x3 s0 s1 s2) := by
  unfold Mdl_readsElement_p39
  refine g_iastore dX17_readsElement_39 (fun σ1 => ?_)
  refine g_aload_n 0 0 dX17_readsElement_40 rfl rfl ?_
  refine g_getR fdX17_221 dX17_readsElement_41 ?_
  refine g_getR fdX17_492 dX17_readsElement_44 ?_
  refine g_iload_n 2 2 dX17_readsElement_47 rfl rfl ?_
  refine g_iload_n 3 3 dX17_readsElement_48 rfl rfl ?_
  refine g_if_eq 65 dX17_readsElement_49 (by decide) ?_ ?_
  · exact gX17_readsElement_p65 _ _ _ _ _ _ _
  · refine g_iload_n 1 1 dX17_readsElement_52 rfl rfl ?_
    refine g_iconst (v := 2) dX17_readsElement_53 (by decide) ?_
    refine g_iand dX17_readsElement_54 ?_
    refine g_if_eq 65 dX17_readsElement_55 (by decide) ?_ ?_
    · exact gX17_readsElement_p65 _ _ _ _ _ _ _
    · refine g_aload_n 0 0 dX17_readsElement_58 rfl rfl ?_
      refine g_callVT (fc := fun sς => Mdl_number sς x0 ) (ci := 17) (as := []) rfl rfl rfl q3619 qs215 q3617 mdX17_277 (ctX17_number x0 ) rfl (Nat.le_of_ble_eq_true rfl) (Nat.le_of_ble_eq_true rfl) (Nat.le_of_ble_eq_true rfl) pu_J (by decide) dX17_readsElement_59 (fun r3 σ2 => ?_)
      refine g_goto 66 dX17_readsElement_62 (by decide) ?_
      exact gX17_readsElement_p66 _ _ _ _ _ _ _ _
def V.Mdl_readsElement_p11  (σ : HS) (x0 : Nat) (x1 : Int32) (x2 : Int32) (s0 : Int32) : Option ((Nat ⊕ Unit) × HS) :=
  ck (tg σ x0 = 18) <|
  ck (tg σ (gR σ x0 10) = 21) <|
  if s0 = 0 then (
    if (x1 &&& (2 : Int32)) = 0 then (
      Mdl_readsElement_p39 σ x0 x1 x2 s0 (1 : Int32) x2 (gR σ (gR σ x0 10) 35))
    else (
      Mdl_readsElement_p39 σ x0 x1 x2 s0 (2 : Int32) x2 (gR σ (gR σ x0 10) 35)))
  else (
    Mdl_readsElement_p39 σ x0 x1 x2 s0 (0 : Int32) x2 (gR σ (gR σ x0 10) 35))
theorem V.gX17_readsElement_p11 {X : CX}  (σ : HS) (x0 : Nat) (x1 : Int32) (x2 : Int32) (s0 : Int32) : G X RX17 "readsElement" cX17_readsElement 10 none 6 144 (enX enV (cxz X)) 11 [(0, av x0), (1, iv x1), (2, iv x2)] [iv s0] σ (Mdl_readsElement_p11 σ x0 x1 x2 s0) := by
  unfold Mdl_readsElement_p11
  refine g_istore_n 3 dX17_readsElement_11 rfl (by decide) rfl ?_
  refine g_aload_n 0 1 dX17_readsElement_12 rfl rfl ?_
  refine g_getR fdX17_221 dX17_readsElement_13 ?_
  refine g_getR fdX17_489 dX17_readsElement_16 ?_
  refine g_iload_n 2 3 dX17_readsElement_19 rfl rfl ?_
  refine g_iload_n 3 0 dX17_readsElement_20 rfl rfl ?_
  refine g_if_eq 28 dX17_readsElement_21 (by decide) ?_ ?_
  · refine g_iload_n 1 2 dX17_readsElement_28 rfl rfl ?_
    refine g_iconst (v := 2) dX17_readsElement_29 (by decide) ?_
    refine g_iand dX17_readsElement_30 ?_
    refine g_if_eq 38 dX17_readsElement_31 (by decide) ?_ ?_
    · refine g_iconst (v := 1) dX17_readsElement_38 (by decide) ?_
      refine G.sub [1, 2, 3, 0] rfl ?_
      exact gX17_readsElement_p39 _ _ _ _ _ _ _ _
    · refine g_iconst (v := 2) dX17_readsElement_34 (by decide) ?_
      refine g_goto 39 dX17_readsElement_35 (by decide) ?_
      refine G.sub [1, 2, 3, 0] rfl ?_
      exact gX17_readsElement_p39 _ _ _ _ _ _ _ _
  · refine g_iconst (v := 0) dX17_readsElement_24 (by decide) ?_
    refine g_goto 39 dX17_readsElement_25 (by decide) ?_
    refine G.sub [1, 2, 3, 0] rfl ?_
    exact gX17_readsElement_p39 _ _ _ _ _ _ _ _
def V.Mdl_readsElement (σ : HS) (x0 : Nat) (x1 : Int32) (x2 : Int32) : Option ((Nat ⊕ Unit) × HS) :=
  if (x1 &&& (1 : Int32)) = 0 then (
    Mdl_readsElement_p11 σ x0 x1 x2 (1 : Int32))
  else (
    Mdl_readsElement_p11 σ x0 x1 x2 (0 : Int32))
theorem V.ctX17_readsElement (x0 : Nat) (x1 : Int32) (x2 : Int32) : Ct yX17_readsElement  cX17_readsElement 10 none 6 144 eXV [av x0, iv x1, iv x2] (fun σ => Mdl_readsElement σ x0 x1 x2) := by
  refine Ct.of (own := RX17) (nm := "readsElement") (desc := "(II)V") rfl (by decide) (Nat.le_of_ble_eq_true rfl) (by decide) (fun X σ => ?_)
  show G X RX17 "readsElement" cX17_readsElement 10 none 6 144 (enX enV (cxz X)) 0 [(0, av x0), (1, iv x1), (2, iv x2)] [] σ (Mdl_readsElement σ x0 x1 x2)
  unfold Mdl_readsElement
  refine g_iload_n 1 1 dX17_readsElement_0 rfl rfl ?_
  refine g_iconst (v := 1) dX17_readsElement_1 (by decide) ?_
  refine g_iand dX17_readsElement_2 ?_
  refine g_if_ne 10 dX17_readsElement_3 (by decide) ?_ ?_
  · refine g_iconst (v := 0) dX17_readsElement_10 (by decide) ?_
    exact gX17_readsElement_p11 _ _ _ _ _
  · refine g_iconst (v := 1) dX17_readsElement_6 (by decide) ?_
    refine g_goto 11 dX17_readsElement_7 (by decide) ?_
    exact gX17_readsElement_p11 _ _ _ _ _
theorem V.dX17_readsElements_0 : decode cX17_readsElements 0 = .ok (.aload_n 0, 1) := by decide +kernel
theorem V.dX17_readsElements_1 : decode cX17_readsElements 1 = .ok (.invokevirtual 277, 3) := by decide +kernel
theorem V.dX17_readsElements_4 : decode cX17_readsElements 4 = .ok (.lstore_n 1, 1) := by decide +kernel
theorem V.dX17_readsElements_5 : decode cX17_readsElements 5 = .ok (.aload_n 0, 1) := by decide +kernel
theorem V.dX17_readsElements_6 : decode cX17_readsElements 6 = .ok (.getfield 221, 3) := by decide +kernel
theorem V.dX17_readsElements_9 : decode cX17_readsElements 9 = .ok (.aload_n 0, 1) := by decide +kernel
theorem V.dX17_readsElements_10 : decode cX17_readsElements 10 = .ok (.lload_n 1, 1) := by decide +kernel
theorem V.dX17_readsElements_11 : decode cX17_readsElements 11 = .ok (.invokevirtual 377, 3) := by decide +kernel
theorem V.dX17_readsElements_14 : decode cX17_readsElements 14 = .ok (.putfield 481, 3) := by decide +kernel
theorem V.dX17_readsElements_17 : decode cX17_readsElements 17 = .ok (.lconst 0, 1) := by decide +kernel
theorem V.dX17_readsElements_18 : decode cX17_readsElements 18 = .ok (.lstore_n 3, 1) := by decide +kernel
theorem V.dX17_readsElements_19 : decode cX17_readsElements 19 = .ok (.lload_n 3, 1) := by decide +kernel
theorem V.dX17_readsElements_20 : decode cX17_readsElements 20 = .ok (.lload_n 1, 1) := by decide +kernel
theorem V.dX17_readsElements_21 : decode cX17_readsElements 21 = .ok (.lcmp, 1) := by decide +kernel
theorem V.dX17_readsElements_22 : decode cX17_readsElements 22 = .ok (.ifCond .ge 61, 3) := by decide +kernel
theorem V.dX17_readsElements_25 : decode cX17_readsElements 25 = .ok (.aload_n 0, 1) := by decide +kernel
theorem V.dX17_readsElements_26 : decode cX17_readsElements 26 = .ok (.getfield 251, 3) := by decide +kernel
theorem V.dX17_readsElements_29 : decode cX17_readsElements 29 = .ok (.istore 5, 2) := by decide +kernel
theorem V.dX17_readsElements_31 : decode cX17_readsElements 31 = .ok (.aload_n 0, 1) := by decide +kernel
theorem V.dX17_readsElements_32 : decode cX17_readsElements 32 = .ok (.invokevirtual 277, 3) := by decide +kernel
theorem V.dX17_readsElements_35 : decode cX17_readsElements 35 = .ok (.lstore 6, 2) := by decide +kernel
theorem V.dX17_readsElements_37 : decode cX17_readsElements 37 = .ok (.lload 6, 2) := by decide +kernel
theorem V.dX17_readsElements_39 : decode cX17_readsElements 39 = .ok (.ldc2_w 484, 3) := by decide +kernel
theorem V.dX17_readsElements_42 : decode cX17_readsElements 42 = .ok (.lcmp, 1) := by decide +kernel
theorem V.dX17_readsElements_43 : decode cX17_readsElements 43 = .ok (.ifCond .le 11, 3) := by decide +kernel
theorem V.dX17_readsElements_46 : decode cX17_readsElements 46 = .ok (.aload_n 0, 1) := by decide +kernel
theorem V.dX17_readsElements_47 : decode cX17_readsElements 47 = .ok (.bipush 7, 2) := by decide +kernel
theorem V.dX17_readsElements_49 : decode cX17_readsElements 49 = .ok (.iload 5, 2) := by decide +kernel
theorem V.dX17_readsElements_51 : decode cX17_readsElements 51 = .ok (.invokevirtual 257, 3) := by decide +kernel
theorem V.dX17_readsElements_54 : decode cX17_readsElements 54 = .ok (.aload_n 0, 1) := by decide +kernel
theorem V.dX17_readsElements_55 : decode cX17_readsElements 55 = .ok (.lload 6, 2) := by decide +kernel
theorem V.dX17_readsElements_57 : decode cX17_readsElements 57 = .ok (.l2i, 1) := by decide +kernel
theorem V.dX17_readsElements_58 : decode cX17_readsElements 58 = .ok (.lload_n 3, 1) := by decide +kernel
theorem V.dX17_readsElements_59 : decode cX17_readsElements 59 = .ok (.ldc2_w 363, 3) := by decide +kernel
theorem V.dX17_readsElements_62 : decode cX17_readsElements 62 = .ok (.lcmp, 1) := by decide +kernel
theorem V.dX17_readsElements_63 : decode cX17_readsElements 63 = .ok (.ifCond .ge 8, 3) := by decide +kernel
theorem V.dX17_readsElements_66 : decode cX17_readsElements 66 = .ok (.lload_n 3, 1) := by decide +kernel
theorem V.dX17_readsElements_67 : decode cX17_readsElements 67 = .ok (.l2i, 1) := by decide +kernel
theorem V.dX17_readsElements_68 : decode cX17_readsElements 68 = .ok (.goto 5, 3) := by decide +kernel
theorem V.dX17_readsElements_71 : decode cX17_readsElements 71 = .ok (.bipush 63, 2) := by decide +kernel
theorem V.dX17_readsElements_73 : decode cX17_readsElements 73 = .ok (.invokevirtual 486, 3) := by decide +kernel
theorem V.dX17_readsElements_76 : decode cX17_readsElements 76 = .ok (.lload_n 3, 1) := by decide +kernel
theorem V.dX17_readsElements_77 : decode cX17_readsElements 77 = .ok (.lconst 1, 1) := by decide +kernel
theorem V.dX17_readsElements_78 : decode cX17_readsElements 78 = .ok (.ladd, 1) := by decide +kernel
theorem V.dX17_readsElements_79 : decode cX17_readsElements 79 = .ok (.lstore_n 3, 1) := by decide +kernel
theorem V.dX17_readsElements_80 : decode cX17_readsElements 80 = .ok (.goto (-61), 3) := by decide +kernel
theorem V.dX17_readsElements_83 : decode cX17_readsElements 83 = .ok (.return_, 1) := by decide +kernel
theorem V.fpX17_481 {nm : String} : FP RX17 nm 481 20 34 (.int) := ⟨(RX20, TX20, 58), tyX20, rfl, rfl, in_X20, by decide, tyX20_ok, nmX20, rfl, Or.inl ⟨rfl, Or.inr ⟨_, q3428⟩⟩⟩
theorem V.mdX17_486 : MD RX17 486 yX17_readsElement cX17_readsElement 10 none 2 := ⟨Or.inl q3744, q377, q3747, by decide, by decide, by decide +kernel⟩
/-! ModuleEngineModel.readsElements()V -/
def V.Mdl_readsElements_p73 (rec19 : HS → Nat → Int64 → Int64 → Option ((Nat ⊕ Unit) × HS)) (σ : HS) (x0 : Nat) (x1 : Int64) (x3 : Int64) (s0 : Int32) (s1 : Int32) (s2 : Nat) : Option ((Nat ⊕ Unit) × HS) :=
  ck (tg σ s2 = 18) <| clT (Mdl_readsElement σ s2 s1 s0) fun _ σ1 =>
  bn (x3 + (1 : Int64)) fun y2 =>
  rec19 σ1 x0 x1 y2
theorem V.gX17_readsElements_p73 {X : CX} (rec19 : HS → Nat → Int64 → Int64 → Option ((Nat ⊕ Unit) × HS)) (hrec19 : ∀ (σ : HS) (x0 : Nat) (x1 : Int64) (x3 : Int64), G X RX17 "readsElements" cX17_readsElements 8 none 7 173 (enX enV (cxz X)) 19 [(0, av x0), (1, jv x1), (3, jv x3)] [] σ (rec19 σ x0 x1 x3)) (σ : HS) (x0 : Nat) (x1 : Int64) (x3 : Int64) (s0 : Int32) (s1 : Int32) (s2 : Nat) : G X RX17 "readsElements" cX17_readsElements 8 none 7 173 (enX enV (cxz X)) 73 [(0, av x0), (1, jv x1), (3, jv x3)] [iv s0, iv s1, av s2] σ (Mdl_readsElements_p73 rec19 σ x0 x1 x3 s0 s1 s2) := by
  unfold Mdl_readsElements_p73
  refine g_callVT (fc := fun sς => Mdl_readsElement sς s2 s1 s0) (ci := 17) (as := [iv s1, iv s0]) rfl rfl rfl q3746 qs239 q3744 mdX17_486 (ctX17_readsElement s2 s1 s0) rfl (Nat.le_of_ble_eq_true rfl) (Nat.le_of_ble_eq_true rfl) (Nat.le_of_ble_eq_true rfl) pu_V (by decide) dX17_readsElements_73 (fun _ σ1 => ?_)
  refine g_lload_n 3 2 dX17_readsElements_76 rfl rfl ?_
  refine g_lconst (v := 1) dX17_readsElements_77 (by decide) ?_
  refine g_ladd dX17_readsElements_78 ?_
  refine g_nmJ (fun y2 => ?_)
  refine g_lstore_n 3 dX17_readsElements_79 rfl (by decide) rfl ?_
  refine g_goto 19 dX17_readsElements_80 (by decide) ?_
  refine G.sub [1, 2, 0] rfl ?_
  exact hrec19 _ _ _ _
def V.Mdl_readsElements_p54 (rec19 : HS → Nat → Int64 → Int64 → Option ((Nat ⊕ Unit) × HS)) (σ : HS) (x0 : Nat) (x1 : Int64) (x3 : Int64) (x6 : Int64) : Option ((Nat ⊕ Unit) × HS) :=
  if (64 : Int64) ≤ x3 then (
    Mdl_readsElements_p73 rec19 σ x0 x1 x3 (63 : Int32) x6.toInt32 x0)
  else (
    Mdl_readsElements_p73 rec19 σ x0 x1 x3 x3.toInt32 x6.toInt32 x0)
theorem V.gX17_readsElements_p54 {X : CX} (rec19 : HS → Nat → Int64 → Int64 → Option ((Nat ⊕ Unit) × HS)) (hrec19 : ∀ (σ : HS) (x0 : Nat) (x1 : Int64) (x3 : Int64), G X RX17 "readsElements" cX17_readsElements 8 none 7 173 (enX enV (cxz X)) 19 [(0, av x0), (1, jv x1), (3, jv x3)] [] σ (rec19 σ x0 x1 x3)) (σ : HS) (x0 : Nat) (x1 : Int64) (x3 : Int64) (x6 : Int64) : G X RX17 "readsElements" cX17_readsElements 8 none 7 173 (enX enV (cxz X)) 54 [(0, av x0), (1, jv x1), (3, jv x3), (6, jv x6)] [] σ (Mdl_readsElements_p54 rec19 σ x0 x1 x3 x6) := by
  unfold Mdl_readsElements_p54
  refine g_aload_n 0 0 dX17_readsElements_54 rfl rfl ?_
  refine g_lload 3 dX17_readsElements_55 rfl ?_
  refine g_l2i dX17_readsElements_57 ?_
  refine g_lload_n 3 2 dX17_readsElements_58 rfl rfl ?_
  refine g_ldc2 q3645 dX17_readsElements_59 ?_
  refine g_lcmp_ge 71 dX17_readsElements_62 dX17_readsElements_63 (by decide) ?_ ?_
  · refine g_bipush (v := 63) dX17_readsElements_71 (by decide) ?_
    refine G.sub [0, 1, 2] rfl ?_
    exact gX17_readsElements_p73 rec19 hrec19 _ _ _ _ _ _ _
  · refine g_lload_n 3 2 dX17_readsElements_66 rfl rfl ?_
    refine g_l2i dX17_readsElements_67 ?_
    refine g_goto 73 dX17_readsElements_68 (by decide) ?_
    refine G.sub [0, 1, 2] rfl ?_
    exact gX17_readsElements_p73 rec19 hrec19 _ _ _ _ _ _ _
def V.Mdl_readsElements_p19  : Nat → HS → Nat → Int64 → Int64 → Option ((Nat ⊕ Unit) × HS)
  | 0, _, _, _, _ => none
  | n + 1, σ, x0, x1, x3 =>
    if x1 ≤ x3 then (
      some (.inr (), σ))
    else (
      ck (tg σ x0 = 18) <|
      bn (gI σ x0 11) fun y1 =>
      ck (tg σ x0 = 18) <| clT (Mdl_number σ x0 ) fun r3 σ2 =>
      if r3 ≤ (7 : Int64) then (
        Mdl_readsElements_p54 (Mdl_readsElements_p19 n) σ2 x0 x1 x3 r3)
      else (
        ck (tg σ2 x0 = 18) <| clT (Mdl_stops σ2 x0 (7 : Int32) y1) fun _ σ4 =>
        Mdl_readsElements_p54 (Mdl_readsElements_p19 n) σ4 x0 x1 x3 r3))
theorem V.gX17_readsElements_p19 {X : CX}  : ∀ (n : Nat) (σ : HS) (x0 : Nat) (x1 : Int64) (x3 : Int64), G X RX17 "readsElements" cX17_readsElements 8 none 7 173 (enX enV (cxz X)) 19 [(0, av x0), (1, jv x1), (3, jv x3)] [] σ (Mdl_readsElements_p19 n σ x0 x1 x3)
  | 0, σ, x0, x1, x3 => by rw [Mdl_readsElements_p19]; exact G.nul
  | n + 1, σ, x0, x1, x3 => by
    rw [Mdl_readsElements_p19]
    refine g_lload_n 3 2 dX17_readsElements_19 rfl rfl ?_
    refine g_lload_n 1 1 dX17_readsElements_20 rfl rfl ?_
    refine g_lcmp_ge 83 dX17_readsElements_21 dX17_readsElements_22 (by decide) ?_ ?_
    · exact g_return rfl dX17_readsElements_83
    · refine g_aload_n 0 0 dX17_readsElements_25 rfl rfl ?_
      refine g_getI fdX17_251 dX17_readsElements_26 ?_
      refine g_nmI (fun y1 => ?_)
      refine g_istore dX17_readsElements_29 (by decide) rfl ?_
      refine g_aload_n 0 1 dX17_readsElements_31 rfl rfl ?_
      refine g_callVT (fc := fun sς => Mdl_number sς x0 ) (ci := 17) (as := []) rfl rfl rfl q3619 qs215 q3617 mdX17_277 (ctX17_number x0 ) rfl (Nat.le_of_ble_eq_true rfl) (Nat.le_of_ble_eq_true rfl) (Nat.le_of_ble_eq_true rfl) pu_J (by decide) dX17_readsElements_32 (fun r3 σ2 => ?_)
      refine g_lstore dX17_readsElements_35 (by decide) rfl ?_
      refine g_lload 0 dX17_readsElements_37 rfl ?_
      refine g_ldc2 q3743 dX17_readsElements_39 ?_
      refine g_lcmp_le 54 dX17_readsElements_42 dX17_readsElements_43 (by decide) ?_ ?_
      · refine G.sub [2, 3, 4, 0] rfl ?_
        exact gX17_readsElements_p54 (Mdl_readsElements_p19 n) (gX17_readsElements_p19 n) _ _ _ _ _
      · refine g_aload_n 0 2 dX17_readsElements_46 rfl rfl ?_
        refine g_bipush (v := 7) dX17_readsElements_47 (by decide) ?_
        refine g_iload 1 dX17_readsElements_49 rfl ?_
        refine g_callVT (fc := fun sς => Mdl_stops sς x0 (7 : Int32) y1) (ci := 17) (as := [iv (7 : Int32), iv y1]) rfl rfl rfl q3606 qs214 q3604 mdX17_257 (ctX17_stops x0 (7 : Int32) y1) rfl (Nat.le_of_ble_eq_true rfl) (Nat.le_of_ble_eq_true rfl) (Nat.le_of_ble_eq_true rfl) pu_V (by decide) dX17_readsElements_51 (fun _ σ4 => ?_)
        refine G.sub [2, 3, 4, 0] rfl ?_
        exact gX17_readsElements_p54 (Mdl_readsElements_p19 n) (gX17_readsElements_p19 n) _ _ _ _ _
def V.Mdl_readsElements (σ : HS) (x0 : Nat) : Option ((Nat ⊕ Unit) × HS) :=
  ck (tg σ x0 = 18) <| clT (Mdl_number σ x0 ) fun r2 σ1 =>
  ck (tg σ1 x0 = 18) <|
  ck (tg σ1 x0 = 18) <| cl (Mdl_kept σ1 x0 r2) fun r4 σ3 =>
  ck (tg σ3 (gR σ1 x0 10) = 21) <| bn (sI σ3 (gR σ1 x0 10) 34 r4) fun σ5 =>
  Mdl_readsElements_p19 FU σ5 x0 r2 (0 : Int64)
theorem V.ctX17_readsElements (x0 : Nat) : Ct yX17_readsElements  cX17_readsElements 8 none 7 173 eXV [av x0] (fun σ => Mdl_readsElements σ x0) := by
  refine Ct.of (own := RX17) (nm := "readsElements") (desc := "()V") rfl (by decide) (Nat.le_of_ble_eq_true rfl) (by decide) (fun X σ => ?_)
  show G X RX17 "readsElements" cX17_readsElements 8 none 7 173 (enX enV (cxz X)) 0 [(0, av x0)] [] σ (Mdl_readsElements σ x0)
  unfold Mdl_readsElements
  refine g_aload_n 0 0 dX17_readsElements_0 rfl rfl ?_
  refine g_callVT (fc := fun sς => Mdl_number sς x0 ) (ci := 17) (as := []) rfl rfl rfl q3619 qs215 q3617 mdX17_277 (ctX17_number x0 ) rfl (Nat.le_of_ble_eq_true rfl) (Nat.le_of_ble_eq_true rfl) (Nat.le_of_ble_eq_true rfl) pu_J (by decide) dX17_readsElements_1 (fun r2 σ1 => ?_)
  refine g_lstore_n 1 dX17_readsElements_4 rfl (by decide) rfl ?_
  refine g_aload_n 0 1 dX17_readsElements_5 rfl rfl ?_
  refine g_getR fdX17_221 dX17_readsElements_6 ?_
  refine g_aload_n 0 1 dX17_readsElements_9 rfl rfl ?_
  refine g_lload_n 1 0 dX17_readsElements_10 rfl rfl ?_
  refine g_callV (fc := fun sς => Mdl_kept sς x0 r2) (ci := 17) (as := [jv r2]) rfl rfl rfl q3643 qs220 mdX17_377 (ctX17_kept x0 r2) rfl (Nat.le_of_ble_eq_true rfl) (Nat.le_of_ble_eq_true rfl) (Nat.le_of_ble_eq_true rfl) pu_I dX17_readsElements_11 (fun r4 σ3 => ?_)
  refine g_putI fpX17_481 dX17_readsElements_14 (fun σ5 => ?_)
  refine g_lconst (v := 0) dX17_readsElements_17 (by decide) ?_
  refine g_lstore_n 3 dX17_readsElements_18 rfl (by decide) rfl ?_
  refine G.sub [2, 1, 0] rfl ?_
  exact gX17_readsElements_p19 FU _ _ _ _
theorem V.dX17_readsBody_0 : decode cX17_readsBody 0 = .ok (.aload_n 0, 1) := by decide +kernel
theorem V.dX17_readsBody_1 : decode cX17_readsBody 1 = .ok (.getfield 251, 3) := by decide +kernel
theorem V.dX17_readsBody_4 : decode cX17_readsBody 4 = .ok (.istore_n 2, 1) := by decide +kernel
theorem V.dX17_readsBody_5 : decode cX17_readsBody 5 = .ok (.aload_n 0, 1) := by decide +kernel
theorem V.dX17_readsBody_6 : decode cX17_readsBody 6 = .ok (.invokevirtual 277, 3) := by decide +kernel
theorem V.dX17_readsBody_9 : decode cX17_readsBody 9 = .ok (.lstore_n 3, 1) := by decide +kernel
theorem V.dX17_readsBody_10 : decode cX17_readsBody 10 = .ok (.lconst 0, 1) := by decide +kernel
theorem V.dX17_readsBody_11 : decode cX17_readsBody 11 = .ok (.lstore 5, 2) := by decide +kernel
theorem V.dX17_readsBody_13 : decode cX17_readsBody 13 = .ok (.lconst 0, 1) := by decide +kernel
theorem V.dX17_readsBody_14 : decode cX17_readsBody 14 = .ok (.lstore 7, 2) := by decide +kernel
theorem V.dX17_readsBody_16 : decode cX17_readsBody 16 = .ok (.lload 7, 2) := by decide +kernel
theorem V.dX17_readsBody_18 : decode cX17_readsBody 18 = .ok (.lload_n 3, 1) := by decide +kernel
theorem V.dX17_readsBody_19 : decode cX17_readsBody 19 = .ok (.lcmp, 1) := by decide +kernel
theorem V.dX17_readsBody_20 : decode cX17_readsBody 20 = .ok (.ifCond .ge 27, 3) := by decide +kernel
theorem V.dX17_readsBody_23 : decode cX17_readsBody 23 = .ok (.lload 5, 2) := by decide +kernel
theorem V.dX17_readsBody_25 : decode cX17_readsBody 25 = .ok (.aload_n 0, 1) := by decide +kernel
theorem V.dX17_readsBody_26 : decode cX17_readsBody 26 = .ok (.invokevirtual 277, 3) := by decide +kernel
theorem V.dX17_readsBody_29 : decode cX17_readsBody 29 = .ok (.ladd, 1) := by decide +kernel
theorem V.dX17_readsBody_30 : decode cX17_readsBody 30 = .ok (.lstore 5, 2) := by decide +kernel
theorem V.dX17_readsBody_32 : decode cX17_readsBody 32 = .ok (.aload_n 0, 1) := by decide +kernel
theorem V.dX17_readsBody_33 : decode cX17_readsBody 33 = .ok (.invokevirtual 371, 3) := by decide +kernel
theorem V.dX17_readsBody_36 : decode cX17_readsBody 36 = .ok (.istore 9, 2) := by decide +kernel
theorem V.dX17_readsBody_38 : decode cX17_readsBody 38 = .ok (.lload 7, 2) := by decide +kernel
theorem V.dX17_readsBody_40 : decode cX17_readsBody 40 = .ok (.lconst 1, 1) := by decide +kernel
theorem V.dX17_readsBody_41 : decode cX17_readsBody 41 = .ok (.ladd, 1) := by decide +kernel
theorem V.dX17_readsBody_42 : decode cX17_readsBody 42 = .ok (.lstore 7, 2) := by decide +kernel
theorem V.dX17_readsBody_44 : decode cX17_readsBody 44 = .ok (.goto (-28), 3) := by decide +kernel
theorem V.dX17_readsBody_47 : decode cX17_readsBody 47 = .ok (.lload 5, 2) := by decide +kernel
theorem V.dX17_readsBody_49 : decode cX17_readsBody 49 = .ok (.ldc2_w 513, 3) := by decide +kernel
theorem V.dX17_readsBody_52 : decode cX17_readsBody 52 = .ok (.lcmp, 1) := by decide +kernel
theorem V.dX17_readsBody_53 : decode cX17_readsBody 53 = .ok (.ifCond .le 10, 3) := by decide +kernel
theorem V.dX17_readsBody_56 : decode cX17_readsBody 56 = .ok (.aload_n 0, 1) := by decide +kernel
theorem V.dX17_readsBody_57 : decode cX17_readsBody 57 = .ok (.bipush 12, 2) := by decide +kernel
theorem V.dX17_readsBody_59 : decode cX17_readsBody 59 = .ok (.iload_n 2, 1) := by decide +kernel
theorem V.dX17_readsBody_60 : decode cX17_readsBody 60 = .ok (.invokevirtual 257, 3) := by decide +kernel
theorem V.dX17_readsBody_63 : decode cX17_readsBody 63 = .ok (.aload_n 0, 1) := by decide +kernel
theorem V.dX17_readsBody_64 : decode cX17_readsBody 64 = .ok (.lload 5, 2) := by decide +kernel
theorem V.dX17_readsBody_66 : decode cX17_readsBody 66 = .ok (.ldc2_w 515, 3) := by decide +kernel
theorem V.dX17_readsBody_69 : decode cX17_readsBody 69 = .ok (.lcmp, 1) := by decide +kernel
theorem V.dX17_readsBody_70 : decode cX17_readsBody 70 = .ok (.ifCond .le 7, 3) := by decide +kernel
theorem V.dX17_readsBody_73 : decode cX17_readsBody 73 = .ok (.iconst 1, 1) := by decide +kernel
theorem V.dX17_readsBody_74 : decode cX17_readsBody 74 = .ok (.goto 4, 3) := by decide +kernel
theorem V.dX17_readsBody_77 : decode cX17_readsBody 77 = .ok (.iconst 0, 1) := by decide +kernel
theorem V.dX17_readsBody_78 : decode cX17_readsBody 78 = .ok (.invokevirtual 365, 3) := by decide +kernel
theorem V.dX17_readsBody_81 : decode cX17_readsBody 81 = .ok (.aload_n 0, 1) := by decide +kernel
theorem V.dX17_readsBody_82 : decode cX17_readsBody 82 = .ok (.getfield 221, 3) := by decide +kernel
theorem V.dX17_readsBody_85 : decode cX17_readsBody 85 = .ok (.getfield 517, 3) := by decide +kernel
theorem V.dX17_readsBody_88 : decode cX17_readsBody 88 = .ok (.iload_n 1, 1) := by decide +kernel
theorem V.dX17_readsBody_89 : decode cX17_readsBody 89 = .ok (.iload_n 2, 1) := by decide +kernel
theorem V.dX17_readsBody_90 : decode cX17_readsBody 90 = .ok (.iastore, 1) := by decide +kernel
theorem V.dX17_readsBody_91 : decode cX17_readsBody 91 = .ok (.aload_n 0, 1) := by decide +kernel
theorem V.dX17_readsBody_92 : decode cX17_readsBody 92 = .ok (.getfield 221, 3) := by decide +kernel
theorem V.dX17_readsBody_95 : decode cX17_readsBody 95 = .ok (.getfield 520, 3) := by decide +kernel
theorem V.dX17_readsBody_98 : decode cX17_readsBody 98 = .ok (.iload_n 1, 1) := by decide +kernel
theorem V.dX17_readsBody_99 : decode cX17_readsBody 99 = .ok (.lload 5, 2) := by decide +kernel
theorem V.dX17_readsBody_101 : decode cX17_readsBody 101 = .ok (.lastore, 1) := by decide +kernel
theorem V.dX17_readsBody_102 : decode cX17_readsBody 102 = .ok (.aload_n 0, 1) := by decide +kernel
theorem V.dX17_readsBody_103 : decode cX17_readsBody 103 = .ok (.getfield 221, 3) := by decide +kernel
theorem V.dX17_readsBody_106 : decode cX17_readsBody 106 = .ok (.getfield 523, 3) := by decide +kernel
theorem V.dX17_readsBody_109 : decode cX17_readsBody 109 = .ok (.iload_n 1, 1) := by decide +kernel
theorem V.dX17_readsBody_110 : decode cX17_readsBody 110 = .ok (.aload_n 0, 1) := by decide +kernel
theorem V.dX17_readsBody_111 : decode cX17_readsBody 111 = .ok (.getfield 251, 3) := by decide +kernel
theorem V.dX17_readsBody_114 : decode cX17_readsBody 114 = .ok (.iastore, 1) := by decide +kernel
theorem V.dX17_readsBody_115 : decode cX17_readsBody 115 = .ok (.aload_n 0, 1) := by decide +kernel
theorem V.dX17_readsBody_116 : decode cX17_readsBody 116 = .ok (.iconst 1, 1) := by decide +kernel
theorem V.dX17_readsBody_117 : decode cX17_readsBody 117 = .ok (.invokevirtual 456, 3) := by decide +kernel
theorem V.dX17_readsBody_120 : decode cX17_readsBody 120 = .ok (.aload_n 0, 1) := by decide +kernel
theorem V.dX17_readsBody_121 : decode cX17_readsBody 121 = .ok (.getfield 221, 3) := by decide +kernel
theorem V.dX17_readsBody_124 : decode cX17_readsBody 124 = .ok (.getfield 526, 3) := by decide +kernel
theorem V.dX17_readsBody_127 : decode cX17_readsBody 127 = .ok (.iload_n 1, 1) := by decide +kernel
theorem V.dX17_readsBody_128 : decode cX17_readsBody 128 = .ok (.aload_n 0, 1) := by decide +kernel
theorem V.dX17_readsBody_129 : decode cX17_readsBody 129 = .ok (.getfield 251, 3) := by decide +kernel
theorem V.dX17_readsBody_132 : decode cX17_readsBody 132 = .ok (.iconst 1, 1) := by decide +kernel
theorem V.dX17_readsBody_133 : decode cX17_readsBody 133 = .ok (.isub, 1) := by decide +kernel
theorem V.dX17_readsBody_134 : decode cX17_readsBody 134 = .ok (.iastore, 1) := by decide +kernel
theorem V.dX17_readsBody_135 : decode cX17_readsBody 135 = .ok (.return_, 1) := by decide +kernel
theorem V.fdX17_517 : FD RX17 517 20 51 2 := ⟨(RX20, TX20, 58), tyX20, rfl, rfl, in_X20, by decide, Or.inr ⟨_, q3462⟩, rfl⟩
theorem V.fdX17_520 : FD RX17 520 20 52 2 := ⟨(RX20, TX20, 58), tyX20, rfl, rfl, in_X20, by decide, Or.inr ⟨_, q3464⟩, rfl⟩
theorem V.fdX17_523 : FD RX17 523 20 53 2 := ⟨(RX20, TX20, 58), tyX20, rfl, rfl, in_X20, by decide, Or.inr ⟨_, q3466⟩, rfl⟩
theorem V.fdX17_526 : FD RX17 526 20 54 2 := ⟨(RX20, TX20, 58), tyX20, rfl, rfl, in_X20, by decide, Or.inr ⟨_, q3468⟩, rfl⟩
/-! ModuleEngineModel.readsBody(I)V -/
def V.Mdl_readsBody_p78  (σ : HS) (x0 : Nat) (x1 : Int32) (x2 : Int32) (x5 : Int64) (s0 : Int32) (s1 : Nat) : Option ((Nat ⊕ Unit) × HS) :=
  ck (tg σ s1 = 18) <| cl (Mdl_exceeds σ s1 s0) fun _ σ1 =>
  ck (tg σ1 x0 = 18) <|
  ck (tg σ1 (gR σ1 x0 10) = 21) <|
  ck (tg σ1 (gR σ1 (gR σ1 x0 10) 51) = 100 ∧ inb x1 (ln σ1 (gR σ1 (gR σ1 x0 10) 51))) <| bn (sI σ1 (gR σ1 (gR σ1 x0 10) 51) (ix x1) x2) fun σ2 =>
  ck (tg σ2 x0 = 18) <|
  ck (tg σ2 (gR σ2 x0 10) = 21) <|
  ck (tg σ2 (gR σ2 (gR σ2 x0 10) 52) = 101 ∧ inb x1 (ln σ2 (gR σ2 (gR σ2 x0 10) 52))) <| bn (sJ σ2 (gR σ2 (gR σ2 x0 10) 52) (ix x1) x5) fun σ3 =>
  ck (tg σ3 x0 = 18) <|
  ck (tg σ3 (gR σ3 x0 10) = 21) <|
  ck (tg σ3 x0 = 18) <|
  ck (tg σ3 (gR σ3 (gR σ3 x0 10) 53) = 100 ∧ inb x1 (ln σ3 (gR σ3 (gR σ3 x0 10) 53))) <| bn (sI σ3 (gR σ3 (gR σ3 x0 10) 53) (ix x1) (gI σ3 x0 11)) fun σ4 =>
  ck (tg σ4 x0 = 18) <| clT (Mdl_expression σ4 x0 (1 : Int32)) fun _ σ5 =>
  ck (tg σ5 x0 = 18) <|
  ck (tg σ5 (gR σ5 x0 10) = 21) <|
  ck (tg σ5 x0 = 18) <|
  ck (tg σ5 (gR σ5 (gR σ5 x0 10) 54) = 100 ∧ inb x1 (ln σ5 (gR σ5 (gR σ5 x0 10) 54))) <| bn (sI σ5 (gR σ5 (gR σ5 x0 10) 54) (ix x1) ((gI σ5 x0 11) - (1 : Int32))) fun σ6 =>
  some (.inr (), σ6)
theorem V.gX17_readsBody_p78 {X : CX}  (σ : HS) (x0 : Nat) (x1 : Int32) (x2 : Int32) (x5 : Int64) (s0 : Int32) (s1 : Nat) : G X RX17 "readsBody" cX17_readsBody 10 none 6 144 (enX enV (cxz X)) 78 [(0, av x0), (1, iv x1), (2, iv x2), (5, jv x5)] [iv s0, av s1] σ (Mdl_readsBody_p78 σ x0 x1 x2 x5 s0 s1) := by
  unfold Mdl_readsBody_p78
  refine g_callV (fc := fun sς => Mdl_exceeds sς s1 s0) (ci := 17) (as := [iv s0]) rfl rfl rfl q3648 qs221 mdX17_365 (ctX17_exceeds s1 s0) rfl (Nat.le_of_ble_eq_true rfl) (Nat.le_of_ble_eq_true rfl) (Nat.le_of_ble_eq_true rfl) pu_V dX17_readsBody_78 (fun _ σ1 => ?_)
  refine g_aload_n 0 0 dX17_readsBody_81 rfl rfl ?_
  refine g_getR fdX17_221 dX17_readsBody_82 ?_
  refine g_getR fdX17_517 dX17_readsBody_85 ?_
  refine g_iload_n 1 1 dX17_readsBody_88 rfl rfl ?_
  refine g_iload_n 2 2 dX17_readsBody_89 rfl rfl ?_
  refine g_iastore dX17_readsBody_90 (fun σ2 => ?_)
  refine g_aload_n 0 0 dX17_readsBody_91 rfl rfl ?_
  refine g_getR fdX17_221 dX17_readsBody_92 ?_
  refine g_getR fdX17_520 dX17_readsBody_95 ?_
  refine g_iload_n 1 1 dX17_readsBody_98 rfl rfl ?_
  refine g_lload 3 dX17_readsBody_99 rfl ?_
  refine g_lastore dX17_readsBody_101 (fun σ3 => ?_)
  refine g_aload_n 0 0 dX17_readsBody_102 rfl rfl ?_
  refine g_getR fdX17_221 dX17_readsBody_103 ?_
  refine g_getR fdX17_523 dX17_readsBody_106 ?_
  refine g_iload_n 1 1 dX17_readsBody_109 rfl rfl ?_
  refine g_aload_n 0 0 dX17_readsBody_110 rfl rfl ?_
  refine g_getI fdX17_251 dX17_readsBody_111 ?_
  refine g_iastore dX17_readsBody_114 (fun σ4 => ?_)
  refine g_aload_n 0 0 dX17_readsBody_115 rfl rfl ?_
  refine g_iconst (v := 1) dX17_readsBody_116 (by decide) ?_
  refine g_callVT (fc := fun sς => Mdl_expression sς x0 (1 : Int32)) (ci := 17) (as := [iv (1 : Int32)]) rfl rfl rfl q3700 qs232 q3698 mdX17_456 (ctX17_expression x0 (1 : Int32)) rfl (Nat.le_of_ble_eq_true rfl) (Nat.le_of_ble_eq_true rfl) (Nat.le_of_ble_eq_true rfl) pu_V (by decide) dX17_readsBody_117 (fun _ σ5 => ?_)
  refine g_aload_n 0 0 dX17_readsBody_120 rfl rfl ?_
  refine g_getR fdX17_221 dX17_readsBody_121 ?_
  refine g_getR fdX17_526 dX17_readsBody_124 ?_
  refine g_iload_n 1 1 dX17_readsBody_127 rfl rfl ?_
  refine g_aload_n 0 0 dX17_readsBody_128 rfl rfl ?_
  refine g_getI fdX17_251 dX17_readsBody_129 ?_
  refine g_iconst (v := 1) dX17_readsBody_132 (by decide) ?_
  refine g_isub dX17_readsBody_133 ?_
  refine g_iastore dX17_readsBody_134 (fun σ6 => ?_)
  exact g_return rfl dX17_readsBody_135
def V.Mdl_readsBody_p63  (σ : HS) (x0 : Nat) (x1 : Int32) (x2 : Int32) (x5 : Int64) : Option ((Nat ⊕ Unit) × HS) :=
  if x5 ≤ (1000 : Int64) then (
    Mdl_readsBody_p78 σ x0 x1 x2 x5 (0 : Int32) x0)
  else (
    Mdl_readsBody_p78 σ x0 x1 x2 x5 (1 : Int32) x0)
theorem V.gX17_readsBody_p63 {X : CX}  (σ : HS) (x0 : Nat) (x1 : Int32) (x2 : Int32) (x5 : Int64) : G X RX17 "readsBody" cX17_readsBody 10 none 6 144 (enX enV (cxz X)) 63 [(0, av x0), (1, iv x1), (2, iv x2), (5, jv x5)] [] σ (Mdl_readsBody_p63 σ x0 x1 x2 x5) := by
  unfold Mdl_readsBody_p63
  refine g_aload_n 0 0 dX17_readsBody_63 rfl rfl ?_
  refine g_lload 3 dX17_readsBody_64 rfl ?_
  refine g_ldc2 q3757 dX17_readsBody_66 ?_
  refine g_lcmp_le 77 dX17_readsBody_69 dX17_readsBody_70 (by decide) ?_ ?_
  · refine g_iconst (v := 0) dX17_readsBody_77 (by decide) ?_
    exact gX17_readsBody_p78 _ _ _ _ _ _ _
  · refine g_iconst (v := 1) dX17_readsBody_73 (by decide) ?_
    refine g_goto 78 dX17_readsBody_74 (by decide) ?_
    exact gX17_readsBody_p78 _ _ _ _ _ _ _
def V.Mdl_readsBody_p16  : Nat → HS → Nat → Int32 → Int32 → Int64 → Int64 → Int64 → Option ((Nat ⊕ Unit) × HS)
  | 0, _, _, _, _, _, _, _ => none
  | n + 1, σ, x0, x1, x2, x3, x5, x7 =>
    if x3 ≤ x7 then (
      if x5 ≤ (4294967295 : Int64) then (
        Mdl_readsBody_p63 σ x0 x1 x2 x5)
      else (
        ck (tg σ x0 = 18) <| clT (Mdl_stops σ x0 (12 : Int32) x2) fun _ σ1 =>
        Mdl_readsBody_p63 σ1 x0 x1 x2 x5))
    else (
      ck (tg σ x0 = 18) <| clT (Mdl_number σ x0 ) fun r3 σ2 =>
      bn (x5 + r3) fun y4 =>
      ck (tg σ2 x0 = 18) <| clT (Mdl_type σ2 x0 ) fun r6 σ5 =>
      bn (x7 + (1 : Int64)) fun y7 =>
      Mdl_readsBody_p16 n σ5 x0 x1 x2 x3 y4 y7)
theorem V.gX17_readsBody_p16 {X : CX}  : ∀ (n : Nat) (σ : HS) (x0 : Nat) (x1 : Int32) (x2 : Int32) (x3 : Int64) (x5 : Int64) (x7 : Int64), G X RX17 "readsBody" cX17_readsBody 10 none 6 144 (enX enV (cxz X)) 16 [(0, av x0), (1, iv x1), (2, iv x2), (3, jv x3), (5, jv x5), (7, jv x7)] [] σ (Mdl_readsBody_p16 n σ x0 x1 x2 x3 x5 x7)
  | 0, σ, x0, x1, x2, x3, x5, x7 => by rw [Mdl_readsBody_p16]; exact G.nul
  | n + 1, σ, x0, x1, x2, x3, x5, x7 => by
    rw [Mdl_readsBody_p16]
    refine g_lload 5 dX17_readsBody_16 rfl ?_
    refine g_lload_n 3 3 dX17_readsBody_18 rfl rfl ?_
    refine g_lcmp_ge 47 dX17_readsBody_19 dX17_readsBody_20 (by decide) ?_ ?_
    · refine g_lload 4 dX17_readsBody_47 rfl ?_
      refine g_ldc2 q3756 dX17_readsBody_49 ?_
      refine g_lcmp_le 63 dX17_readsBody_52 dX17_readsBody_53 (by decide) ?_ ?_
      · refine G.sub [0, 1, 2, 4] rfl ?_
        exact gX17_readsBody_p63 _ _ _ _ _
      · refine g_aload_n 0 0 dX17_readsBody_56 rfl rfl ?_
        refine g_bipush (v := 12) dX17_readsBody_57 (by decide) ?_
        refine g_iload_n 2 2 dX17_readsBody_59 rfl rfl ?_
        refine g_callVT (fc := fun sς => Mdl_stops sς x0 (12 : Int32) x2) (ci := 17) (as := [iv (12 : Int32), iv x2]) rfl rfl rfl q3606 qs214 q3604 mdX17_257 (ctX17_stops x0 (12 : Int32) x2) rfl (Nat.le_of_ble_eq_true rfl) (Nat.le_of_ble_eq_true rfl) (Nat.le_of_ble_eq_true rfl) pu_V (by decide) dX17_readsBody_60 (fun _ σ1 => ?_)
        refine G.sub [0, 1, 2, 4] rfl ?_
        exact gX17_readsBody_p63 _ _ _ _ _
    · refine g_lload 4 dX17_readsBody_23 rfl ?_
      refine g_aload_n 0 0 dX17_readsBody_25 rfl rfl ?_
      refine g_callVT (fc := fun sς => Mdl_number sς x0 ) (ci := 17) (as := []) rfl rfl rfl q3619 qs215 q3617 mdX17_277 (ctX17_number x0 ) rfl (Nat.le_of_ble_eq_true rfl) (Nat.le_of_ble_eq_true rfl) (Nat.le_of_ble_eq_true rfl) pu_J (by decide) dX17_readsBody_26 (fun r3 σ2 => ?_)
      refine g_ladd dX17_readsBody_29 ?_
      refine g_nmJ (fun y4 => ?_)
      refine g_lstore dX17_readsBody_30 (by decide) rfl ?_
      refine g_aload_n 0 1 dX17_readsBody_32 rfl rfl ?_
      refine g_callVT (fc := fun sς => Mdl_type sς x0 ) (ci := 17) (as := []) rfl rfl rfl q3657 qs223 q3655 mdX17_371 (ctX17_type x0 ) rfl (Nat.le_of_ble_eq_true rfl) (Nat.le_of_ble_eq_true rfl) (Nat.le_of_ble_eq_true rfl) pu_I (by decide) dX17_readsBody_33 (fun r6 σ5 => ?_)
      refine g_istore dX17_readsBody_36 (by decide) rfl ?_
      refine g_lload 6 dX17_readsBody_38 rfl ?_
      refine g_lconst (v := 1) dX17_readsBody_40 (by decide) ?_
      refine g_ladd dX17_readsBody_41 ?_
      refine g_nmJ (fun y7 => ?_)
      refine g_lstore dX17_readsBody_42 (by decide) rfl ?_
      refine g_goto 16 dX17_readsBody_44 (by decide) ?_
      refine G.sub [3, 4, 5, 6, 2, 0] rfl ?_
      exact gX17_readsBody_p16 n _ _ _ _ _ _ _
def V.Mdl_readsBody (σ : HS) (x0 : Nat) (x1 : Int32) : Option ((Nat ⊕ Unit) × HS) :=
  ck (tg σ x0 = 18) <|
  bn (gI σ x0 11) fun y1 =>
  ck (tg σ x0 = 18) <| clT (Mdl_number σ x0 ) fun r3 σ2 =>
  Mdl_readsBody_p16 FU σ2 x0 x1 y1 r3 (0 : Int64) (0 : Int64)
theorem V.ctX17_readsBody (x0 : Nat) (x1 : Int32) : Ct yX17_readsBody  cX17_readsBody 10 none 6 144 eXV [av x0, iv x1] (fun σ => Mdl_readsBody σ x0 x1) := by
  refine Ct.of (own := RX17) (nm := "readsBody") (desc := "(I)V") rfl (by decide) (Nat.le_of_ble_eq_true rfl) (by decide) (fun X σ => ?_)
  show G X RX17 "readsBody" cX17_readsBody 10 none 6 144 (enX enV (cxz X)) 0 [(0, av x0), (1, iv x1)] [] σ (Mdl_readsBody σ x0 x1)
  unfold Mdl_readsBody
  refine g_aload_n 0 0 dX17_readsBody_0 rfl rfl ?_
  refine g_getI fdX17_251 dX17_readsBody_1 ?_
  refine g_nmI (fun y1 => ?_)
  refine g_istore_n 2 dX17_readsBody_4 rfl (by decide) rfl ?_
  refine g_aload_n 0 1 dX17_readsBody_5 rfl rfl ?_
  refine g_callVT (fc := fun sς => Mdl_number sς x0 ) (ci := 17) (as := []) rfl rfl rfl q3619 qs215 q3617 mdX17_277 (ctX17_number x0 ) rfl (Nat.le_of_ble_eq_true rfl) (Nat.le_of_ble_eq_true rfl) (Nat.le_of_ble_eq_true rfl) pu_J (by decide) dX17_readsBody_6 (fun r3 σ2 => ?_)
  refine g_lstore_n 3 dX17_readsBody_9 rfl (by decide) rfl ?_
  refine g_lconst (v := 0) dX17_readsBody_10 (by decide) ?_
  refine g_lstore dX17_readsBody_11 (by decide) rfl ?_
  refine g_lconst (v := 0) dX17_readsBody_13 (by decide) ?_
  refine g_lstore dX17_readsBody_14 (by decide) rfl ?_
  refine G.sub [4, 5, 3, 2, 1, 0] rfl ?_
  exact gX17_readsBody_p16 FU _ _ _ _ _ _ _
theorem V.dX17_readsBodies_0 : decode cX17_readsBodies 0 = .ok (.aload_n 0, 1) := by decide +kernel
theorem V.dX17_readsBodies_1 : decode cX17_readsBodies 1 = .ok (.invokevirtual 277, 3) := by decide +kernel
theorem V.dX17_readsBodies_4 : decode cX17_readsBodies 4 = .ok (.lstore_n 1, 1) := by decide +kernel
theorem V.dX17_readsBodies_5 : decode cX17_readsBodies 5 = .ok (.aload_n 0, 1) := by decide +kernel
theorem V.dX17_readsBodies_6 : decode cX17_readsBodies 6 = .ok (.getfield 221, 3) := by decide +kernel
theorem V.dX17_readsBodies_9 : decode cX17_readsBodies 9 = .ok (.lload_n 1, 1) := by decide +kernel
theorem V.dX17_readsBodies_10 : decode cX17_readsBodies 10 = .ok (.putfield 315, 3) := by decide +kernel
theorem V.dX17_readsBodies_13 : decode cX17_readsBodies 13 = .ok (.lconst 0, 1) := by decide +kernel
theorem V.dX17_readsBodies_14 : decode cX17_readsBodies 14 = .ok (.lstore_n 3, 1) := by decide +kernel
theorem V.dX17_readsBodies_15 : decode cX17_readsBodies 15 = .ok (.lload_n 3, 1) := by decide +kernel
theorem V.dX17_readsBodies_16 : decode cX17_readsBodies 16 = .ok (.lload_n 1, 1) := by decide +kernel
theorem V.dX17_readsBodies_17 : decode cX17_readsBodies 17 = .ok (.lcmp, 1) := by decide +kernel
theorem V.dX17_readsBodies_18 : decode cX17_readsBodies 18 = .ok (.ifCond .ge 108, 3) := by decide +kernel
theorem V.dX17_readsBodies_21 : decode cX17_readsBodies 21 = .ok (.aload_n 0, 1) := by decide +kernel
theorem V.dX17_readsBodies_22 : decode cX17_readsBodies 22 = .ok (.getfield 251, 3) := by decide +kernel
theorem V.dX17_readsBodies_25 : decode cX17_readsBodies 25 = .ok (.istore 5, 2) := by decide +kernel
theorem V.dX17_readsBodies_27 : decode cX17_readsBodies 27 = .ok (.aload_n 0, 1) := by decide +kernel
theorem V.dX17_readsBodies_28 : decode cX17_readsBodies 28 = .ok (.invokevirtual 277, 3) := by decide +kernel
theorem V.dX17_readsBodies_31 : decode cX17_readsBodies 31 = .ok (.lstore 6, 2) := by decide +kernel
theorem V.dX17_readsBodies_33 : decode cX17_readsBodies 33 = .ok (.lload 6, 2) := by decide +kernel
theorem V.dX17_readsBodies_35 : decode cX17_readsBodies 35 = .ok (.aload_n 0, 1) := by decide +kernel
theorem V.dX17_readsBodies_36 : decode cX17_readsBodies 36 = .ok (.getfield 254, 3) := by decide +kernel
theorem V.dX17_readsBodies_39 : decode cX17_readsBodies 39 = .ok (.aload_n 0, 1) := by decide +kernel
theorem V.dX17_readsBodies_40 : decode cX17_readsBodies 40 = .ok (.getfield 251, 3) := by decide +kernel
theorem V.dX17_readsBodies_43 : decode cX17_readsBodies 43 = .ok (.isub, 1) := by decide +kernel
theorem V.dX17_readsBodies_44 : decode cX17_readsBodies 44 = .ok (.i2l, 1) := by decide +kernel
theorem V.dX17_readsBodies_45 : decode cX17_readsBodies 45 = .ok (.lcmp, 1) := by decide +kernel
theorem V.dX17_readsBodies_46 : decode cX17_readsBodies 46 = .ok (.ifCond .le 10, 3) := by decide +kernel
theorem V.dX17_readsBodies_49 : decode cX17_readsBodies 49 = .ok (.aload_n 0, 1) := by decide +kernel
theorem V.dX17_readsBodies_50 : decode cX17_readsBodies 50 = .ok (.iconst 2, 1) := by decide +kernel
theorem V.dX17_readsBodies_51 : decode cX17_readsBodies 51 = .ok (.iload 5, 2) := by decide +kernel
theorem V.dX17_readsBodies_53 : decode cX17_readsBodies 53 = .ok (.invokevirtual 257, 3) := by decide +kernel
theorem V.dX17_readsBodies_56 : decode cX17_readsBodies 56 = .ok (.aload_n 0, 1) := by decide +kernel
theorem V.dX17_readsBodies_57 : decode cX17_readsBodies 57 = .ok (.getfield 254, 3) := by decide +kernel
theorem V.dX17_readsBodies_60 : decode cX17_readsBodies 60 = .ok (.istore 8, 2) := by decide +kernel
theorem V.dX17_readsBodies_62 : decode cX17_readsBodies 62 = .ok (.aload_n 0, 1) := by decide +kernel
theorem V.dX17_readsBodies_63 : decode cX17_readsBodies 63 = .ok (.aload_n 0, 1) := by decide +kernel
theorem V.dX17_readsBodies_64 : decode cX17_readsBodies 64 = .ok (.getfield 251, 3) := by decide +kernel
theorem V.dX17_readsBodies_67 : decode cX17_readsBodies 67 = .ok (.lload 6, 2) := by decide +kernel
theorem V.dX17_readsBodies_69 : decode cX17_readsBodies 69 = .ok (.l2i, 1) := by decide +kernel
theorem V.dX17_readsBodies_70 : decode cX17_readsBodies 70 = .ok (.iadd, 1) := by decide +kernel
theorem V.dX17_readsBodies_71 : decode cX17_readsBodies 71 = .ok (.putfield 254, 3) := by decide +kernel
theorem V.dX17_readsBodies_74 : decode cX17_readsBodies 74 = .ok (.aload_n 0, 1) := by decide +kernel
theorem V.dX17_readsBodies_75 : decode cX17_readsBodies 75 = .ok (.lload_n 3, 1) := by decide +kernel
theorem V.dX17_readsBodies_76 : decode cX17_readsBodies 76 = .ok (.ldc2_w 363, 3) := by decide +kernel
theorem V.dX17_readsBodies_79 : decode cX17_readsBodies 79 = .ok (.lcmp, 1) := by decide +kernel
theorem V.dX17_readsBodies_80 : decode cX17_readsBodies 80 = .ok (.ifCond .ge 8, 3) := by decide +kernel
theorem V.dX17_readsBodies_83 : decode cX17_readsBodies 83 = .ok (.lload_n 3, 1) := by decide +kernel
theorem V.dX17_readsBodies_84 : decode cX17_readsBodies 84 = .ok (.l2i, 1) := by decide +kernel
theorem V.dX17_readsBodies_85 : decode cX17_readsBodies 85 = .ok (.goto 5, 3) := by decide +kernel
theorem V.dX17_readsBodies_88 : decode cX17_readsBodies 88 = .ok (.bipush 63, 2) := by decide +kernel
theorem V.dX17_readsBodies_90 : decode cX17_readsBodies 90 = .ok (.invokevirtual 510, 3) := by decide +kernel
theorem V.dX17_readsBodies_93 : decode cX17_readsBodies 93 = .ok (.aload_n 0, 1) := by decide +kernel
theorem V.dX17_readsBodies_94 : decode cX17_readsBodies 94 = .ok (.getfield 251, 3) := by decide +kernel
theorem V.dX17_readsBodies_97 : decode cX17_readsBodies 97 = .ok (.aload_n 0, 1) := by decide +kernel
theorem V.dX17_readsBodies_98 : decode cX17_readsBodies 98 = .ok (.getfield 254, 3) := by decide +kernel
theorem V.dX17_readsBodies_101 : decode cX17_readsBodies 101 = .ok (.if_icmp .ge 12, 3) := by decide +kernel
theorem V.dX17_readsBodies_104 : decode cX17_readsBodies 104 = .ok (.aload_n 0, 1) := by decide +kernel
theorem V.dX17_readsBodies_105 : decode cX17_readsBodies 105 = .ok (.iconst 3, 1) := by decide +kernel
theorem V.dX17_readsBodies_106 : decode cX17_readsBodies 106 = .ok (.aload_n 0, 1) := by decide +kernel
theorem V.dX17_readsBodies_107 : decode cX17_readsBodies 107 = .ok (.getfield 251, 3) := by decide +kernel
theorem V.dX17_readsBodies_110 : decode cX17_readsBodies 110 = .ok (.invokevirtual 257, 3) := by decide +kernel
theorem V.dX17_readsBodies_113 : decode cX17_readsBodies 113 = .ok (.aload_n 0, 1) := by decide +kernel
theorem V.dX17_readsBodies_114 : decode cX17_readsBodies 114 = .ok (.iload 8, 2) := by decide +kernel
theorem V.dX17_readsBodies_116 : decode cX17_readsBodies 116 = .ok (.putfield 254, 3) := by decide +kernel
theorem V.dX17_readsBodies_119 : decode cX17_readsBodies 119 = .ok (.lload_n 3, 1) := by decide +kernel
theorem V.dX17_readsBodies_120 : decode cX17_readsBodies 120 = .ok (.lconst 1, 1) := by decide +kernel
theorem V.dX17_readsBodies_121 : decode cX17_readsBodies 121 = .ok (.ladd, 1) := by decide +kernel
theorem V.dX17_readsBodies_122 : decode cX17_readsBodies 122 = .ok (.lstore_n 3, 1) := by decide +kernel
theorem V.dX17_readsBodies_123 : decode cX17_readsBodies 123 = .ok (.goto (-108), 3) := by decide +kernel
theorem V.dX17_readsBodies_126 : decode cX17_readsBodies 126 = .ok (.return_, 1) := by decide +kernel
theorem V.fpX17_315 {nm : String} : FP RX17 nm 315 20 50 (.long) := ⟨(RX20, TX20, 58), tyX20, rfl, rfl, in_X20, by decide, tyX20_ok, nmX20, rfl, Or.inl ⟨rfl, Or.inr ⟨_, q3460⟩⟩⟩
theorem V.fpX17_254 {nm : String} : FP RX17 nm 254 17 12 (.int) := ⟨(RX17, TX17, 101), tyX17, rfl, rfl, in_X17, by decide, tyX17_ok, nmX17, rfl, Or.inl ⟨rfl, Or.inl q3048⟩⟩
theorem V.mdX17_510 : MD RX17 510 yX17_readsBody cX17_readsBody 10 none 1 := ⟨Or.inl q3752, q377, q3755, by decide, by decide, by decide +kernel⟩
/-! ModuleEngineModel.readsBodies()V -/
def V.Mdl_readsBodies_p113 (rec15 : HS → Nat → Int64 → Int64 → Option ((Nat ⊕ Unit) × HS)) (σ : HS) (x0 : Nat) (x1 : Int64) (x3 : Int64) (x8 : Int32) : Option ((Nat ⊕ Unit) × HS) :=
  ck (tg σ x0 = 18) <| bn (sI σ x0 12 x8) fun σ1 =>
  bn (x3 + (1 : Int64)) fun y2 =>
  rec15 σ1 x0 x1 y2
theorem V.gX17_readsBodies_p113 {X : CX} (rec15 : HS → Nat → Int64 → Int64 → Option ((Nat ⊕ Unit) × HS)) (hrec15 : ∀ (σ : HS) (x0 : Nat) (x1 : Int64) (x3 : Int64), G X RX17 "readsBodies" cX17_readsBodies 9 none 7 173 (enX enV (cxz X)) 15 [(0, av x0), (1, jv x1), (3, jv x3)] [] σ (rec15 σ x0 x1 x3)) (σ : HS) (x0 : Nat) (x1 : Int64) (x3 : Int64) (x8 : Int32) : G X RX17 "readsBodies" cX17_readsBodies 9 none 7 173 (enX enV (cxz X)) 113 [(0, av x0), (1, jv x1), (3, jv x3), (8, iv x8)] [] σ (Mdl_readsBodies_p113 rec15 σ x0 x1 x3 x8) := by
  unfold Mdl_readsBodies_p113
  refine g_aload_n 0 0 dX17_readsBodies_113 rfl rfl ?_
  refine g_iload 3 dX17_readsBodies_114 rfl ?_
  refine g_putI fpX17_254 dX17_readsBodies_116 (fun σ1 => ?_)
  refine g_lload_n 3 2 dX17_readsBodies_119 rfl rfl ?_
  refine g_lconst (v := 1) dX17_readsBodies_120 (by decide) ?_
  refine g_ladd dX17_readsBodies_121 ?_
  refine g_nmJ (fun y2 => ?_)
  refine g_lstore_n 3 dX17_readsBodies_122 rfl (by decide) rfl ?_
  refine g_goto 15 dX17_readsBodies_123 (by decide) ?_
  refine G.sub [1, 2, 0] rfl ?_
  exact hrec15 _ _ _ _
def V.Mdl_readsBodies_p90 (rec15 : HS → Nat → Int64 → Int64 → Option ((Nat ⊕ Unit) × HS)) (σ : HS) (x0 : Nat) (x1 : Int64) (x3 : Int64) (x8 : Int32) (s0 : Int32) (s1 : Nat) : Option ((Nat ⊕ Unit) × HS) :=
  ck (tg σ s1 = 18) <| clT (Mdl_readsBody σ s1 s0) fun _ σ1 =>
  ck (tg σ1 x0 = 18) <|
  ck (tg σ1 x0 = 18) <|
  if (gI σ1 x0 12) ≤ (gI σ1 x0 11) then (
    Mdl_readsBodies_p113 rec15 σ1 x0 x1 x3 x8)
  else (
    ck (tg σ1 x0 = 18) <|
    ck (tg σ1 x0 = 18) <| clT (Mdl_stops σ1 x0 (3 : Int32) (gI σ1 x0 11)) fun _ σ2 =>
    Mdl_readsBodies_p113 rec15 σ2 x0 x1 x3 x8)
theorem V.gX17_readsBodies_p90 {X : CX} (rec15 : HS → Nat → Int64 → Int64 → Option ((Nat ⊕ Unit) × HS)) (hrec15 : ∀ (σ : HS) (x0 : Nat) (x1 : Int64) (x3 : Int64), G X RX17 "readsBodies" cX17_readsBodies 9 none 7 173 (enX enV (cxz X)) 15 [(0, av x0), (1, jv x1), (3, jv x3)] [] σ (rec15 σ x0 x1 x3)) (σ : HS) (x0 : Nat) (x1 : Int64) (x3 : Int64) (x8 : Int32) (s0 : Int32) (s1 : Nat) : G X RX17 "readsBodies" cX17_readsBodies 9 none 7 173 (enX enV (cxz X)) 90 [(0, av x0), (1, jv x1), (3, jv x3), (8, iv x8)] [iv s0, av s1] σ (Mdl_readsBodies_p90 rec15 σ x0 x1 x3 x8 s0 s1) := by
  unfold Mdl_readsBodies_p90
  refine g_callVT (fc := fun sς => Mdl_readsBody sς s1 s0) (ci := 17) (as := [iv s0]) rfl rfl rfl q3754 qs241 q3752 mdX17_510 (ctX17_readsBody s1 s0) rfl (Nat.le_of_ble_eq_true rfl) (Nat.le_of_ble_eq_true rfl) (Nat.le_of_ble_eq_true rfl) pu_V (by decide) dX17_readsBodies_90 (fun _ σ1 => ?_)
  refine g_aload_n 0 0 dX17_readsBodies_93 rfl rfl ?_
  refine g_getI fdX17_251 dX17_readsBodies_94 ?_
  refine g_aload_n 0 0 dX17_readsBodies_97 rfl rfl ?_
  refine g_getI fdX17_254 dX17_readsBodies_98 ?_
  refine g_icmp_ge 113 dX17_readsBodies_101 (by decide) ?_ ?_
  · exact gX17_readsBodies_p113 rec15 hrec15 _ _ _ _ _
  · refine g_aload_n 0 0 dX17_readsBodies_104 rfl rfl ?_
    refine g_iconst (v := 3) dX17_readsBodies_105 (by decide) ?_
    refine g_aload_n 0 0 dX17_readsBodies_106 rfl rfl ?_
    refine g_getI fdX17_251 dX17_readsBodies_107 ?_
    refine g_callVT (fc := fun sς => Mdl_stops sς x0 (3 : Int32) (gI σ1 x0 11)) (ci := 17) (as := [iv (3 : Int32), iv (gI σ1 x0 11)]) rfl rfl rfl q3606 qs214 q3604 mdX17_257 (ctX17_stops x0 (3 : Int32) (gI σ1 x0 11)) rfl (Nat.le_of_ble_eq_true rfl) (Nat.le_of_ble_eq_true rfl) (Nat.le_of_ble_eq_true rfl) pu_V (by decide) dX17_readsBodies_110 (fun _ σ2 => ?_)
    exact gX17_readsBodies_p113 rec15 hrec15 _ _ _ _ _
def V.Mdl_readsBodies_p56 (rec15 : HS → Nat → Int64 → Int64 → Option ((Nat ⊕ Unit) × HS)) (σ : HS) (x0 : Nat) (x1 : Int64) (x3 : Int64) (x6 : Int64) : Option ((Nat ⊕ Unit) × HS) :=
  ck (tg σ x0 = 18) <|
  bn (gI σ x0 12) fun y1 =>
  ck (tg σ x0 = 18) <|
  ck (tg σ x0 = 18) <| bn (sI σ x0 12 ((gI σ x0 11) + x6.toInt32)) fun σ2 =>
  if (64 : Int64) ≤ x3 then (
    Mdl_readsBodies_p90 rec15 σ2 x0 x1 x3 y1 (63 : Int32) x0)
  else (
    Mdl_readsBodies_p90 rec15 σ2 x0 x1 x3 y1 x3.toInt32 x0)
theorem V.gX17_readsBodies_p56 {X : CX} (rec15 : HS → Nat → Int64 → Int64 → Option ((Nat ⊕ Unit) × HS)) (hrec15 : ∀ (σ : HS) (x0 : Nat) (x1 : Int64) (x3 : Int64), G X RX17 "readsBodies" cX17_readsBodies 9 none 7 173 (enX enV (cxz X)) 15 [(0, av x0), (1, jv x1), (3, jv x3)] [] σ (rec15 σ x0 x1 x3)) (σ : HS) (x0 : Nat) (x1 : Int64) (x3 : Int64) (x6 : Int64) : G X RX17 "readsBodies" cX17_readsBodies 9 none 7 173 (enX enV (cxz X)) 56 [(0, av x0), (1, jv x1), (3, jv x3), (6, jv x6)] [] σ (Mdl_readsBodies_p56 rec15 σ x0 x1 x3 x6) := by
  unfold Mdl_readsBodies_p56
  refine g_aload_n 0 0 dX17_readsBodies_56 rfl rfl ?_
  refine g_getI fdX17_254 dX17_readsBodies_57 ?_
  refine g_nmI (fun y1 => ?_)
  refine g_istore dX17_readsBodies_60 (by decide) rfl ?_
  refine g_aload_n 0 1 dX17_readsBodies_62 rfl rfl ?_
  refine g_aload_n 0 1 dX17_readsBodies_63 rfl rfl ?_
  refine g_getI fdX17_251 dX17_readsBodies_64 ?_
  refine g_lload 4 dX17_readsBodies_67 rfl ?_
  refine g_l2i dX17_readsBodies_69 ?_
  refine g_iadd dX17_readsBodies_70 ?_
  refine g_putI fpX17_254 dX17_readsBodies_71 (fun σ2 => ?_)
  refine g_aload_n 0 1 dX17_readsBodies_74 rfl rfl ?_
  refine g_lload_n 3 3 dX17_readsBodies_75 rfl rfl ?_
  refine g_ldc2 q3645 dX17_readsBodies_76 ?_
  refine g_lcmp_ge 88 dX17_readsBodies_79 dX17_readsBodies_80 (by decide) ?_ ?_
  · refine g_bipush (v := 63) dX17_readsBodies_88 (by decide) ?_
    refine G.sub [1, 2, 3, 0] rfl ?_
    exact gX17_readsBodies_p90 rec15 hrec15 _ _ _ _ _ _ _
  · refine g_lload_n 3 3 dX17_readsBodies_83 rfl rfl ?_
    refine g_l2i dX17_readsBodies_84 ?_
    refine g_goto 90 dX17_readsBodies_85 (by decide) ?_
    refine G.sub [1, 2, 3, 0] rfl ?_
    exact gX17_readsBodies_p90 rec15 hrec15 _ _ _ _ _ _ _
def V.Mdl_readsBodies_p15  : Nat → HS → Nat → Int64 → Int64 → Option ((Nat ⊕ Unit) × HS)
  | 0, _, _, _, _ => none
  | n + 1, σ, x0, x1, x3 =>
    if x1 ≤ x3 then (
      some (.inr (), σ))
    else (
      ck (tg σ x0 = 18) <|
      bn (gI σ x0 11) fun y1 =>
      ck (tg σ x0 = 18) <| clT (Mdl_number σ x0 ) fun r3 σ2 =>
      ck (tg σ2 x0 = 18) <|
      ck (tg σ2 x0 = 18) <|
      if r3 ≤ (((gI σ2 x0 12) - (gI σ2 x0 11)).toInt64) then (
        Mdl_readsBodies_p56 (Mdl_readsBodies_p15 n) σ2 x0 x1 x3 r3)
      else (
        ck (tg σ2 x0 = 18) <| clT (Mdl_stops σ2 x0 (2 : Int32) y1) fun _ σ4 =>
        Mdl_readsBodies_p56 (Mdl_readsBodies_p15 n) σ4 x0 x1 x3 r3))
theorem V.gX17_readsBodies_p15 {X : CX}  : ∀ (n : Nat) (σ : HS) (x0 : Nat) (x1 : Int64) (x3 : Int64), G X RX17 "readsBodies" cX17_readsBodies 9 none 7 173 (enX enV (cxz X)) 15 [(0, av x0), (1, jv x1), (3, jv x3)] [] σ (Mdl_readsBodies_p15 n σ x0 x1 x3)
  | 0, σ, x0, x1, x3 => by rw [Mdl_readsBodies_p15]; exact G.nul
  | n + 1, σ, x0, x1, x3 => by
    rw [Mdl_readsBodies_p15]
    refine g_lload_n 3 2 dX17_readsBodies_15 rfl rfl ?_
    refine g_lload_n 1 1 dX17_readsBodies_16 rfl rfl ?_
    refine g_lcmp_ge 126 dX17_readsBodies_17 dX17_readsBodies_18 (by decide) ?_ ?_
    · exact g_return rfl dX17_readsBodies_126
    · refine g_aload_n 0 0 dX17_readsBodies_21 rfl rfl ?_
      refine g_getI fdX17_251 dX17_readsBodies_22 ?_
      refine g_nmI (fun y1 => ?_)
      refine g_istore dX17_readsBodies_25 (by decide) rfl ?_
      refine g_aload_n 0 1 dX17_readsBodies_27 rfl rfl ?_
      refine g_callVT (fc := fun sς => Mdl_number sς x0 ) (ci := 17) (as := []) rfl rfl rfl q3619 qs215 q3617 mdX17_277 (ctX17_number x0 ) rfl (Nat.le_of_ble_eq_true rfl) (Nat.le_of_ble_eq_true rfl) (Nat.le_of_ble_eq_true rfl) pu_J (by decide) dX17_readsBodies_28 (fun r3 σ2 => ?_)
      refine g_lstore dX17_readsBodies_31 (by decide) rfl ?_
      refine g_lload 0 dX17_readsBodies_33 rfl ?_
      refine g_aload_n 0 2 dX17_readsBodies_35 rfl rfl ?_
      refine g_getI fdX17_254 dX17_readsBodies_36 ?_
      refine g_aload_n 0 2 dX17_readsBodies_39 rfl rfl ?_
      refine g_getI fdX17_251 dX17_readsBodies_40 ?_
      refine g_isub dX17_readsBodies_43 ?_
      refine g_i2l dX17_readsBodies_44 ?_
      refine g_lcmp_le 56 dX17_readsBodies_45 dX17_readsBodies_46 (by decide) ?_ ?_
      · refine G.sub [2, 3, 4, 0] rfl ?_
        exact gX17_readsBodies_p56 (Mdl_readsBodies_p15 n) (gX17_readsBodies_p15 n) _ _ _ _ _
      · refine g_aload_n 0 2 dX17_readsBodies_49 rfl rfl ?_
        refine g_iconst (v := 2) dX17_readsBodies_50 (by decide) ?_
        refine g_iload 1 dX17_readsBodies_51 rfl ?_
        refine g_callVT (fc := fun sς => Mdl_stops sς x0 (2 : Int32) y1) (ci := 17) (as := [iv (2 : Int32), iv y1]) rfl rfl rfl q3606 qs214 q3604 mdX17_257 (ctX17_stops x0 (2 : Int32) y1) rfl (Nat.le_of_ble_eq_true rfl) (Nat.le_of_ble_eq_true rfl) (Nat.le_of_ble_eq_true rfl) pu_V (by decide) dX17_readsBodies_53 (fun _ σ4 => ?_)
        refine G.sub [2, 3, 4, 0] rfl ?_
        exact gX17_readsBodies_p56 (Mdl_readsBodies_p15 n) (gX17_readsBodies_p15 n) _ _ _ _ _
def V.Mdl_readsBodies (σ : HS) (x0 : Nat) : Option ((Nat ⊕ Unit) × HS) :=
  ck (tg σ x0 = 18) <| clT (Mdl_number σ x0 ) fun r2 σ1 =>
  ck (tg σ1 x0 = 18) <|
  ck (tg σ1 (gR σ1 x0 10) = 21) <| bn (sJ σ1 (gR σ1 x0 10) 50 r2) fun σ3 =>
  Mdl_readsBodies_p15 FU σ3 x0 r2 (0 : Int64)
theorem V.ctX17_readsBodies (x0 : Nat) : Ct yX17_readsBodies  cX17_readsBodies 9 none 7 173 eXV [av x0] (fun σ => Mdl_readsBodies σ x0) := by
  refine Ct.of (own := RX17) (nm := "readsBodies") (desc := "()V") rfl (by decide) (Nat.le_of_ble_eq_true rfl) (by decide) (fun X σ => ?_)
  show G X RX17 "readsBodies" cX17_readsBodies 9 none 7 173 (enX enV (cxz X)) 0 [(0, av x0)] [] σ (Mdl_readsBodies σ x0)
  unfold Mdl_readsBodies
  refine g_aload_n 0 0 dX17_readsBodies_0 rfl rfl ?_
  refine g_callVT (fc := fun sς => Mdl_number sς x0 ) (ci := 17) (as := []) rfl rfl rfl q3619 qs215 q3617 mdX17_277 (ctX17_number x0 ) rfl (Nat.le_of_ble_eq_true rfl) (Nat.le_of_ble_eq_true rfl) (Nat.le_of_ble_eq_true rfl) pu_J (by decide) dX17_readsBodies_1 (fun r2 σ1 => ?_)
  refine g_lstore_n 1 dX17_readsBodies_4 rfl (by decide) rfl ?_
  refine g_aload_n 0 1 dX17_readsBodies_5 rfl rfl ?_
  refine g_getR fdX17_221 dX17_readsBodies_6 ?_
  refine g_lload_n 1 0 dX17_readsBodies_9 rfl rfl ?_
  refine g_putJ fpX17_315 dX17_readsBodies_10 (fun σ3 => ?_)
  refine g_lconst (v := 0) dX17_readsBodies_13 (by decide) ?_
  refine g_lstore_n 3 dX17_readsBodies_14 rfl (by decide) rfl ?_
  refine G.sub [2, 1, 0] rfl ?_
  exact gX17_readsBodies_p15 FU _ _ _ _
theorem V.dX17_readsDatas_0 : decode cX17_readsDatas 0 = .ok (.aload_n 0, 1) := by decide +kernel
theorem V.dX17_readsDatas_1 : decode cX17_readsDatas 1 = .ok (.invokevirtual 277, 3) := by decide +kernel
theorem V.dX17_readsDatas_4 : decode cX17_readsDatas 4 = .ok (.lstore_n 1, 1) := by decide +kernel
theorem V.dX17_readsDatas_5 : decode cX17_readsDatas 5 = .ok (.aload_n 0, 1) := by decide +kernel
theorem V.dX17_readsDatas_6 : decode cX17_readsDatas 6 = .ok (.getfield 221, 3) := by decide +kernel
theorem V.dX17_readsDatas_9 : decode cX17_readsDatas 9 = .ok (.lload_n 1, 1) := by decide +kernel
theorem V.dX17_readsDatas_10 : decode cX17_readsDatas 10 = .ok (.putfield 321, 3) := by decide +kernel
theorem V.dX17_readsDatas_13 : decode cX17_readsDatas 13 = .ok (.aload_n 0, 1) := by decide +kernel
theorem V.dX17_readsDatas_14 : decode cX17_readsDatas 14 = .ok (.getfield 221, 3) := by decide +kernel
theorem V.dX17_readsDatas_17 : decode cX17_readsDatas 17 = .ok (.aload_n 0, 1) := by decide +kernel
theorem V.dX17_readsDatas_18 : decode cX17_readsDatas 18 = .ok (.lload_n 1, 1) := by decide +kernel
theorem V.dX17_readsDatas_19 : decode cX17_readsDatas 19 = .ok (.invokevirtual 377, 3) := by decide +kernel
theorem V.dX17_readsDatas_22 : decode cX17_readsDatas 22 = .ok (.putfield 529, 3) := by decide +kernel
theorem V.dX17_readsDatas_25 : decode cX17_readsDatas 25 = .ok (.lconst 0, 1) := by decide +kernel
theorem V.dX17_readsDatas_26 : decode cX17_readsDatas 26 = .ok (.lstore_n 3, 1) := by decide +kernel
theorem V.dX17_readsDatas_27 : decode cX17_readsDatas 27 = .ok (.lload_n 3, 1) := by decide +kernel
theorem V.dX17_readsDatas_28 : decode cX17_readsDatas 28 = .ok (.lload_n 1, 1) := by decide +kernel
theorem V.dX17_readsDatas_29 : decode cX17_readsDatas 29 = .ok (.lcmp, 1) := by decide +kernel
theorem V.dX17_readsDatas_30 : decode cX17_readsDatas 30 = .ok (.ifCond .ge 190, 3) := by decide +kernel
theorem V.dX17_readsDatas_33 : decode cX17_readsDatas 33 = .ok (.aload_n 0, 1) := by decide +kernel
theorem V.dX17_readsDatas_34 : decode cX17_readsDatas 34 = .ok (.getfield 251, 3) := by decide +kernel
theorem V.dX17_readsDatas_37 : decode cX17_readsDatas 37 = .ok (.istore 5, 2) := by decide +kernel
theorem V.dX17_readsDatas_39 : decode cX17_readsDatas 39 = .ok (.aload_n 0, 1) := by decide +kernel
theorem V.dX17_readsDatas_40 : decode cX17_readsDatas 40 = .ok (.invokevirtual 277, 3) := by decide +kernel
theorem V.dX17_readsDatas_43 : decode cX17_readsDatas 43 = .ok (.lstore 6, 2) := by decide +kernel
theorem V.dX17_readsDatas_45 : decode cX17_readsDatas 45 = .ok (.lload 6, 2) := by decide +kernel
theorem V.dX17_readsDatas_47 : decode cX17_readsDatas 47 = .ok (.ldc2_w 532, 3) := by decide +kernel
theorem V.dX17_readsDatas_50 : decode cX17_readsDatas 50 = .ok (.lcmp, 1) := by decide +kernel
theorem V.dX17_readsDatas_51 : decode cX17_readsDatas 51 = .ok (.ifCond .le 11, 3) := by decide +kernel
theorem V.dX17_readsDatas_54 : decode cX17_readsDatas 54 = .ok (.aload_n 0, 1) := by decide +kernel
theorem V.dX17_readsDatas_55 : decode cX17_readsDatas 55 = .ok (.bipush 7, 2) := by decide +kernel
theorem V.dX17_readsDatas_57 : decode cX17_readsDatas 57 = .ok (.iload 5, 2) := by decide +kernel
theorem V.dX17_readsDatas_59 : decode cX17_readsDatas 59 = .ok (.invokevirtual 257, 3) := by decide +kernel
theorem V.dX17_readsDatas_62 : decode cX17_readsDatas 62 = .ok (.lload_n 3, 1) := by decide +kernel
theorem V.dX17_readsDatas_63 : decode cX17_readsDatas 63 = .ok (.ldc2_w 363, 3) := by decide +kernel
theorem V.dX17_readsDatas_66 : decode cX17_readsDatas 66 = .ok (.lcmp, 1) := by decide +kernel
theorem V.dX17_readsDatas_67 : decode cX17_readsDatas 67 = .ok (.ifCond .ge 8, 3) := by decide +kernel
theorem V.dX17_readsDatas_70 : decode cX17_readsDatas 70 = .ok (.lload_n 3, 1) := by decide +kernel
theorem V.dX17_readsDatas_71 : decode cX17_readsDatas 71 = .ok (.l2i, 1) := by decide +kernel
theorem V.dX17_readsDatas_72 : decode cX17_readsDatas 72 = .ok (.goto 5, 3) := by decide +kernel
theorem V.dX17_readsDatas_75 : decode cX17_readsDatas 75 = .ok (.bipush 63, 2) := by decide +kernel
theorem V.dX17_readsDatas_77 : decode cX17_readsDatas 77 = .ok (.istore 8, 2) := by decide +kernel
theorem V.dX17_readsDatas_79 : decode cX17_readsDatas 79 = .ok (.aload_n 0, 1) := by decide +kernel
theorem V.dX17_readsDatas_80 : decode cX17_readsDatas 80 = .ok (.getfield 221, 3) := by decide +kernel
theorem V.dX17_readsDatas_83 : decode cX17_readsDatas 83 = .ok (.getfield 534, 3) := by decide +kernel
theorem V.dX17_readsDatas_86 : decode cX17_readsDatas 86 = .ok (.iload 8, 2) := by decide +kernel
theorem V.dX17_readsDatas_88 : decode cX17_readsDatas 88 = .ok (.lload 6, 2) := by decide +kernel
theorem V.dX17_readsDatas_90 : decode cX17_readsDatas 90 = .ok (.lconst 1, 1) := by decide +kernel
theorem V.dX17_readsDatas_91 : decode cX17_readsDatas 91 = .ok (.lcmp, 1) := by decide +kernel
theorem V.dX17_readsDatas_92 : decode cX17_readsDatas 92 = .ok (.ifCond .eq 7, 3) := by decide +kernel
theorem V.dX17_readsDatas_95 : decode cX17_readsDatas 95 = .ok (.iconst 1, 1) := by decide +kernel
theorem V.dX17_readsDatas_96 : decode cX17_readsDatas 96 = .ok (.goto 4, 3) := by decide +kernel
theorem V.dX17_readsDatas_99 : decode cX17_readsDatas 99 = .ok (.iconst 0, 1) := by decide +kernel
theorem V.dX17_readsDatas_100 : decode cX17_readsDatas 100 = .ok (.bastore, 1) := by decide +kernel
theorem V.dX17_readsDatas_101 : decode cX17_readsDatas 101 = .ok (.aload_n 0, 1) := by decide +kernel
theorem V.dX17_readsDatas_102 : decode cX17_readsDatas 102 = .ok (.getfield 221, 3) := by decide +kernel
theorem V.dX17_readsDatas_105 : decode cX17_readsDatas 105 = .ok (.getfield 537, 3) := by decide +kernel
theorem V.dX17_readsDatas_108 : decode cX17_readsDatas 108 = .ok (.iload 8, 2) := by decide +kernel
theorem V.dX17_readsDatas_110 : decode cX17_readsDatas 110 = .ok (.lload 6, 2) := by decide +kernel
theorem V.dX17_readsDatas_112 : decode cX17_readsDatas 112 = .ok (.ldc2_w 532, 3) := by decide +kernel
theorem V.dX17_readsDatas_115 : decode cX17_readsDatas 115 = .ok (.lcmp, 1) := by decide +kernel
theorem V.dX17_readsDatas_116 : decode cX17_readsDatas 116 = .ok (.ifCond .ne 10, 3) := by decide +kernel
theorem V.dX17_readsDatas_119 : decode cX17_readsDatas 119 = .ok (.aload_n 0, 1) := by decide +kernel
theorem V.dX17_readsDatas_120 : decode cX17_readsDatas 120 = .ok (.invokevirtual 277, 3) := by decide +kernel
theorem V.dX17_readsDatas_123 : decode cX17_readsDatas 123 = .ok (.goto 4, 3) := by decide +kernel
theorem V.dX17_readsDatas_126 : decode cX17_readsDatas 126 = .ok (.lconst 0, 1) := by decide +kernel
theorem V.dX17_readsDatas_127 : decode cX17_readsDatas 127 = .ok (.lastore, 1) := by decide +kernel
theorem V.dX17_readsDatas_128 : decode cX17_readsDatas 128 = .ok (.aload_n 0, 1) := by decide +kernel
theorem V.dX17_readsDatas_129 : decode cX17_readsDatas 129 = .ok (.getfield 221, 3) := by decide +kernel
theorem V.dX17_readsDatas_132 : decode cX17_readsDatas 132 = .ok (.getfield 540, 3) := by decide +kernel
theorem V.dX17_readsDatas_135 : decode cX17_readsDatas 135 = .ok (.iload 8, 2) := by decide +kernel
theorem V.dX17_readsDatas_137 : decode cX17_readsDatas 137 = .ok (.aload_n 0, 1) := by decide +kernel
theorem V.dX17_readsDatas_138 : decode cX17_readsDatas 138 = .ok (.getfield 251, 3) := by decide +kernel
theorem V.dX17_readsDatas_141 : decode cX17_readsDatas 141 = .ok (.iastore, 1) := by decide +kernel
theorem V.dX17_readsDatas_142 : decode cX17_readsDatas 142 = .ok (.lload 6, 2) := by decide +kernel
theorem V.dX17_readsDatas_144 : decode cX17_readsDatas 144 = .ok (.lconst 1, 1) := by decide +kernel
theorem V.dX17_readsDatas_145 : decode cX17_readsDatas 145 = .ok (.lcmp, 1) := by decide +kernel
theorem V.dX17_readsDatas_146 : decode cX17_readsDatas 146 = .ok (.ifCond .eq 8, 3) := by decide +kernel
theorem V.dX17_readsDatas_149 : decode cX17_readsDatas 149 = .ok (.aload_n 0, 1) := by decide +kernel
theorem V.dX17_readsDatas_150 : decode cX17_readsDatas 150 = .ok (.iconst 0, 1) := by decide +kernel
theorem V.dX17_readsDatas_151 : decode cX17_readsDatas 151 = .ok (.invokevirtual 456, 3) := by decide +kernel
theorem V.dX17_readsDatas_154 : decode cX17_readsDatas 154 = .ok (.aload_n 0, 1) := by decide +kernel
theorem V.dX17_readsDatas_155 : decode cX17_readsDatas 155 = .ok (.invokevirtual 277, 3) := by decide +kernel
theorem V.dX17_readsDatas_158 : decode cX17_readsDatas 158 = .ok (.lstore 9, 2) := by decide +kernel
theorem V.dX17_readsDatas_160 : decode cX17_readsDatas 160 = .ok (.aload_n 0, 1) := by decide +kernel
theorem V.dX17_readsDatas_161 : decode cX17_readsDatas 161 = .ok (.getfield 221, 3) := by decide +kernel
theorem V.dX17_readsDatas_164 : decode cX17_readsDatas 164 = .ok (.getfield 543, 3) := by decide +kernel
theorem V.dX17_readsDatas_167 : decode cX17_readsDatas 167 = .ok (.iload 8, 2) := by decide +kernel
theorem V.dX17_readsDatas_169 : decode cX17_readsDatas 169 = .ok (.aload_n 0, 1) := by decide +kernel
theorem V.dX17_readsDatas_170 : decode cX17_readsDatas 170 = .ok (.getfield 251, 3) := by decide +kernel
theorem V.dX17_readsDatas_173 : decode cX17_readsDatas 173 = .ok (.iastore, 1) := by decide +kernel
theorem V.dX17_readsDatas_174 : decode cX17_readsDatas 174 = .ok (.lconst 0, 1) := by decide +kernel
theorem V.dX17_readsDatas_175 : decode cX17_readsDatas 175 = .ok (.lstore 11, 2) := by decide +kernel
theorem V.dX17_readsDatas_177 : decode cX17_readsDatas 177 = .ok (.lload 11, 2) := by decide +kernel
theorem V.dX17_readsDatas_179 : decode cX17_readsDatas 179 = .ok (.lload 9, 2) := by decide +kernel
theorem V.dX17_readsDatas_181 : decode cX17_readsDatas 181 = .ok (.lcmp, 1) := by decide +kernel
theorem V.dX17_readsDatas_182 : decode cX17_readsDatas 182 = .ok (.ifCond .ge 18, 3) := by decide +kernel
theorem V.dX17_readsDatas_185 : decode cX17_readsDatas 185 = .ok (.aload_n 0, 1) := by decide +kernel
theorem V.dX17_readsDatas_186 : decode cX17_readsDatas 186 = .ok (.invokevirtual 264, 3) := by decide +kernel
theorem V.dX17_readsDatas_189 : decode cX17_readsDatas 189 = .ok (.istore 13, 2) := by decide +kernel
theorem V.dX17_readsDatas_191 : decode cX17_readsDatas 191 = .ok (.lload 11, 2) := by decide +kernel
theorem V.dX17_readsDatas_193 : decode cX17_readsDatas 193 = .ok (.lconst 1, 1) := by decide +kernel
theorem V.dX17_readsDatas_194 : decode cX17_readsDatas 194 = .ok (.ladd, 1) := by decide +kernel
theorem V.dX17_readsDatas_195 : decode cX17_readsDatas 195 = .ok (.lstore 11, 2) := by decide +kernel
theorem V.dX17_readsDatas_197 : decode cX17_readsDatas 197 = .ok (.goto (-20), 3) := by decide +kernel
theorem V.dX17_readsDatas_200 : decode cX17_readsDatas 200 = .ok (.aload_n 0, 1) := by decide +kernel
theorem V.dX17_readsDatas_201 : decode cX17_readsDatas 201 = .ok (.getfield 221, 3) := by decide +kernel
theorem V.dX17_readsDatas_204 : decode cX17_readsDatas 204 = .ok (.getfield 546, 3) := by decide +kernel
theorem V.dX17_readsDatas_207 : decode cX17_readsDatas 207 = .ok (.iload 8, 2) := by decide +kernel
theorem V.dX17_readsDatas_209 : decode cX17_readsDatas 209 = .ok (.lload 9, 2) := by decide +kernel
theorem V.dX17_readsDatas_211 : decode cX17_readsDatas 211 = .ok (.l2i, 1) := by decide +kernel
theorem V.dX17_readsDatas_212 : decode cX17_readsDatas 212 = .ok (.iastore, 1) := by decide +kernel
theorem V.dX17_readsDatas_213 : decode cX17_readsDatas 213 = .ok (.lload_n 3, 1) := by decide +kernel
theorem V.dX17_readsDatas_214 : decode cX17_readsDatas 214 = .ok (.lconst 1, 1) := by decide +kernel
theorem V.dX17_readsDatas_215 : decode cX17_readsDatas 215 = .ok (.ladd, 1) := by decide +kernel
theorem V.dX17_readsDatas_216 : decode cX17_readsDatas 216 = .ok (.lstore_n 3, 1) := by decide +kernel
theorem V.dX17_readsDatas_217 : decode cX17_readsDatas 217 = .ok (.goto (-190), 3) := by decide +kernel
theorem V.dX17_readsDatas_220 : decode cX17_readsDatas 220 = .ok (.return_, 1) := by decide +kernel
theorem V.fpX17_321 {nm : String} : FP RX17 nm 321 20 43 (.long) := ⟨(RX20, TX20, 58), tyX20, rfl, rfl, in_X20, by decide, tyX20_ok, nmX20, rfl, Or.inl ⟨rfl, Or.inr ⟨_, q3446⟩⟩⟩
theorem V.fpX17_529 {nm : String} : FP RX17 nm 529 20 44 (.int) := ⟨(RX20, TX20, 58), tyX20, rfl, rfl, in_X20, by decide, tyX20_ok, nmX20, rfl, Or.inl ⟨rfl, Or.inr ⟨_, q3448⟩⟩⟩
theorem V.fdX17_534 : FD RX17 534 20 45 2 := ⟨(RX20, TX20, 58), tyX20, rfl, rfl, in_X20, by decide, Or.inr ⟨_, q3450⟩, rfl⟩
theorem V.fdX17_537 : FD RX17 537 20 46 2 := ⟨(RX20, TX20, 58), tyX20, rfl, rfl, in_X20, by decide, Or.inr ⟨_, q3452⟩, rfl⟩
theorem V.fdX17_540 : FD RX17 540 20 47 2 := ⟨(RX20, TX20, 58), tyX20, rfl, rfl, in_X20, by decide, Or.inr ⟨_, q3454⟩, rfl⟩
theorem V.fdX17_543 : FD RX17 543 20 48 2 := ⟨(RX20, TX20, 58), tyX20, rfl, rfl, in_X20, by decide, Or.inr ⟨_, q3456⟩, rfl⟩
theorem V.fdX17_546 : FD RX17 546 20 49 2 := ⟨(RX20, TX20, 58), tyX20, rfl, rfl, in_X20, by decide, Or.inr ⟨_, q3458⟩, rfl⟩
/-! ModuleEngineModel.readsDatas()V -/
def V.Mdl_readsDatas_p177 (rec27 : HS → Nat → Int64 → Int64 → Option ((Nat ⊕ Unit) × HS)) : Nat → HS → Nat → Int64 → Int64 → Int32 → Int64 → Int64 → Option ((Nat ⊕ Unit) × HS)
  | 0, _, _, _, _, _, _, _ => none
  | n + 1, σ, x0, x1, x3, x8, x9, x11 =>
    if x9 ≤ x11 then (
      ck (tg σ x0 = 18) <|
      ck (tg σ (gR σ x0 10) = 21) <|
      ck (tg σ (gR σ (gR σ x0 10) 49) = 100 ∧ inb x8 (ln σ (gR σ (gR σ x0 10) 49))) <| bn (sI σ (gR σ (gR σ x0 10) 49) (ix x8) x9.toInt32) fun σ1 =>
      bn (x3 + (1 : Int64)) fun y2 =>
      rec27 σ1 x0 x1 y2)
    else (
      ck (tg σ x0 = 18) <| clT (Mdl_next σ x0 ) fun r4 σ3 =>
      bn (x11 + (1 : Int64)) fun y5 =>
      Mdl_readsDatas_p177 rec27 n σ3 x0 x1 x3 x8 x9 y5)
theorem V.gX17_readsDatas_p177 {X : CX} (rec27 : HS → Nat → Int64 → Int64 → Option ((Nat ⊕ Unit) × HS)) (hrec27 : ∀ (σ : HS) (x0 : Nat) (x1 : Int64) (x3 : Int64), G X RX17 "readsDatas" cX17_readsDatas 14 none 6 144 (enX enV (cxz X)) 27 [(0, av x0), (1, jv x1), (3, jv x3)] [] σ (rec27 σ x0 x1 x3)) : ∀ (n : Nat) (σ : HS) (x0 : Nat) (x1 : Int64) (x3 : Int64) (x8 : Int32) (x9 : Int64) (x11 : Int64), G X RX17 "readsDatas" cX17_readsDatas 14 none 6 144 (enX enV (cxz X)) 177 [(0, av x0), (1, jv x1), (3, jv x3), (8, iv x8), (9, jv x9), (11, jv x11)] [] σ (Mdl_readsDatas_p177 rec27 n σ x0 x1 x3 x8 x9 x11)
  | 0, σ, x0, x1, x3, x8, x9, x11 => by rw [Mdl_readsDatas_p177]; exact G.nul
  | n + 1, σ, x0, x1, x3, x8, x9, x11 => by
    rw [Mdl_readsDatas_p177]
    refine g_lload 5 dX17_readsDatas_177 rfl ?_
    refine g_lload 4 dX17_readsDatas_179 rfl ?_
    refine g_lcmp_ge 200 dX17_readsDatas_181 dX17_readsDatas_182 (by decide) ?_ ?_
    · refine g_aload_n 0 0 dX17_readsDatas_200 rfl rfl ?_
      refine g_getR fdX17_221 dX17_readsDatas_201 ?_
      refine g_getR fdX17_546 dX17_readsDatas_204 ?_
      refine g_iload 3 dX17_readsDatas_207 rfl ?_
      refine g_lload 4 dX17_readsDatas_209 rfl ?_
      refine g_l2i dX17_readsDatas_211 ?_
      refine g_iastore dX17_readsDatas_212 (fun σ1 => ?_)
      refine g_lload_n 3 2 dX17_readsDatas_213 rfl rfl ?_
      refine g_lconst (v := 1) dX17_readsDatas_214 (by decide) ?_
      refine g_ladd dX17_readsDatas_215 ?_
      refine g_nmJ (fun y2 => ?_)
      refine g_lstore_n 3 dX17_readsDatas_216 rfl (by decide) rfl ?_
      refine g_goto 27 dX17_readsDatas_217 (by decide) ?_
      refine G.sub [1, 2, 0] rfl ?_
      exact hrec27 _ _ _ _
    · refine g_aload_n 0 0 dX17_readsDatas_185 rfl rfl ?_
      refine g_callVT (fc := fun sς => Mdl_next sς x0 ) (ci := 17) (as := []) rfl rfl rfl q3602 qs213 q3600 mdX17_264 (ctX17_next x0 ) rfl (Nat.le_of_ble_eq_true rfl) (Nat.le_of_ble_eq_true rfl) (Nat.le_of_ble_eq_true rfl) pu_I (by decide) dX17_readsDatas_186 (fun r4 σ3 => ?_)
      refine g_istore dX17_readsDatas_189 (by decide) rfl ?_
      refine g_lload 6 dX17_readsDatas_191 rfl ?_
      refine g_lconst (v := 1) dX17_readsDatas_193 (by decide) ?_
      refine g_ladd dX17_readsDatas_194 ?_
      refine g_nmJ (fun y5 => ?_)
      refine g_lstore dX17_readsDatas_195 (by decide) rfl ?_
      refine g_goto 177 dX17_readsDatas_197 (by decide) ?_
      refine G.sub [2, 3, 4, 5, 6, 0] rfl ?_
      exact gX17_readsDatas_p177 rec27 hrec27 n _ _ _ _ _ _ _
def V.Mdl_readsDatas_p154 (rec27 : HS → Nat → Int64 → Int64 → Option ((Nat ⊕ Unit) × HS)) (σ : HS) (x0 : Nat) (x1 : Int64) (x3 : Int64) (x8 : Int32) : Option ((Nat ⊕ Unit) × HS) :=
  ck (tg σ x0 = 18) <| clT (Mdl_number σ x0 ) fun r2 σ1 =>
  ck (tg σ1 x0 = 18) <|
  ck (tg σ1 (gR σ1 x0 10) = 21) <|
  ck (tg σ1 x0 = 18) <|
  ck (tg σ1 (gR σ1 (gR σ1 x0 10) 48) = 100 ∧ inb x8 (ln σ1 (gR σ1 (gR σ1 x0 10) 48))) <| bn (sI σ1 (gR σ1 (gR σ1 x0 10) 48) (ix x8) (gI σ1 x0 11)) fun σ3 =>
  Mdl_readsDatas_p177 rec27 FU σ3 x0 x1 x3 x8 r2 (0 : Int64)
theorem V.gX17_readsDatas_p154 {X : CX} (rec27 : HS → Nat → Int64 → Int64 → Option ((Nat ⊕ Unit) × HS)) (hrec27 : ∀ (σ : HS) (x0 : Nat) (x1 : Int64) (x3 : Int64), G X RX17 "readsDatas" cX17_readsDatas 14 none 6 144 (enX enV (cxz X)) 27 [(0, av x0), (1, jv x1), (3, jv x3)] [] σ (rec27 σ x0 x1 x3)) (σ : HS) (x0 : Nat) (x1 : Int64) (x3 : Int64) (x8 : Int32) : G X RX17 "readsDatas" cX17_readsDatas 14 none 6 144 (enX enV (cxz X)) 154 [(0, av x0), (1, jv x1), (3, jv x3), (8, iv x8)] [] σ (Mdl_readsDatas_p154 rec27 σ x0 x1 x3 x8) := by
  unfold Mdl_readsDatas_p154
  refine g_aload_n 0 0 dX17_readsDatas_154 rfl rfl ?_
  refine g_callVT (fc := fun sς => Mdl_number sς x0 ) (ci := 17) (as := []) rfl rfl rfl q3619 qs215 q3617 mdX17_277 (ctX17_number x0 ) rfl (Nat.le_of_ble_eq_true rfl) (Nat.le_of_ble_eq_true rfl) (Nat.le_of_ble_eq_true rfl) pu_J (by decide) dX17_readsDatas_155 (fun r2 σ1 => ?_)
  refine g_lstore dX17_readsDatas_158 (by decide) rfl ?_
  refine g_aload_n 0 1 dX17_readsDatas_160 rfl rfl ?_
  refine g_getR fdX17_221 dX17_readsDatas_161 ?_
  refine g_getR fdX17_543 dX17_readsDatas_164 ?_
  refine g_iload 4 dX17_readsDatas_167 rfl ?_
  refine g_aload_n 0 1 dX17_readsDatas_169 rfl rfl ?_
  refine g_getI fdX17_251 dX17_readsDatas_170 ?_
  refine g_iastore dX17_readsDatas_173 (fun σ3 => ?_)
  refine g_lconst (v := 0) dX17_readsDatas_174 (by decide) ?_
  refine g_lstore dX17_readsDatas_175 (by decide) rfl ?_
  refine G.sub [2, 3, 4, 5, 1, 0] rfl ?_
  exact gX17_readsDatas_p177 rec27 hrec27 FU _ _ _ _ _ _ _
def V.Mdl_readsDatas_p127 (rec27 : HS → Nat → Int64 → Int64 → Option ((Nat ⊕ Unit) × HS)) (σ : HS) (x0 : Nat) (x1 : Int64) (x3 : Int64) (x6 : Int64) (x8 : Int32) (s0 : Int64) (s1 : Int32) (s2 : Nat) : Option ((Nat ⊕ Unit) × HS) :=
  ck (tg σ s2 = 101 ∧ inb s1 (ln σ s2)) <| bn (sJ σ s2 (ix s1) s0) fun σ1 =>
  ck (tg σ1 x0 = 18) <|
  ck (tg σ1 (gR σ1 x0 10) = 21) <|
  ck (tg σ1 x0 = 18) <|
  ck (tg σ1 (gR σ1 (gR σ1 x0 10) 47) = 100 ∧ inb x8 (ln σ1 (gR σ1 (gR σ1 x0 10) 47))) <| bn (sI σ1 (gR σ1 (gR σ1 x0 10) 47) (ix x8) (gI σ1 x0 11)) fun σ2 =>
  if x6 = (1 : Int64) then (
    Mdl_readsDatas_p154 rec27 σ2 x0 x1 x3 x8)
  else (
    ck (tg σ2 x0 = 18) <| clT (Mdl_expression σ2 x0 (0 : Int32)) fun _ σ3 =>
    Mdl_readsDatas_p154 rec27 σ3 x0 x1 x3 x8)
theorem V.gX17_readsDatas_p127 {X : CX} (rec27 : HS → Nat → Int64 → Int64 → Option ((Nat ⊕ Unit) × HS)) (hrec27 : ∀ (σ : HS) (x0 : Nat) (x1 : Int64) (x3 : Int64), G X RX17 "readsDatas" cX17_readsDatas 14 none 6 144 (enX enV (cxz X)) 27 [(0, av x0), (1, jv x1), (3, jv x3)] [] σ (rec27 σ x0 x1 x3)) (σ : HS) (x0 : Nat) (x1 : Int64) (x3 : Int64) (x6 : Int64) (x8 : Int32) (s0 : Int64) (s1 : Int32) (s2 : Nat) : G X RX17 "readsDatas" cX17_readsDatas 14 none 6 144 (enX enV (cxz X)) 127 [(0, av x0), (1, jv x1), (3, jv x3), (6, jv x6), (8, iv x8)] [jv s0, iv s1, av s2] σ (Mdl_readsDatas_p127 rec27 σ x0 x1 x3 x6 x8 s0 s1 s2) := by
  unfold Mdl_readsDatas_p127
  refine g_lastore dX17_readsDatas_127 (fun σ1 => ?_)
  refine g_aload_n 0 0 dX17_readsDatas_128 rfl rfl ?_
  refine g_getR fdX17_221 dX17_readsDatas_129 ?_
  refine g_getR fdX17_540 dX17_readsDatas_132 ?_
  refine g_iload 4 dX17_readsDatas_135 rfl ?_
  refine g_aload_n 0 0 dX17_readsDatas_137 rfl rfl ?_
  refine g_getI fdX17_251 dX17_readsDatas_138 ?_
  refine g_iastore dX17_readsDatas_141 (fun σ2 => ?_)
  refine g_lload 3 dX17_readsDatas_142 rfl ?_
  refine g_lconst (v := 1) dX17_readsDatas_144 (by decide) ?_
  refine g_lcmp_eq 154 dX17_readsDatas_145 dX17_readsDatas_146 (by decide) ?_ ?_
  · refine G.sub [0, 1, 2, 4] rfl ?_
    exact gX17_readsDatas_p154 rec27 hrec27 _ _ _ _ _
  · refine g_aload_n 0 0 dX17_readsDatas_149 rfl rfl ?_
    refine g_iconst (v := 0) dX17_readsDatas_150 (by decide) ?_
    refine g_callVT (fc := fun sς => Mdl_expression sς x0 (0 : Int32)) (ci := 17) (as := [iv (0 : Int32)]) rfl rfl rfl q3700 qs232 q3698 mdX17_456 (ctX17_expression x0 (0 : Int32)) rfl (Nat.le_of_ble_eq_true rfl) (Nat.le_of_ble_eq_true rfl) (Nat.le_of_ble_eq_true rfl) pu_V (by decide) dX17_readsDatas_151 (fun _ σ3 => ?_)
    refine G.sub [0, 1, 2, 4] rfl ?_
    exact gX17_readsDatas_p154 rec27 hrec27 _ _ _ _ _
def V.Mdl_readsDatas_p100 (rec27 : HS → Nat → Int64 → Int64 → Option ((Nat ⊕ Unit) × HS)) (σ : HS) (x0 : Nat) (x1 : Int64) (x3 : Int64) (x6 : Int64) (x8 : Int32) (s0 : Int32) (s1 : Int32) (s2 : Nat) : Option ((Nat ⊕ Unit) × HS) :=
  ck (tg σ s2 = 103 ∧ inb s1 (ln σ s2) ∧ zb s0) <| bn (sI σ s2 (ix s1) s0) fun σ1 =>
  ck (tg σ1 x0 = 18) <|
  ck (tg σ1 (gR σ1 x0 10) = 21) <|
  if x6 = (2 : Int64) then (
    ck (tg σ1 x0 = 18) <| clT (Mdl_number σ1 x0 ) fun r3 σ2 =>
    Mdl_readsDatas_p127 rec27 σ2 x0 x1 x3 x6 x8 r3 x8 (gR σ1 (gR σ1 x0 10) 46))
  else (
    Mdl_readsDatas_p127 rec27 σ1 x0 x1 x3 x6 x8 (0 : Int64) x8 (gR σ1 (gR σ1 x0 10) 46))
theorem V.gX17_readsDatas_p100 {X : CX} (rec27 : HS → Nat → Int64 → Int64 → Option ((Nat ⊕ Unit) × HS)) (hrec27 : ∀ (σ : HS) (x0 : Nat) (x1 : Int64) (x3 : Int64), G X RX17 "readsDatas" cX17_readsDatas 14 none 6 144 (enX enV (cxz X)) 27 [(0, av x0), (1, jv x1), (3, jv x3)] [] σ (rec27 σ x0 x1 x3)) (σ : HS) (x0 : Nat) (x1 : Int64) (x3 : Int64) (x6 : Int64) (x8 : Int32) (s0 : Int32) (s1 : Int32) (s2 : Nat) : G X RX17 "readsDatas" cX17_readsDatas 14 none 6 144 (enX enV (cxz X)) 100 [(0, av x0), (1, jv x1), (3, jv x3), (6, jv x6), (8, iv x8)] [iv s0, iv s1, av s2] σ (Mdl_readsDatas_p100 rec27 σ x0 x1 x3 x6 x8 s0 s1 s2) := by
  unfold Mdl_readsDatas_p100
  refine g_zastore dX17_readsDatas_100 (fun σ1 => ?_)
  refine g_aload_n 0 0 dX17_readsDatas_101 rfl rfl ?_
  refine g_getR fdX17_221 dX17_readsDatas_102 ?_
  refine g_getR fdX17_537 dX17_readsDatas_105 ?_
  refine g_iload 4 dX17_readsDatas_108 rfl ?_
  refine g_lload 3 dX17_readsDatas_110 rfl ?_
  refine g_ldc2 q3762 dX17_readsDatas_112 ?_
  refine g_lcmp_ne 126 dX17_readsDatas_115 dX17_readsDatas_116 (by decide) ?_ ?_
  · refine g_lconst (v := 0) dX17_readsDatas_126 (by decide) ?_
    exact gX17_readsDatas_p127 rec27 hrec27 _ _ _ _ _ _ _ _ _
  · refine g_aload_n 0 0 dX17_readsDatas_119 rfl rfl ?_
    refine g_callVT (fc := fun sς => Mdl_number sς x0 ) (ci := 17) (as := []) rfl rfl rfl q3619 qs215 q3617 mdX17_277 (ctX17_number x0 ) rfl (Nat.le_of_ble_eq_true rfl) (Nat.le_of_ble_eq_true rfl) (Nat.le_of_ble_eq_true rfl) pu_J (by decide) dX17_readsDatas_120 (fun r3 σ2 => ?_)
    refine g_goto 127 dX17_readsDatas_123 (by decide) ?_
    exact gX17_readsDatas_p127 rec27 hrec27 _ _ _ _ _ _ _ _ _
def V.Mdl_readsDatas_p77 (rec27 : HS → Nat → Int64 → Int64 → Option ((Nat ⊕ Unit) × HS)) (σ : HS) (x0 : Nat) (x1 : Int64) (x3 : Int64) (x6 : Int64) (s0 : Int32) : Option ((Nat ⊕ Unit) × HS) :=
  ck (tg σ x0 = 18) <|
  ck (tg σ (gR σ x0 10) = 21) <|
  if x6 = (1 : Int64) then (
    Mdl_readsDatas_p100 rec27 σ x0 x1 x3 x6 s0 (0 : Int32) s0 (gR σ (gR σ x0 10) 45))
  else (
    Mdl_readsDatas_p100 rec27 σ x0 x1 x3 x6 s0 (1 : Int32) s0 (gR σ (gR σ x0 10) 45))
theorem V.gX17_readsDatas_p77 {X : CX} (rec27 : HS → Nat → Int64 → Int64 → Option ((Nat ⊕ Unit) × HS)) (hrec27 : ∀ (σ : HS) (x0 : Nat) (x1 : Int64) (x3 : Int64), G X RX17 "readsDatas" cX17_readsDatas 14 none 6 144 (enX enV (cxz X)) 27 [(0, av x0), (1, jv x1), (3, jv x3)] [] σ (rec27 σ x0 x1 x3)) (σ : HS) (x0 : Nat) (x1 : Int64) (x3 : Int64) (x6 : Int64) (s0 : Int32) : G X RX17 "readsDatas" cX17_readsDatas 14 none 6 144 (enX enV (cxz X)) 77 [(0, av x0), (1, jv x1), (3, jv x3), (6, jv x6)] [iv s0] σ (Mdl_readsDatas_p77 rec27 σ x0 x1 x3 x6 s0) := by
  unfold Mdl_readsDatas_p77
  refine g_istore dX17_readsDatas_77 (by decide) rfl ?_
  refine g_aload_n 0 1 dX17_readsDatas_79 rfl rfl ?_
  refine g_getR fdX17_221 dX17_readsDatas_80 ?_
  refine g_getR fdX17_534 dX17_readsDatas_83 ?_
  refine g_iload 0 dX17_readsDatas_86 rfl ?_
  refine g_lload 4 dX17_readsDatas_88 rfl ?_
  refine g_lconst (v := 1) dX17_readsDatas_90 (by decide) ?_
  refine g_lcmp_eq 99 dX17_readsDatas_91 dX17_readsDatas_92 (by decide) ?_ ?_
  · refine g_iconst (v := 0) dX17_readsDatas_99 (by decide) ?_
    refine G.sub [1, 2, 3, 4, 0] rfl ?_
    exact gX17_readsDatas_p100 rec27 hrec27 _ _ _ _ _ _ _ _ _
  · refine g_iconst (v := 1) dX17_readsDatas_95 (by decide) ?_
    refine g_goto 100 dX17_readsDatas_96 (by decide) ?_
    refine G.sub [1, 2, 3, 4, 0] rfl ?_
    exact gX17_readsDatas_p100 rec27 hrec27 _ _ _ _ _ _ _ _ _
def V.Mdl_readsDatas_p62 (rec27 : HS → Nat → Int64 → Int64 → Option ((Nat ⊕ Unit) × HS)) (σ : HS) (x0 : Nat) (x1 : Int64) (x3 : Int64) (x6 : Int64) : Option ((Nat ⊕ Unit) × HS) :=
  if (64 : Int64) ≤ x3 then (
    Mdl_readsDatas_p77 rec27 σ x0 x1 x3 x6 (63 : Int32))
  else (
    Mdl_readsDatas_p77 rec27 σ x0 x1 x3 x6 x3.toInt32)
theorem V.gX17_readsDatas_p62 {X : CX} (rec27 : HS → Nat → Int64 → Int64 → Option ((Nat ⊕ Unit) × HS)) (hrec27 : ∀ (σ : HS) (x0 : Nat) (x1 : Int64) (x3 : Int64), G X RX17 "readsDatas" cX17_readsDatas 14 none 6 144 (enX enV (cxz X)) 27 [(0, av x0), (1, jv x1), (3, jv x3)] [] σ (rec27 σ x0 x1 x3)) (σ : HS) (x0 : Nat) (x1 : Int64) (x3 : Int64) (x6 : Int64) : G X RX17 "readsDatas" cX17_readsDatas 14 none 6 144 (enX enV (cxz X)) 62 [(0, av x0), (1, jv x1), (3, jv x3), (6, jv x6)] [] σ (Mdl_readsDatas_p62 rec27 σ x0 x1 x3 x6) := by
  unfold Mdl_readsDatas_p62
  refine g_lload_n 3 2 dX17_readsDatas_62 rfl rfl ?_
  refine g_ldc2 q3645 dX17_readsDatas_63 ?_
  refine g_lcmp_ge 75 dX17_readsDatas_66 dX17_readsDatas_67 (by decide) ?_ ?_
  · refine g_bipush (v := 63) dX17_readsDatas_75 (by decide) ?_
    exact gX17_readsDatas_p77 rec27 hrec27 _ _ _ _ _ _
  · refine g_lload_n 3 2 dX17_readsDatas_70 rfl rfl ?_
    refine g_l2i dX17_readsDatas_71 ?_
    refine g_goto 77 dX17_readsDatas_72 (by decide) ?_
    exact gX17_readsDatas_p77 rec27 hrec27 _ _ _ _ _ _
def V.Mdl_readsDatas_p27  : Nat → HS → Nat → Int64 → Int64 → Option ((Nat ⊕ Unit) × HS)
  | 0, _, _, _, _ => none
  | n + 1, σ, x0, x1, x3 =>
    if x1 ≤ x3 then (
      some (.inr (), σ))
    else (
      ck (tg σ x0 = 18) <|
      bn (gI σ x0 11) fun y1 =>
      ck (tg σ x0 = 18) <| clT (Mdl_number σ x0 ) fun r3 σ2 =>
      if r3 ≤ (2 : Int64) then (
        Mdl_readsDatas_p62 (Mdl_readsDatas_p27 n) σ2 x0 x1 x3 r3)
      else (
        ck (tg σ2 x0 = 18) <| clT (Mdl_stops σ2 x0 (7 : Int32) y1) fun _ σ4 =>
        Mdl_readsDatas_p62 (Mdl_readsDatas_p27 n) σ4 x0 x1 x3 r3))
theorem V.gX17_readsDatas_p27 {X : CX}  : ∀ (n : Nat) (σ : HS) (x0 : Nat) (x1 : Int64) (x3 : Int64), G X RX17 "readsDatas" cX17_readsDatas 14 none 6 144 (enX enV (cxz X)) 27 [(0, av x0), (1, jv x1), (3, jv x3)] [] σ (Mdl_readsDatas_p27 n σ x0 x1 x3)
  | 0, σ, x0, x1, x3 => by rw [Mdl_readsDatas_p27]; exact G.nul
  | n + 1, σ, x0, x1, x3 => by
    rw [Mdl_readsDatas_p27]
    refine g_lload_n 3 2 dX17_readsDatas_27 rfl rfl ?_
    refine g_lload_n 1 1 dX17_readsDatas_28 rfl rfl ?_
    refine g_lcmp_ge 220 dX17_readsDatas_29 dX17_readsDatas_30 (by decide) ?_ ?_
    · exact g_return rfl dX17_readsDatas_220
    · refine g_aload_n 0 0 dX17_readsDatas_33 rfl rfl ?_
      refine g_getI fdX17_251 dX17_readsDatas_34 ?_
      refine g_nmI (fun y1 => ?_)
      refine g_istore dX17_readsDatas_37 (by decide) rfl ?_
      refine g_aload_n 0 1 dX17_readsDatas_39 rfl rfl ?_
      refine g_callVT (fc := fun sς => Mdl_number sς x0 ) (ci := 17) (as := []) rfl rfl rfl q3619 qs215 q3617 mdX17_277 (ctX17_number x0 ) rfl (Nat.le_of_ble_eq_true rfl) (Nat.le_of_ble_eq_true rfl) (Nat.le_of_ble_eq_true rfl) pu_J (by decide) dX17_readsDatas_40 (fun r3 σ2 => ?_)
      refine g_lstore dX17_readsDatas_43 (by decide) rfl ?_
      refine g_lload 0 dX17_readsDatas_45 rfl ?_
      refine g_ldc2 q3762 dX17_readsDatas_47 ?_
      refine g_lcmp_le 62 dX17_readsDatas_50 dX17_readsDatas_51 (by decide) ?_ ?_
      · refine G.sub [2, 3, 4, 0] rfl ?_
        exact gX17_readsDatas_p62 (Mdl_readsDatas_p27 n) (gX17_readsDatas_p27 n) _ _ _ _ _
      · refine g_aload_n 0 2 dX17_readsDatas_54 rfl rfl ?_
        refine g_bipush (v := 7) dX17_readsDatas_55 (by decide) ?_
        refine g_iload 1 dX17_readsDatas_57 rfl ?_
        refine g_callVT (fc := fun sς => Mdl_stops sς x0 (7 : Int32) y1) (ci := 17) (as := [iv (7 : Int32), iv y1]) rfl rfl rfl q3606 qs214 q3604 mdX17_257 (ctX17_stops x0 (7 : Int32) y1) rfl (Nat.le_of_ble_eq_true rfl) (Nat.le_of_ble_eq_true rfl) (Nat.le_of_ble_eq_true rfl) pu_V (by decide) dX17_readsDatas_59 (fun _ σ4 => ?_)
        refine G.sub [2, 3, 4, 0] rfl ?_
        exact gX17_readsDatas_p62 (Mdl_readsDatas_p27 n) (gX17_readsDatas_p27 n) _ _ _ _ _
def V.Mdl_readsDatas (σ : HS) (x0 : Nat) : Option ((Nat ⊕ Unit) × HS) :=
  ck (tg σ x0 = 18) <| clT (Mdl_number σ x0 ) fun r2 σ1 =>
  ck (tg σ1 x0 = 18) <|
  ck (tg σ1 (gR σ1 x0 10) = 21) <| bn (sJ σ1 (gR σ1 x0 10) 43 r2) fun σ3 =>
  ck (tg σ3 x0 = 18) <|
  ck (tg σ3 x0 = 18) <| cl (Mdl_kept σ3 x0 r2) fun r5 σ4 =>
  ck (tg σ4 (gR σ3 x0 10) = 21) <| bn (sI σ4 (gR σ3 x0 10) 44 r5) fun σ6 =>
  Mdl_readsDatas_p27 FU σ6 x0 r2 (0 : Int64)
theorem V.ctX17_readsDatas (x0 : Nat) : Ct yX17_readsDatas  cX17_readsDatas 14 none 6 144 eXV [av x0] (fun σ => Mdl_readsDatas σ x0) := by
  refine Ct.of (own := RX17) (nm := "readsDatas") (desc := "()V") rfl (by decide) (Nat.le_of_ble_eq_true rfl) (by decide) (fun X σ => ?_)
  show G X RX17 "readsDatas" cX17_readsDatas 14 none 6 144 (enX enV (cxz X)) 0 [(0, av x0)] [] σ (Mdl_readsDatas σ x0)
  unfold Mdl_readsDatas
  refine g_aload_n 0 0 dX17_readsDatas_0 rfl rfl ?_
  refine g_callVT (fc := fun sς => Mdl_number sς x0 ) (ci := 17) (as := []) rfl rfl rfl q3619 qs215 q3617 mdX17_277 (ctX17_number x0 ) rfl (Nat.le_of_ble_eq_true rfl) (Nat.le_of_ble_eq_true rfl) (Nat.le_of_ble_eq_true rfl) pu_J (by decide) dX17_readsDatas_1 (fun r2 σ1 => ?_)
  refine g_lstore_n 1 dX17_readsDatas_4 rfl (by decide) rfl ?_
  refine g_aload_n 0 1 dX17_readsDatas_5 rfl rfl ?_
  refine g_getR fdX17_221 dX17_readsDatas_6 ?_
  refine g_lload_n 1 0 dX17_readsDatas_9 rfl rfl ?_
  refine g_putJ fpX17_321 dX17_readsDatas_10 (fun σ3 => ?_)
  refine g_aload_n 0 1 dX17_readsDatas_13 rfl rfl ?_
  refine g_getR fdX17_221 dX17_readsDatas_14 ?_
  refine g_aload_n 0 1 dX17_readsDatas_17 rfl rfl ?_
  refine g_lload_n 1 0 dX17_readsDatas_18 rfl rfl ?_
  refine g_callV (fc := fun sς => Mdl_kept sς x0 r2) (ci := 17) (as := [jv r2]) rfl rfl rfl q3643 qs220 mdX17_377 (ctX17_kept x0 r2) rfl (Nat.le_of_ble_eq_true rfl) (Nat.le_of_ble_eq_true rfl) (Nat.le_of_ble_eq_true rfl) pu_I dX17_readsDatas_19 (fun r5 σ4 => ?_)
  refine g_putI fpX17_529 dX17_readsDatas_22 (fun σ6 => ?_)
  refine g_lconst (v := 0) dX17_readsDatas_25 (by decide) ?_
  refine g_lstore_n 3 dX17_readsDatas_26 rfl (by decide) rfl ?_
  refine G.sub [2, 1, 0] rfl ?_
  exact gX17_readsDatas_p27 FU _ _ _ _
theorem V.dX17_readsSection_0 : decode cX17_readsSection 0 = .ok (.iload_n 1, 1) := by decide +kernel
theorem V.dX17_readsSection_1 : decode cX17_readsSection 1 = .ok (.tableswitch 162 0 11 #[63, 78, 85, 92, 99, 106, 113, 120, 127, 141, 148, 155], 63) := by decide +kernel
theorem V.dX17_readsSection_64 : decode cX17_readsSection 64 = .ok (.aload_n 0, 1) := by decide +kernel
theorem V.dX17_readsSection_65 : decode cX17_readsSection 65 = .ok (.invokevirtual 324, 3) := by decide +kernel
theorem V.dX17_readsSection_68 : decode cX17_readsSection 68 = .ok (.aload_n 0, 1) := by decide +kernel
theorem V.dX17_readsSection_69 : decode cX17_readsSection 69 = .ok (.aload_n 0, 1) := by decide +kernel
theorem V.dX17_readsSection_70 : decode cX17_readsSection 70 = .ok (.getfield 254, 3) := by decide +kernel
theorem V.dX17_readsSection_73 : decode cX17_readsSection 73 = .ok (.putfield 251, 3) := by decide +kernel
theorem V.dX17_readsSection_76 : decode cX17_readsSection 76 = .ok (.goto 98, 3) := by decide +kernel
theorem V.dX17_readsSection_79 : decode cX17_readsSection 79 = .ok (.aload_n 0, 1) := by decide +kernel
theorem V.dX17_readsSection_80 : decode cX17_readsSection 80 = .ok (.invokevirtual 327, 3) := by decide +kernel
theorem V.dX17_readsSection_83 : decode cX17_readsSection 83 = .ok (.goto 91, 3) := by decide +kernel
theorem V.dX17_readsSection_86 : decode cX17_readsSection 86 = .ok (.aload_n 0, 1) := by decide +kernel
theorem V.dX17_readsSection_87 : decode cX17_readsSection 87 = .ok (.invokevirtual 330, 3) := by decide +kernel
theorem V.dX17_readsSection_90 : decode cX17_readsSection 90 = .ok (.goto 84, 3) := by decide +kernel
theorem V.dX17_readsSection_93 : decode cX17_readsSection 93 = .ok (.aload_n 0, 1) := by decide +kernel
theorem V.dX17_readsSection_94 : decode cX17_readsSection 94 = .ok (.invokevirtual 333, 3) := by decide +kernel
theorem V.dX17_readsSection_97 : decode cX17_readsSection 97 = .ok (.goto 77, 3) := by decide +kernel
theorem V.dX17_readsSection_100 : decode cX17_readsSection 100 = .ok (.aload_n 0, 1) := by decide +kernel
theorem V.dX17_readsSection_101 : decode cX17_readsSection 101 = .ok (.invokevirtual 336, 3) := by decide +kernel
theorem V.dX17_readsSection_104 : decode cX17_readsSection 104 = .ok (.goto 70, 3) := by decide +kernel
theorem V.dX17_readsSection_107 : decode cX17_readsSection 107 = .ok (.aload_n 0, 1) := by decide +kernel
theorem V.dX17_readsSection_108 : decode cX17_readsSection 108 = .ok (.invokevirtual 339, 3) := by decide +kernel
theorem V.dX17_readsSection_111 : decode cX17_readsSection 111 = .ok (.goto 63, 3) := by decide +kernel
theorem V.dX17_readsSection_114 : decode cX17_readsSection 114 = .ok (.aload_n 0, 1) := by decide +kernel
theorem V.dX17_readsSection_115 : decode cX17_readsSection 115 = .ok (.invokevirtual 342, 3) := by decide +kernel
theorem V.dX17_readsSection_118 : decode cX17_readsSection 118 = .ok (.goto 56, 3) := by decide +kernel
theorem V.dX17_readsSection_121 : decode cX17_readsSection 121 = .ok (.aload_n 0, 1) := by decide +kernel
theorem V.dX17_readsSection_122 : decode cX17_readsSection 122 = .ok (.invokevirtual 345, 3) := by decide +kernel
theorem V.dX17_readsSection_125 : decode cX17_readsSection 125 = .ok (.goto 49, 3) := by decide +kernel
theorem V.dX17_readsSection_128 : decode cX17_readsSection 128 = .ok (.aload_n 0, 1) := by decide +kernel
theorem V.dX17_readsSection_129 : decode cX17_readsSection 129 = .ok (.getfield 221, 3) := by decide +kernel
theorem V.dX17_readsSection_132 : decode cX17_readsSection 132 = .ok (.aload_n 0, 1) := by decide +kernel
theorem V.dX17_readsSection_133 : decode cX17_readsSection 133 = .ok (.invokevirtual 277, 3) := by decide +kernel
theorem V.dX17_readsSection_136 : decode cX17_readsSection 136 = .ok (.putfield 348, 3) := by decide +kernel
theorem V.dX17_readsSection_139 : decode cX17_readsSection 139 = .ok (.goto 35, 3) := by decide +kernel
theorem V.dX17_readsSection_142 : decode cX17_readsSection 142 = .ok (.aload_n 0, 1) := by decide +kernel
theorem V.dX17_readsSection_143 : decode cX17_readsSection 143 = .ok (.invokevirtual 351, 3) := by decide +kernel
theorem V.dX17_readsSection_146 : decode cX17_readsSection 146 = .ok (.goto 28, 3) := by decide +kernel
theorem V.dX17_readsSection_149 : decode cX17_readsSection 149 = .ok (.aload_n 0, 1) := by decide +kernel
theorem V.dX17_readsSection_150 : decode cX17_readsSection 150 = .ok (.invokevirtual 354, 3) := by decide +kernel
theorem V.dX17_readsSection_153 : decode cX17_readsSection 153 = .ok (.goto 21, 3) := by decide +kernel
theorem V.dX17_readsSection_156 : decode cX17_readsSection 156 = .ok (.aload_n 0, 1) := by decide +kernel
theorem V.dX17_readsSection_157 : decode cX17_readsSection 157 = .ok (.invokevirtual 357, 3) := by decide +kernel
theorem V.dX17_readsSection_160 : decode cX17_readsSection 160 = .ok (.goto 14, 3) := by decide +kernel
theorem V.dX17_readsSection_163 : decode cX17_readsSection 163 = .ok (.aload_n 0, 1) := by decide +kernel
theorem V.dX17_readsSection_164 : decode cX17_readsSection 164 = .ok (.getfield 221, 3) := by decide +kernel
theorem V.dX17_readsSection_167 : decode cX17_readsSection 167 = .ok (.aload_n 0, 1) := by decide +kernel
theorem V.dX17_readsSection_168 : decode cX17_readsSection 168 = .ok (.invokevirtual 277, 3) := by decide +kernel
theorem V.dX17_readsSection_171 : decode cX17_readsSection 171 = .ok (.putfield 318, 3) := by decide +kernel
theorem V.dX17_readsSection_174 : decode cX17_readsSection 174 = .ok (.return_, 1) := by decide +kernel
theorem V.mdX17_327 : MD RX17 327 yX17_readsTypes cX17_readsTypes 9 none 0 := ⟨Or.inl q3637, q377, q3640, by decide, by decide, by decide +kernel⟩
theorem V.mdX17_330 : MD RX17 330 yX17_readsImports cX17_readsImports 10 none 0 := ⟨Or.inl q3665, q377, q3668, by decide, by decide, by decide +kernel⟩
theorem V.mdX17_333 : MD RX17 333 yX17_readsFunctions cX17_readsFunctions 7 none 0 := ⟨Or.inl q3682, q377, q3685, by decide, by decide, by decide +kernel⟩
theorem V.mdX17_336 : MD RX17 336 yX17_readsTables cX17_readsTables 6 none 0 := ⟨Or.inl q3686, q377, q3689, by decide, by decide, by decide +kernel⟩
theorem V.mdX17_339 : MD RX17 339 yX17_readsMemories cX17_readsMemories 5 none 0 := ⟨Or.inl q3690, q377, q3693, by decide, by decide, by decide +kernel⟩
theorem V.mdX17_342 : MD RX17 342 yX17_readsGlobals cX17_readsGlobals 8 none 0 := ⟨Or.inl q3694, q377, q3697, by decide, by decide, by decide +kernel⟩
theorem V.mdX17_345 : MD RX17 345 yX17_readsExports cX17_readsExports 10 none 0 := ⟨Or.inl q3735, q377, q3738, by decide, by decide, by decide +kernel⟩
theorem V.fpX17_348 {nm : String} : FP RX17 nm 348 20 33 (.long) := ⟨(RX20, TX20, 58), tyX20, rfl, rfl, in_X20, by decide, tyX20_ok, nmX20, rfl, Or.inl ⟨rfl, Or.inr ⟨_, q3426⟩⟩⟩
theorem V.mdX17_351 : MD RX17 351 yX17_readsElements cX17_readsElements 8 none 0 := ⟨Or.inl q3739, q377, q3742, by decide, by decide, by decide +kernel⟩
theorem V.mdX17_354 : MD RX17 354 yX17_readsBodies cX17_readsBodies 9 none 0 := ⟨Or.inl q3748, q377, q3751, by decide, by decide, by decide +kernel⟩
theorem V.mdX17_357 : MD RX17 357 yX17_readsDatas cX17_readsDatas 14 none 0 := ⟨Or.inl q3758, q377, q3761, by decide, by decide, by decide +kernel⟩
theorem V.fpX17_318 {nm : String} : FP RX17 nm 318 20 42 (.long) := ⟨(RX20, TX20, 58), tyX20, rfl, rfl, in_X20, by decide, tyX20_ok, nmX20, rfl, Or.inl ⟨rfl, Or.inr ⟨_, q3444⟩⟩⟩
/-! ModuleEngineModel.readsSection(I)V -/
def V.Mdl_readsSection (σ : HS) (x0 : Nat) (x1 : Int32) : Option ((Nat ⊕ Unit) × HS) :=
  swx x1 [
    (0, (
      ck (tg σ x0 = 18) <| clT (Mdl_name σ x0 ) fun _ σ1 =>
      ck (tg σ1 x0 = 18) <|
      ck (tg σ1 x0 = 18) <| bn (sI σ1 x0 11 (gI σ1 x0 12)) fun σ2 =>
      some (.inr (), σ2))),
    (1, (
      ck (tg σ x0 = 18) <| clT (Mdl_readsTypes σ x0 ) fun _ σ3 =>
      some (.inr (), σ3))),
    (2, (
      ck (tg σ x0 = 18) <| clT (Mdl_readsImports σ x0 ) fun _ σ4 =>
      some (.inr (), σ4))),
    (3, (
      ck (tg σ x0 = 18) <| clT (Mdl_readsFunctions σ x0 ) fun _ σ5 =>
      some (.inr (), σ5))),
    (4, (
      ck (tg σ x0 = 18) <| clT (Mdl_readsTables σ x0 ) fun _ σ6 =>
      some (.inr (), σ6))),
    (5, (
      ck (tg σ x0 = 18) <| clT (Mdl_readsMemories σ x0 ) fun _ σ7 =>
      some (.inr (), σ7))),
    (6, (
      ck (tg σ x0 = 18) <| clT (Mdl_readsGlobals σ x0 ) fun _ σ8 =>
      some (.inr (), σ8))),
    (7, (
      ck (tg σ x0 = 18) <| clT (Mdl_readsExports σ x0 ) fun _ σ9 =>
      some (.inr (), σ9))),
    (8, (
      ck (tg σ x0 = 18) <|
      ck (tg σ x0 = 18) <| clT (Mdl_number σ x0 ) fun r11 σ10 =>
      ck (tg σ10 (gR σ x0 10) = 21) <| bn (sJ σ10 (gR σ x0 10) 33 r11) fun σ12 =>
      some (.inr (), σ12))),
    (9, (
      ck (tg σ x0 = 18) <| clT (Mdl_readsElements σ x0 ) fun _ σ13 =>
      some (.inr (), σ13))),
    (10, (
      ck (tg σ x0 = 18) <| clT (Mdl_readsBodies σ x0 ) fun _ σ14 =>
      some (.inr (), σ14))),
    (11, (
      ck (tg σ x0 = 18) <| clT (Mdl_readsDatas σ x0 ) fun _ σ15 =>
      some (.inr (), σ15)))
    ] (
    ck (tg σ x0 = 18) <|
    ck (tg σ x0 = 18) <| clT (Mdl_number σ x0 ) fun r17 σ16 =>
    ck (tg σ16 (gR σ x0 10) = 21) <| bn (sJ σ16 (gR σ x0 10) 42 r17) fun σ18 =>
    some (.inr (), σ18))
theorem V.ctX17_readsSection (x0 : Nat) (x1 : Int32) : Ct yX17_readsSection  cX17_readsSection 2 none 8 201 eXV [av x0, iv x1] (fun σ => Mdl_readsSection σ x0 x1) := by
  refine Ct.of (own := RX17) (nm := "readsSection") (desc := "(I)V") rfl (by decide) (Nat.le_of_ble_eq_true rfl) (by decide) (fun X σ => ?_)
  show G X RX17 "readsSection" cX17_readsSection 2 none 8 201 (enX enV (cxz X)) 0 [(0, av x0), (1, iv x1)] [] σ (Mdl_readsSection σ x0 x1)
  unfold Mdl_readsSection
  refine g_iload_n 1 1 dX17_readsSection_0 rfl rfl ?_
  refine g_tsw dX17_readsSection_1 (by decide +kernel) ?_
  refine g_case ex0 (t := 64) (by decide +kernel) ?_ (fun hx => ?_)
  · refine g_aload_n 0 0 dX17_readsSection_64 rfl rfl ?_
    refine g_callVT (fc := fun sς => Mdl_name sς x0 ) (ci := 17) (as := []) rfl rfl rfl q3627 qs217 q3625 mdX17_324 (ctX17_name x0 ) rfl (Nat.le_of_ble_eq_true rfl) (Nat.le_of_ble_eq_true rfl) (Nat.le_of_ble_eq_true rfl) pu_V (by decide) dX17_readsSection_65 (fun _ σ1 => ?_)
    refine g_aload_n 0 0 dX17_readsSection_68 rfl rfl ?_
    refine g_aload_n 0 0 dX17_readsSection_69 rfl rfl ?_
    refine g_getI fdX17_254 dX17_readsSection_70 ?_
    refine g_putI fpX17_251 dX17_readsSection_73 (fun σ2 => ?_)
    refine g_goto 174 dX17_readsSection_76 (by decide) ?_
    exact g_return rfl dX17_readsSection_174
  refine g_case hx (t := 79) (by decide +kernel) ?_ (fun hx => ?_)
  · refine g_aload_n 0 0 dX17_readsSection_79 rfl rfl ?_
    refine g_callVT (fc := fun sς => Mdl_readsTypes sς x0 ) (ci := 17) (as := []) rfl rfl rfl q3639 qs219 q3637 mdX17_327 (ctX17_readsTypes x0 ) rfl (Nat.le_of_ble_eq_true rfl) (Nat.le_of_ble_eq_true rfl) (Nat.le_of_ble_eq_true rfl) pu_V (by decide) dX17_readsSection_80 (fun _ σ3 => ?_)
    refine g_goto 174 dX17_readsSection_83 (by decide) ?_
    exact g_return rfl dX17_readsSection_174
  refine g_case hx (t := 86) (by decide +kernel) ?_ (fun hx => ?_)
  · refine g_aload_n 0 0 dX17_readsSection_86 rfl rfl ?_
    refine g_callVT (fc := fun sς => Mdl_readsImports sς x0 ) (ci := 17) (as := []) rfl rfl rfl q3667 qs224 q3665 mdX17_330 (ctX17_readsImports x0 ) rfl (Nat.le_of_ble_eq_true rfl) (Nat.le_of_ble_eq_true rfl) (Nat.le_of_ble_eq_true rfl) pu_V (by decide) dX17_readsSection_87 (fun _ σ4 => ?_)
    refine g_goto 174 dX17_readsSection_90 (by decide) ?_
    exact g_return rfl dX17_readsSection_174
  refine g_case hx (t := 93) (by decide +kernel) ?_ (fun hx => ?_)
  · refine g_aload_n 0 0 dX17_readsSection_93 rfl rfl ?_
    refine g_callVT (fc := fun sς => Mdl_readsFunctions sς x0 ) (ci := 17) (as := []) rfl rfl rfl q3684 qs228 q3682 mdX17_333 (ctX17_readsFunctions x0 ) rfl (Nat.le_of_ble_eq_true rfl) (Nat.le_of_ble_eq_true rfl) (Nat.le_of_ble_eq_true rfl) pu_V (by decide) dX17_readsSection_94 (fun _ σ5 => ?_)
    refine g_goto 174 dX17_readsSection_97 (by decide) ?_
    exact g_return rfl dX17_readsSection_174
  refine g_case hx (t := 100) (by decide +kernel) ?_ (fun hx => ?_)
  · refine g_aload_n 0 0 dX17_readsSection_100 rfl rfl ?_
    refine g_callVT (fc := fun sς => Mdl_readsTables sς x0 ) (ci := 17) (as := []) rfl rfl rfl q3688 qs229 q3686 mdX17_336 (ctX17_readsTables x0 ) rfl (Nat.le_of_ble_eq_true rfl) (Nat.le_of_ble_eq_true rfl) (Nat.le_of_ble_eq_true rfl) pu_V (by decide) dX17_readsSection_101 (fun _ σ6 => ?_)
    refine g_goto 174 dX17_readsSection_104 (by decide) ?_
    exact g_return rfl dX17_readsSection_174
  refine g_case hx (t := 107) (by decide +kernel) ?_ (fun hx => ?_)
  · refine g_aload_n 0 0 dX17_readsSection_107 rfl rfl ?_
    refine g_callVT (fc := fun sς => Mdl_readsMemories sς x0 ) (ci := 17) (as := []) rfl rfl rfl q3692 qs230 q3690 mdX17_339 (ctX17_readsMemories x0 ) rfl (Nat.le_of_ble_eq_true rfl) (Nat.le_of_ble_eq_true rfl) (Nat.le_of_ble_eq_true rfl) pu_V (by decide) dX17_readsSection_108 (fun _ σ7 => ?_)
    refine g_goto 174 dX17_readsSection_111 (by decide) ?_
    exact g_return rfl dX17_readsSection_174
  refine g_case hx (t := 114) (by decide +kernel) ?_ (fun hx => ?_)
  · refine g_aload_n 0 0 dX17_readsSection_114 rfl rfl ?_
    refine g_callVT (fc := fun sς => Mdl_readsGlobals sς x0 ) (ci := 17) (as := []) rfl rfl rfl q3696 qs231 q3694 mdX17_342 (ctX17_readsGlobals x0 ) rfl (Nat.le_of_ble_eq_true rfl) (Nat.le_of_ble_eq_true rfl) (Nat.le_of_ble_eq_true rfl) pu_V (by decide) dX17_readsSection_115 (fun _ σ8 => ?_)
    refine g_goto 174 dX17_readsSection_118 (by decide) ?_
    exact g_return rfl dX17_readsSection_174
  refine g_case hx (t := 121) (by decide +kernel) ?_ (fun hx => ?_)
  · refine g_aload_n 0 0 dX17_readsSection_121 rfl rfl ?_
    refine g_callVT (fc := fun sς => Mdl_readsExports sς x0 ) (ci := 17) (as := []) rfl rfl rfl q3737 qs237 q3735 mdX17_345 (ctX17_readsExports x0 ) rfl (Nat.le_of_ble_eq_true rfl) (Nat.le_of_ble_eq_true rfl) (Nat.le_of_ble_eq_true rfl) pu_V (by decide) dX17_readsSection_122 (fun _ σ9 => ?_)
    refine g_goto 174 dX17_readsSection_125 (by decide) ?_
    exact g_return rfl dX17_readsSection_174
  refine g_case hx (t := 128) (by decide +kernel) ?_ (fun hx => ?_)
  · refine g_aload_n 0 0 dX17_readsSection_128 rfl rfl ?_
    refine g_getR fdX17_221 dX17_readsSection_129 ?_
    refine g_aload_n 0 0 dX17_readsSection_132 rfl rfl ?_
    refine g_callVT (fc := fun sς => Mdl_number sς x0 ) (ci := 17) (as := []) rfl rfl rfl q3619 qs215 q3617 mdX17_277 (ctX17_number x0 ) rfl (Nat.le_of_ble_eq_true rfl) (Nat.le_of_ble_eq_true rfl) (Nat.le_of_ble_eq_true rfl) pu_J (by decide) dX17_readsSection_133 (fun r11 σ10 => ?_)
    refine g_putJ fpX17_348 dX17_readsSection_136 (fun σ12 => ?_)
    refine g_goto 174 dX17_readsSection_139 (by decide) ?_
    exact g_return rfl dX17_readsSection_174
  refine g_case hx (t := 142) (by decide +kernel) ?_ (fun hx => ?_)
  · refine g_aload_n 0 0 dX17_readsSection_142 rfl rfl ?_
    refine g_callVT (fc := fun sς => Mdl_readsElements sς x0 ) (ci := 17) (as := []) rfl rfl rfl q3741 qs238 q3739 mdX17_351 (ctX17_readsElements x0 ) rfl (Nat.le_of_ble_eq_true rfl) (Nat.le_of_ble_eq_true rfl) (Nat.le_of_ble_eq_true rfl) pu_V (by decide) dX17_readsSection_143 (fun _ σ13 => ?_)
    refine g_goto 174 dX17_readsSection_146 (by decide) ?_
    exact g_return rfl dX17_readsSection_174
  refine g_case hx (t := 149) (by decide +kernel) ?_ (fun hx => ?_)
  · refine g_aload_n 0 0 dX17_readsSection_149 rfl rfl ?_
    refine g_callVT (fc := fun sς => Mdl_readsBodies sς x0 ) (ci := 17) (as := []) rfl rfl rfl q3750 qs240 q3748 mdX17_354 (ctX17_readsBodies x0 ) rfl (Nat.le_of_ble_eq_true rfl) (Nat.le_of_ble_eq_true rfl) (Nat.le_of_ble_eq_true rfl) pu_V (by decide) dX17_readsSection_150 (fun _ σ14 => ?_)
    refine g_goto 174 dX17_readsSection_153 (by decide) ?_
    exact g_return rfl dX17_readsSection_174
  refine g_case hx (t := 156) (by decide +kernel) ?_ (fun hx => ?_)
  · refine g_aload_n 0 0 dX17_readsSection_156 rfl rfl ?_
    refine g_callVT (fc := fun sς => Mdl_readsDatas sς x0 ) (ci := 17) (as := []) rfl rfl rfl q3760 qs242 q3758 mdX17_357 (ctX17_readsDatas x0 ) rfl (Nat.le_of_ble_eq_true rfl) (Nat.le_of_ble_eq_true rfl) (Nat.le_of_ble_eq_true rfl) pu_V (by decide) dX17_readsSection_157 (fun _ σ15 => ?_)
    refine g_goto 174 dX17_readsSection_160 (by decide) ?_
    exact g_return rfl dX17_readsSection_174
  refine g_dflt (t := 163) (tswT_d (by decide +kernel) (by decide +kernel) hx) ?_
  refine g_aload_n 0 0 dX17_readsSection_163 rfl rfl ?_
  refine g_getR fdX17_221 dX17_readsSection_164 ?_
  refine g_aload_n 0 0 dX17_readsSection_167 rfl rfl ?_
  refine g_callVT (fc := fun sς => Mdl_number sς x0 ) (ci := 17) (as := []) rfl rfl rfl q3619 qs215 q3617 mdX17_277 (ctX17_number x0 ) rfl (Nat.le_of_ble_eq_true rfl) (Nat.le_of_ble_eq_true rfl) (Nat.le_of_ble_eq_true rfl) pu_J (by decide) dX17_readsSection_168 (fun r17 σ16 => ?_)
  refine g_putJ fpX17_318 dX17_readsSection_171 (fun σ18 => ?_)
  exact g_return rfl dX17_readsSection_174
theorem V.dX17_readsAll_0 : decode cX17_readsAll 0 = .ok (.aload_n 0, 1) := by decide +kernel
theorem V.dX17_readsAll_1 : decode cX17_readsAll 1 = .ok (.iconst 0, 1) := by decide +kernel
theorem V.dX17_readsAll_2 : decode cX17_readsAll 2 = .ok (.putfield 251, 3) := by decide +kernel
theorem V.dX17_readsAll_5 : decode cX17_readsAll 5 = .ok (.aload_n 0, 1) := by decide +kernel
theorem V.dX17_readsAll_6 : decode cX17_readsAll 6 = .ok (.aload_n 0, 1) := by decide +kernel
theorem V.dX17_readsAll_7 : decode cX17_readsAll 7 = .ok (.getfield 221, 3) := by decide +kernel
theorem V.dX17_readsAll_10 : decode cX17_readsAll 10 = .ok (.getfield 292, 3) := by decide +kernel
theorem V.dX17_readsAll_13 : decode cX17_readsAll 13 = .ok (.putfield 254, 3) := by decide +kernel
theorem V.dX17_readsAll_16 : decode cX17_readsAll 16 = .ok (.bipush 56, 2) := by decide +kernel
theorem V.dX17_readsAll_18 : decode cX17_readsAll 18 = .ok (.istore_n 1, 1) := by decide +kernel
theorem V.dX17_readsAll_19 : decode cX17_readsAll 19 = .ok (.iload_n 1, 1) := by decide +kernel
theorem V.dX17_readsAll_20 : decode cX17_readsAll 20 = .ok (.ifCond .lt 39, 3) := by decide +kernel
theorem V.dX17_readsAll_23 : decode cX17_readsAll 23 = .ok (.aload_n 0, 1) := by decide +kernel
theorem V.dX17_readsAll_24 : decode cX17_readsAll 24 = .ok (.invokevirtual 264, 3) := by decide +kernel
theorem V.dX17_readsAll_27 : decode cX17_readsAll 27 = .ok (.istore_n 2, 1) := by decide +kernel
theorem V.dX17_readsAll_28 : decode cX17_readsAll 28 = .ok (.iload_n 2, 1) := by decide +kernel
theorem V.dX17_readsAll_29 : decode cX17_readsAll 29 = .ok (.ldc2_w 295, 3) := by decide +kernel
theorem V.dX17_readsAll_32 : decode cX17_readsAll 32 = .ok (.iload_n 1, 1) := by decide +kernel
theorem V.dX17_readsAll_33 : decode cX17_readsAll 33 = .ok (.lshr, 1) := by decide +kernel
theorem V.dX17_readsAll_34 : decode cX17_readsAll 34 = .ok (.ldc2_w 297, 3) := by decide +kernel
theorem V.dX17_readsAll_37 : decode cX17_readsAll 37 = .ok (.land, 1) := by decide +kernel
theorem V.dX17_readsAll_38 : decode cX17_readsAll 38 = .ok (.l2i, 1) := by decide +kernel
theorem V.dX17_readsAll_39 : decode cX17_readsAll 39 = .ok (.if_icmp .eq 14, 3) := by decide +kernel
theorem V.dX17_readsAll_42 : decode cX17_readsAll 42 = .ok (.aload_n 0, 1) := by decide +kernel
theorem V.dX17_readsAll_43 : decode cX17_readsAll 43 = .ok (.iconst 5, 1) := by decide +kernel
theorem V.dX17_readsAll_44 : decode cX17_readsAll 44 = .ok (.aload_n 0, 1) := by decide +kernel
theorem V.dX17_readsAll_45 : decode cX17_readsAll 45 = .ok (.getfield 251, 3) := by decide +kernel
theorem V.dX17_readsAll_48 : decode cX17_readsAll 48 = .ok (.iconst 1, 1) := by decide +kernel
theorem V.dX17_readsAll_49 : decode cX17_readsAll 49 = .ok (.isub, 1) := by decide +kernel
theorem V.dX17_readsAll_50 : decode cX17_readsAll 50 = .ok (.invokevirtual 257, 3) := by decide +kernel
theorem V.dX17_readsAll_53 : decode cX17_readsAll 53 = .ok (.iinc 1 (-8), 3) := by decide +kernel
theorem V.dX17_readsAll_56 : decode cX17_readsAll 56 = .ok (.goto (-37), 3) := by decide +kernel
theorem V.dX17_readsAll_59 : decode cX17_readsAll 59 = .ok (.iconst 0, 1) := by decide +kernel
theorem V.dX17_readsAll_60 : decode cX17_readsAll 60 = .ok (.istore_n 1, 1) := by decide +kernel
theorem V.dX17_readsAll_61 : decode cX17_readsAll 61 = .ok (.aload_n 0, 1) := by decide +kernel
theorem V.dX17_readsAll_62 : decode cX17_readsAll 62 = .ok (.getfield 251, 3) := by decide +kernel
theorem V.dX17_readsAll_65 : decode cX17_readsAll 65 = .ok (.aload_n 0, 1) := by decide +kernel
theorem V.dX17_readsAll_66 : decode cX17_readsAll 66 = .ok (.getfield 221, 3) := by decide +kernel
theorem V.dX17_readsAll_69 : decode cX17_readsAll 69 = .ok (.getfield 292, 3) := by decide +kernel
theorem V.dX17_readsAll_72 : decode cX17_readsAll 72 = .ok (.if_icmp .ge 151, 3) := by decide +kernel
theorem V.dX17_readsAll_75 : decode cX17_readsAll 75 = .ok (.aload_n 0, 1) := by decide +kernel
theorem V.dX17_readsAll_76 : decode cX17_readsAll 76 = .ok (.getfield 251, 3) := by decide +kernel
theorem V.dX17_readsAll_79 : decode cX17_readsAll 79 = .ok (.istore_n 2, 1) := by decide +kernel
theorem V.dX17_readsAll_80 : decode cX17_readsAll 80 = .ok (.aload_n 0, 1) := by decide +kernel
theorem V.dX17_readsAll_81 : decode cX17_readsAll 81 = .ok (.invokevirtual 264, 3) := by decide +kernel
theorem V.dX17_readsAll_84 : decode cX17_readsAll 84 = .ok (.istore_n 3, 1) := by decide +kernel
theorem V.dX17_readsAll_85 : decode cX17_readsAll 85 = .ok (.iload_n 3, 1) := by decide +kernel
theorem V.dX17_readsAll_86 : decode cX17_readsAll 86 = .ok (.bipush 12, 2) := by decide +kernel
theorem V.dX17_readsAll_88 : decode cX17_readsAll 88 = .ok (.if_icmp .gt 15, 3) := by decide +kernel
theorem V.dX17_readsAll_91 : decode cX17_readsAll 91 = .ok (.iload_n 3, 1) := by decide +kernel
theorem V.dX17_readsAll_92 : decode cX17_readsAll 92 = .ok (.ifCond .le 18, 3) := by decide +kernel
theorem V.dX17_readsAll_95 : decode cX17_readsAll 95 = .ok (.iload_n 3, 1) := by decide +kernel
theorem V.dX17_readsAll_96 : decode cX17_readsAll 96 = .ok (.invokestatic 299, 3) := by decide +kernel
theorem V.dX17_readsAll_99 : decode cX17_readsAll 99 = .ok (.iload_n 1, 1) := by decide +kernel
theorem V.dX17_readsAll_100 : decode cX17_readsAll 100 = .ok (.if_icmp .gt 10, 3) := by decide +kernel
theorem V.dX17_readsAll_103 : decode cX17_readsAll 103 = .ok (.aload_n 0, 1) := by decide +kernel
theorem V.dX17_readsAll_104 : decode cX17_readsAll 104 = .ok (.bipush 6, 2) := by decide +kernel
theorem V.dX17_readsAll_106 : decode cX17_readsAll 106 = .ok (.iload_n 2, 1) := by decide +kernel
theorem V.dX17_readsAll_107 : decode cX17_readsAll 107 = .ok (.invokevirtual 257, 3) := by decide +kernel
theorem V.dX17_readsAll_110 : decode cX17_readsAll 110 = .ok (.iload_n 3, 1) := by decide +kernel
theorem V.dX17_readsAll_111 : decode cX17_readsAll 111 = .ok (.ifCond .le 18, 3) := by decide +kernel
theorem V.dX17_readsAll_114 : decode cX17_readsAll 114 = .ok (.iload_n 3, 1) := by decide +kernel
theorem V.dX17_readsAll_115 : decode cX17_readsAll 115 = .ok (.invokestatic 299, 3) := by decide +kernel
theorem V.dX17_readsAll_118 : decode cX17_readsAll 118 = .ok (.istore_n 1, 1) := by decide +kernel
theorem V.dX17_readsAll_119 : decode cX17_readsAll 119 = .ok (.aload_n 0, 1) := by decide +kernel
theorem V.dX17_readsAll_120 : decode cX17_readsAll 120 = .ok (.getfield 221, 3) := by decide +kernel
theorem V.dX17_readsAll_123 : decode cX17_readsAll 123 = .ok (.getfield 302, 3) := by decide +kernel
theorem V.dX17_readsAll_126 : decode cX17_readsAll 126 = .ok (.iload_n 3, 1) := by decide +kernel
theorem V.dX17_readsAll_127 : decode cX17_readsAll 127 = .ok (.iload_n 2, 1) := by decide +kernel
theorem V.dX17_readsAll_128 : decode cX17_readsAll 128 = .ok (.iastore, 1) := by decide +kernel
theorem V.dX17_readsAll_129 : decode cX17_readsAll 129 = .ok (.aload_n 0, 1) := by decide +kernel
theorem V.dX17_readsAll_130 : decode cX17_readsAll 130 = .ok (.iload_n 2, 1) := by decide +kernel
theorem V.dX17_readsAll_131 : decode cX17_readsAll 131 = .ok (.putfield 305, 3) := by decide +kernel
theorem V.dX17_readsAll_134 : decode cX17_readsAll 134 = .ok (.aload_n 0, 1) := by decide +kernel
theorem V.dX17_readsAll_135 : decode cX17_readsAll 135 = .ok (.getfield 251, 3) := by decide +kernel
theorem V.dX17_readsAll_138 : decode cX17_readsAll 138 = .ok (.istore 4, 2) := by decide +kernel
theorem V.dX17_readsAll_140 : decode cX17_readsAll 140 = .ok (.aload_n 0, 1) := by decide +kernel
theorem V.dX17_readsAll_141 : decode cX17_readsAll 141 = .ok (.invokevirtual 277, 3) := by decide +kernel
theorem V.dX17_readsAll_144 : decode cX17_readsAll 144 = .ok (.lstore 5, 2) := by decide +kernel
theorem V.dX17_readsAll_146 : decode cX17_readsAll 146 = .ok (.lload 5, 2) := by decide +kernel
theorem V.dX17_readsAll_148 : decode cX17_readsAll 148 = .ok (.aload_n 0, 1) := by decide +kernel
theorem V.dX17_readsAll_149 : decode cX17_readsAll 149 = .ok (.getfield 221, 3) := by decide +kernel
theorem V.dX17_readsAll_152 : decode cX17_readsAll 152 = .ok (.getfield 292, 3) := by decide +kernel
theorem V.dX17_readsAll_155 : decode cX17_readsAll 155 = .ok (.aload_n 0, 1) := by decide +kernel
theorem V.dX17_readsAll_156 : decode cX17_readsAll 156 = .ok (.getfield 251, 3) := by decide +kernel
theorem V.dX17_readsAll_159 : decode cX17_readsAll 159 = .ok (.isub, 1) := by decide +kernel
theorem V.dX17_readsAll_160 : decode cX17_readsAll 160 = .ok (.i2l, 1) := by decide +kernel
theorem V.dX17_readsAll_161 : decode cX17_readsAll 161 = .ok (.lcmp, 1) := by decide +kernel
theorem V.dX17_readsAll_162 : decode cX17_readsAll 162 = .ok (.ifCond .le 10, 3) := by decide +kernel
theorem V.dX17_readsAll_165 : decode cX17_readsAll 165 = .ok (.aload_n 0, 1) := by decide +kernel
theorem V.dX17_readsAll_166 : decode cX17_readsAll 166 = .ok (.iconst 2, 1) := by decide +kernel
theorem V.dX17_readsAll_167 : decode cX17_readsAll 167 = .ok (.iload 4, 2) := by decide +kernel
theorem V.dX17_readsAll_169 : decode cX17_readsAll 169 = .ok (.invokevirtual 257, 3) := by decide +kernel
theorem V.dX17_readsAll_172 : decode cX17_readsAll 172 = .ok (.aload_n 0, 1) := by decide +kernel
theorem V.dX17_readsAll_173 : decode cX17_readsAll 173 = .ok (.aload_n 0, 1) := by decide +kernel
theorem V.dX17_readsAll_174 : decode cX17_readsAll 174 = .ok (.getfield 251, 3) := by decide +kernel
theorem V.dX17_readsAll_177 : decode cX17_readsAll 177 = .ok (.lload 5, 2) := by decide +kernel
theorem V.dX17_readsAll_179 : decode cX17_readsAll 179 = .ok (.l2i, 1) := by decide +kernel
theorem V.dX17_readsAll_180 : decode cX17_readsAll 180 = .ok (.iadd, 1) := by decide +kernel
theorem V.dX17_readsAll_181 : decode cX17_readsAll 181 = .ok (.putfield 254, 3) := by decide +kernel
theorem V.dX17_readsAll_184 : decode cX17_readsAll 184 = .ok (.aload_n 0, 1) := by decide +kernel
theorem V.dX17_readsAll_185 : decode cX17_readsAll 185 = .ok (.iload_n 3, 1) := by decide +kernel
theorem V.dX17_readsAll_186 : decode cX17_readsAll 186 = .ok (.invokevirtual 308, 3) := by decide +kernel
theorem V.dX17_readsAll_189 : decode cX17_readsAll 189 = .ok (.aload_n 0, 1) := by decide +kernel
theorem V.dX17_readsAll_190 : decode cX17_readsAll 190 = .ok (.getfield 251, 3) := by decide +kernel
theorem V.dX17_readsAll_193 : decode cX17_readsAll 193 = .ok (.aload_n 0, 1) := by decide +kernel
theorem V.dX17_readsAll_194 : decode cX17_readsAll 194 = .ok (.getfield 254, 3) := by decide +kernel
theorem V.dX17_readsAll_197 : decode cX17_readsAll 197 = .ok (.if_icmp .ge 12, 3) := by decide +kernel
theorem V.dX17_readsAll_200 : decode cX17_readsAll 200 = .ok (.aload_n 0, 1) := by decide +kernel
theorem V.dX17_readsAll_201 : decode cX17_readsAll 201 = .ok (.iconst 3, 1) := by decide +kernel
theorem V.dX17_readsAll_202 : decode cX17_readsAll 202 = .ok (.aload_n 0, 1) := by decide +kernel
theorem V.dX17_readsAll_203 : decode cX17_readsAll 203 = .ok (.getfield 251, 3) := by decide +kernel
theorem V.dX17_readsAll_206 : decode cX17_readsAll 206 = .ok (.invokevirtual 257, 3) := by decide +kernel
theorem V.dX17_readsAll_209 : decode cX17_readsAll 209 = .ok (.aload_n 0, 1) := by decide +kernel
theorem V.dX17_readsAll_210 : decode cX17_readsAll 210 = .ok (.aload_n 0, 1) := by decide +kernel
theorem V.dX17_readsAll_211 : decode cX17_readsAll 211 = .ok (.getfield 221, 3) := by decide +kernel
theorem V.dX17_readsAll_214 : decode cX17_readsAll 214 = .ok (.getfield 292, 3) := by decide +kernel
theorem V.dX17_readsAll_217 : decode cX17_readsAll 217 = .ok (.putfield 254, 3) := by decide +kernel
theorem V.dX17_readsAll_220 : decode cX17_readsAll 220 = .ok (.goto (-159), 3) := by decide +kernel
theorem V.dX17_readsAll_223 : decode cX17_readsAll 223 = .ok (.aload_n 0, 1) := by decide +kernel
theorem V.dX17_readsAll_224 : decode cX17_readsAll 224 = .ok (.getfield 221, 3) := by decide +kernel
theorem V.dX17_readsAll_227 : decode cX17_readsAll 227 = .ok (.getfield 311, 3) := by decide +kernel
theorem V.dX17_readsAll_230 : decode cX17_readsAll 230 = .ok (.aload_n 0, 1) := by decide +kernel
theorem V.dX17_readsAll_231 : decode cX17_readsAll 231 = .ok (.getfield 221, 3) := by decide +kernel
theorem V.dX17_readsAll_234 : decode cX17_readsAll 234 = .ok (.getfield 315, 3) := by decide +kernel
theorem V.dX17_readsAll_237 : decode cX17_readsAll 237 = .ok (.lcmp, 1) := by decide +kernel
theorem V.dX17_readsAll_238 : decode cX17_readsAll 238 = .ok (.ifCond .eq 16, 3) := by decide +kernel
theorem V.dX17_readsAll_241 : decode cX17_readsAll 241 = .ok (.aload_n 0, 1) := by decide +kernel
theorem V.dX17_readsAll_242 : decode cX17_readsAll 242 = .ok (.bipush 13, 2) := by decide +kernel
theorem V.dX17_readsAll_244 : decode cX17_readsAll 244 = .ok (.aload_n 0, 1) := by decide +kernel
theorem V.dX17_readsAll_245 : decode cX17_readsAll 245 = .ok (.getfield 221, 3) := by decide +kernel
theorem V.dX17_readsAll_248 : decode cX17_readsAll 248 = .ok (.getfield 292, 3) := by decide +kernel
theorem V.dX17_readsAll_251 : decode cX17_readsAll 251 = .ok (.invokevirtual 257, 3) := by decide +kernel
theorem V.dX17_readsAll_254 : decode cX17_readsAll 254 = .ok (.aload_n 0, 1) := by decide +kernel
theorem V.dX17_readsAll_255 : decode cX17_readsAll 255 = .ok (.getfield 221, 3) := by decide +kernel
theorem V.dX17_readsAll_258 : decode cX17_readsAll 258 = .ok (.getfield 318, 3) := by decide +kernel
theorem V.dX17_readsAll_261 : decode cX17_readsAll 261 = .ok (.lconst 0, 1) := by decide +kernel
theorem V.dX17_readsAll_262 : decode cX17_readsAll 262 = .ok (.lcmp, 1) := by decide +kernel
theorem V.dX17_readsAll_263 : decode cX17_readsAll 263 = .ok (.ifCond .lt 34, 3) := by decide +kernel
theorem V.dX17_readsAll_266 : decode cX17_readsAll 266 = .ok (.aload_n 0, 1) := by decide +kernel
theorem V.dX17_readsAll_267 : decode cX17_readsAll 267 = .ok (.getfield 221, 3) := by decide +kernel
theorem V.dX17_readsAll_270 : decode cX17_readsAll 270 = .ok (.getfield 318, 3) := by decide +kernel
theorem V.dX17_readsAll_273 : decode cX17_readsAll 273 = .ok (.aload_n 0, 1) := by decide +kernel
theorem V.dX17_readsAll_274 : decode cX17_readsAll 274 = .ok (.getfield 221, 3) := by decide +kernel
theorem V.dX17_readsAll_277 : decode cX17_readsAll 277 = .ok (.getfield 321, 3) := by decide +kernel
theorem V.dX17_readsAll_280 : decode cX17_readsAll 280 = .ok (.lcmp, 1) := by decide +kernel
theorem V.dX17_readsAll_281 : decode cX17_readsAll 281 = .ok (.ifCond .eq 16, 3) := by decide +kernel
theorem V.dX17_readsAll_284 : decode cX17_readsAll 284 = .ok (.aload_n 0, 1) := by decide +kernel
theorem V.dX17_readsAll_285 : decode cX17_readsAll 285 = .ok (.bipush 14, 2) := by decide +kernel
theorem V.dX17_readsAll_287 : decode cX17_readsAll 287 = .ok (.aload_n 0, 1) := by decide +kernel
theorem V.dX17_readsAll_288 : decode cX17_readsAll 288 = .ok (.getfield 221, 3) := by decide +kernel
theorem V.dX17_readsAll_291 : decode cX17_readsAll 291 = .ok (.getfield 292, 3) := by decide +kernel
theorem V.dX17_readsAll_294 : decode cX17_readsAll 294 = .ok (.invokevirtual 257, 3) := by decide +kernel
theorem V.dX17_readsAll_297 : decode cX17_readsAll 297 = .ok (.return_, 1) := by decide +kernel
theorem V.fdX17_292 : FD RX17 292 20 1 0 := ⟨(RX20, TX20, 58), tyX20, rfl, rfl, in_X20, by decide, Or.inr ⟨_, q3362⟩, rfl⟩
theorem V.fdX17_311 : FD RX17 311 20 14 1 := ⟨(RX20, TX20, 58), tyX20, rfl, rfl, in_X20, by decide, Or.inr ⟨_, q3388⟩, rfl⟩
theorem V.fdX17_315 : FD RX17 315 20 50 1 := ⟨(RX20, TX20, 58), tyX20, rfl, rfl, in_X20, by decide, Or.inr ⟨_, q3460⟩, rfl⟩
theorem V.mdX17_299 : MD RX17 299 yX17_rank cX17_rank 1 (some .int) 1 := ⟨Or.inl q3614, q377, q3616, by decide, by decide, by decide +kernel⟩
theorem V.fdX17_318 : FD RX17 318 20 42 1 := ⟨(RX20, TX20, 58), tyX20, rfl, rfl, in_X20, by decide, Or.inr ⟨_, q3444⟩, rfl⟩
theorem V.fdX17_321 : FD RX17 321 20 43 1 := ⟨(RX20, TX20, 58), tyX20, rfl, rfl, in_X20, by decide, Or.inr ⟨_, q3446⟩, rfl⟩
theorem V.fpX17_305 {nm : String} : FP RX17 nm 305 17 13 (.int) := ⟨(RX17, TX17, 101), tyX17, rfl, rfl, in_X17, by decide, tyX17_ok, nmX17, rfl, Or.inl ⟨rfl, Or.inl q3049⟩⟩
theorem V.mdX17_308 : MD RX17 308 yX17_readsSection cX17_readsSection 2 none 1 := ⟨Or.inl q3621, q377, q3624, by decide, by decide, by decide +kernel⟩
/-! ModuleEngineModel.readsAll()V -/
def V.Mdl_readsAll_p254  (σ : HS) (x0 : Nat) : Option ((Nat ⊕ Unit) × HS) :=
  ck (tg σ x0 = 18) <|
  ck (tg σ (gR σ x0 10) = 21) <|
  if (gJ σ (gR σ x0 10) 42) < (0 : Int64) then (
    some (.inr (), σ))
  else (
    ck (tg σ x0 = 18) <|
    ck (tg σ (gR σ x0 10) = 21) <|
    ck (tg σ x0 = 18) <|
    ck (tg σ (gR σ x0 10) = 21) <|
    if (gJ σ (gR σ x0 10) 42) = (gJ σ (gR σ x0 10) 43) then (
      some (.inr (), σ))
    else (
      ck (tg σ x0 = 18) <|
      ck (tg σ (gR σ x0 10) = 21) <|
      ck (tg σ x0 = 18) <| clT (Mdl_stops σ x0 (14 : Int32) (gI σ (gR σ x0 10) 1)) fun _ σ1 =>
      some (.inr (), σ1)))
theorem V.gX17_readsAll_p254 {X : CX}  (σ : HS) (x0 : Nat) : G X RX17 "readsAll" cX17_readsAll 7 none 9 222 (enX enV (cxz X)) 254 [(0, av x0)] [] σ (Mdl_readsAll_p254 σ x0) := by
  unfold Mdl_readsAll_p254
  refine g_aload_n 0 0 dX17_readsAll_254 rfl rfl ?_
  refine g_getR fdX17_221 dX17_readsAll_255 ?_
  refine g_getJ fdX17_318 dX17_readsAll_258 ?_
  refine g_lconst (v := 0) dX17_readsAll_261 (by decide) ?_
  refine g_lcmp_lt 297 dX17_readsAll_262 dX17_readsAll_263 (by decide) ?_ ?_
  · exact g_return rfl dX17_readsAll_297
  · refine g_aload_n 0 0 dX17_readsAll_266 rfl rfl ?_
    refine g_getR fdX17_221 dX17_readsAll_267 ?_
    refine g_getJ fdX17_318 dX17_readsAll_270 ?_
    refine g_aload_n 0 0 dX17_readsAll_273 rfl rfl ?_
    refine g_getR fdX17_221 dX17_readsAll_274 ?_
    refine g_getJ fdX17_321 dX17_readsAll_277 ?_
    refine g_lcmp_eq 297 dX17_readsAll_280 dX17_readsAll_281 (by decide) ?_ ?_
    · exact g_return rfl dX17_readsAll_297
    · refine g_aload_n 0 0 dX17_readsAll_284 rfl rfl ?_
      refine g_bipush (v := 14) dX17_readsAll_285 (by decide) ?_
      refine g_aload_n 0 0 dX17_readsAll_287 rfl rfl ?_
      refine g_getR fdX17_221 dX17_readsAll_288 ?_
      refine g_getI fdX17_292 dX17_readsAll_291 ?_
      refine g_callVT (fc := fun sς => Mdl_stops sς x0 (14 : Int32) (gI σ (gR σ x0 10) 1)) (ci := 17) (as := [iv (14 : Int32), iv (gI σ (gR σ x0 10) 1)]) rfl rfl rfl q3606 qs214 q3604 mdX17_257 (ctX17_stops x0 (14 : Int32) (gI σ (gR σ x0 10) 1)) rfl (Nat.le_of_ble_eq_true rfl) (Nat.le_of_ble_eq_true rfl) (Nat.le_of_ble_eq_true rfl) pu_V (by decide) dX17_readsAll_294 (fun _ σ1 => ?_)
      exact g_return rfl dX17_readsAll_297
def V.Mdl_readsAll_p209 (rec61 : HS → Nat → Int32 → Option ((Nat ⊕ Unit) × HS)) (σ : HS) (x0 : Nat) (x1 : Int32) : Option ((Nat ⊕ Unit) × HS) :=
  ck (tg σ x0 = 18) <|
  ck (tg σ (gR σ x0 10) = 21) <|
  ck (tg σ x0 = 18) <| bn (sI σ x0 12 (gI σ (gR σ x0 10) 1)) fun σ1 =>
  rec61 σ1 x0 x1
theorem V.gX17_readsAll_p209 {X : CX} (rec61 : HS → Nat → Int32 → Option ((Nat ⊕ Unit) × HS)) (hrec61 : ∀ (σ : HS) (x0 : Nat) (x1 : Int32), G X RX17 "readsAll" cX17_readsAll 7 none 9 222 (enX enV (cxz X)) 61 [(0, av x0), (1, iv x1)] [] σ (rec61 σ x0 x1)) (σ : HS) (x0 : Nat) (x1 : Int32) : G X RX17 "readsAll" cX17_readsAll 7 none 9 222 (enX enV (cxz X)) 209 [(0, av x0), (1, iv x1)] [] σ (Mdl_readsAll_p209 rec61 σ x0 x1) := by
  unfold Mdl_readsAll_p209
  refine g_aload_n 0 0 dX17_readsAll_209 rfl rfl ?_
  refine g_aload_n 0 0 dX17_readsAll_210 rfl rfl ?_
  refine g_getR fdX17_221 dX17_readsAll_211 ?_
  refine g_getI fdX17_292 dX17_readsAll_214 ?_
  refine g_putI fpX17_254 dX17_readsAll_217 (fun σ1 => ?_)
  refine g_goto 61 dX17_readsAll_220 (by decide) ?_
  exact hrec61 _ _ _
def V.Mdl_readsAll_p172 (rec61 : HS → Nat → Int32 → Option ((Nat ⊕ Unit) × HS)) (σ : HS) (x0 : Nat) (x1 : Int32) (x3 : Int32) (x5 : Int64) : Option ((Nat ⊕ Unit) × HS) :=
  ck (tg σ x0 = 18) <|
  ck (tg σ x0 = 18) <| bn (sI σ x0 12 ((gI σ x0 11) + x5.toInt32)) fun σ1 =>
  ck (tg σ1 x0 = 18) <| clT (Mdl_readsSection σ1 x0 x3) fun _ σ2 =>
  ck (tg σ2 x0 = 18) <|
  ck (tg σ2 x0 = 18) <|
  if (gI σ2 x0 12) ≤ (gI σ2 x0 11) then (
    Mdl_readsAll_p209 rec61 σ2 x0 x1)
  else (
    ck (tg σ2 x0 = 18) <|
    ck (tg σ2 x0 = 18) <| clT (Mdl_stops σ2 x0 (3 : Int32) (gI σ2 x0 11)) fun _ σ3 =>
    Mdl_readsAll_p209 rec61 σ3 x0 x1)
theorem V.gX17_readsAll_p172 {X : CX} (rec61 : HS → Nat → Int32 → Option ((Nat ⊕ Unit) × HS)) (hrec61 : ∀ (σ : HS) (x0 : Nat) (x1 : Int32), G X RX17 "readsAll" cX17_readsAll 7 none 9 222 (enX enV (cxz X)) 61 [(0, av x0), (1, iv x1)] [] σ (rec61 σ x0 x1)) (σ : HS) (x0 : Nat) (x1 : Int32) (x3 : Int32) (x5 : Int64) : G X RX17 "readsAll" cX17_readsAll 7 none 9 222 (enX enV (cxz X)) 172 [(0, av x0), (1, iv x1), (3, iv x3), (5, jv x5)] [] σ (Mdl_readsAll_p172 rec61 σ x0 x1 x3 x5) := by
  unfold Mdl_readsAll_p172
  refine g_aload_n 0 0 dX17_readsAll_172 rfl rfl ?_
  refine g_aload_n 0 0 dX17_readsAll_173 rfl rfl ?_
  refine g_getI fdX17_251 dX17_readsAll_174 ?_
  refine g_lload 3 dX17_readsAll_177 rfl ?_
  refine g_l2i dX17_readsAll_179 ?_
  refine g_iadd dX17_readsAll_180 ?_
  refine g_putI fpX17_254 dX17_readsAll_181 (fun σ1 => ?_)
  refine g_aload_n 0 0 dX17_readsAll_184 rfl rfl ?_
  refine g_iload_n 3 2 dX17_readsAll_185 rfl rfl ?_
  refine g_callVT (fc := fun sς => Mdl_readsSection sς x0 x3) (ci := 17) (as := [iv x3]) rfl rfl rfl q3623 qs216 q3621 mdX17_308 (ctX17_readsSection x0 x3) rfl (Nat.le_of_ble_eq_true rfl) (Nat.le_of_ble_eq_true rfl) (Nat.le_of_ble_eq_true rfl) pu_V (by decide) dX17_readsAll_186 (fun _ σ2 => ?_)
  refine g_aload_n 0 0 dX17_readsAll_189 rfl rfl ?_
  refine g_getI fdX17_251 dX17_readsAll_190 ?_
  refine g_aload_n 0 0 dX17_readsAll_193 rfl rfl ?_
  refine g_getI fdX17_254 dX17_readsAll_194 ?_
  refine g_icmp_ge 209 dX17_readsAll_197 (by decide) ?_ ?_
  · refine G.sub [0, 1] rfl ?_
    exact gX17_readsAll_p209 rec61 hrec61 _ _ _
  · refine g_aload_n 0 0 dX17_readsAll_200 rfl rfl ?_
    refine g_iconst (v := 3) dX17_readsAll_201 (by decide) ?_
    refine g_aload_n 0 0 dX17_readsAll_202 rfl rfl ?_
    refine g_getI fdX17_251 dX17_readsAll_203 ?_
    refine g_callVT (fc := fun sς => Mdl_stops sς x0 (3 : Int32) (gI σ2 x0 11)) (ci := 17) (as := [iv (3 : Int32), iv (gI σ2 x0 11)]) rfl rfl rfl q3606 qs214 q3604 mdX17_257 (ctX17_stops x0 (3 : Int32) (gI σ2 x0 11)) rfl (Nat.le_of_ble_eq_true rfl) (Nat.le_of_ble_eq_true rfl) (Nat.le_of_ble_eq_true rfl) pu_V (by decide) dX17_readsAll_206 (fun _ σ3 => ?_)
    refine G.sub [0, 1] rfl ?_
    exact gX17_readsAll_p209 rec61 hrec61 _ _ _
def V.Mdl_readsAll_p129 (rec61 : HS → Nat → Int32 → Option ((Nat ⊕ Unit) × HS)) (σ : HS) (x0 : Nat) (x1 : Int32) (x2 : Int32) (x3 : Int32) : Option ((Nat ⊕ Unit) × HS) :=
  ck (tg σ x0 = 18) <| bn (sI σ x0 13 x2) fun σ1 =>
  ck (tg σ1 x0 = 18) <|
  bn (gI σ1 x0 11) fun y2 =>
  ck (tg σ1 x0 = 18) <| clT (Mdl_number σ1 x0 ) fun r4 σ3 =>
  ck (tg σ3 x0 = 18) <|
  ck (tg σ3 (gR σ3 x0 10) = 21) <|
  ck (tg σ3 x0 = 18) <|
  if r4 ≤ (((gI σ3 (gR σ3 x0 10) 1) - (gI σ3 x0 11)).toInt64) then (
    Mdl_readsAll_p172 rec61 σ3 x0 x1 x3 r4)
  else (
    ck (tg σ3 x0 = 18) <| clT (Mdl_stops σ3 x0 (2 : Int32) y2) fun _ σ5 =>
    Mdl_readsAll_p172 rec61 σ5 x0 x1 x3 r4)
theorem V.gX17_readsAll_p129 {X : CX} (rec61 : HS → Nat → Int32 → Option ((Nat ⊕ Unit) × HS)) (hrec61 : ∀ (σ : HS) (x0 : Nat) (x1 : Int32), G X RX17 "readsAll" cX17_readsAll 7 none 9 222 (enX enV (cxz X)) 61 [(0, av x0), (1, iv x1)] [] σ (rec61 σ x0 x1)) (σ : HS) (x0 : Nat) (x1 : Int32) (x2 : Int32) (x3 : Int32) : G X RX17 "readsAll" cX17_readsAll 7 none 9 222 (enX enV (cxz X)) 129 [(0, av x0), (1, iv x1), (2, iv x2), (3, iv x3)] [] σ (Mdl_readsAll_p129 rec61 σ x0 x1 x2 x3) := by
  unfold Mdl_readsAll_p129
  refine g_aload_n 0 0 dX17_readsAll_129 rfl rfl ?_
  refine g_iload_n 2 2 dX17_readsAll_130 rfl rfl ?_
  refine g_putI fpX17_305 dX17_readsAll_131 (fun σ1 => ?_)
  refine g_aload_n 0 0 dX17_readsAll_134 rfl rfl ?_
  refine g_getI fdX17_251 dX17_readsAll_135 ?_
  refine g_nmI (fun y2 => ?_)
  refine g_istore dX17_readsAll_138 (by decide) rfl ?_
  refine g_aload_n 0 1 dX17_readsAll_140 rfl rfl ?_
  refine g_callVT (fc := fun sς => Mdl_number sς x0 ) (ci := 17) (as := []) rfl rfl rfl q3619 qs215 q3617 mdX17_277 (ctX17_number x0 ) rfl (Nat.le_of_ble_eq_true rfl) (Nat.le_of_ble_eq_true rfl) (Nat.le_of_ble_eq_true rfl) pu_J (by decide) dX17_readsAll_141 (fun r4 σ3 => ?_)
  refine g_lstore dX17_readsAll_144 (by decide) rfl ?_
  refine g_lload 0 dX17_readsAll_146 rfl ?_
  refine g_aload_n 0 2 dX17_readsAll_148 rfl rfl ?_
  refine g_getR fdX17_221 dX17_readsAll_149 ?_
  refine g_getI fdX17_292 dX17_readsAll_152 ?_
  refine g_aload_n 0 2 dX17_readsAll_155 rfl rfl ?_
  refine g_getI fdX17_251 dX17_readsAll_156 ?_
  refine g_isub dX17_readsAll_159 ?_
  refine g_i2l dX17_readsAll_160 ?_
  refine g_lcmp_le 172 dX17_readsAll_161 dX17_readsAll_162 (by decide) ?_ ?_
  · refine G.sub [2, 3, 5, 0] rfl ?_
    exact gX17_readsAll_p172 rec61 hrec61 _ _ _ _ _
  · refine g_aload_n 0 2 dX17_readsAll_165 rfl rfl ?_
    refine g_iconst (v := 2) dX17_readsAll_166 (by decide) ?_
    refine g_iload 1 dX17_readsAll_167 rfl ?_
    refine g_callVT (fc := fun sς => Mdl_stops sς x0 (2 : Int32) y2) (ci := 17) (as := [iv (2 : Int32), iv y2]) rfl rfl rfl q3606 qs214 q3604 mdX17_257 (ctX17_stops x0 (2 : Int32) y2) rfl (Nat.le_of_ble_eq_true rfl) (Nat.le_of_ble_eq_true rfl) (Nat.le_of_ble_eq_true rfl) pu_V (by decide) dX17_readsAll_169 (fun _ σ5 => ?_)
    refine G.sub [2, 3, 5, 0] rfl ?_
    exact gX17_readsAll_p172 rec61 hrec61 _ _ _ _ _
def V.Mdl_readsAll_p110 (rec61 : HS → Nat → Int32 → Option ((Nat ⊕ Unit) × HS)) (σ : HS) (x0 : Nat) (x1 : Int32) (x2 : Int32) (x3 : Int32) : Option ((Nat ⊕ Unit) × HS) :=
  if x3 ≤ 0 then (
    Mdl_readsAll_p129 rec61 σ x0 x1 x2 x3)
  else (
    cl (Mdl_rank σ x3) fun r2 σ1 =>
    ck (tg σ1 x0 = 18) <|
    ck (tg σ1 (gR σ1 x0 10) = 21) <|
    ck (tg σ1 (gR σ1 (gR σ1 x0 10) 2) = 100 ∧ inb x3 (ln σ1 (gR σ1 (gR σ1 x0 10) 2))) <| bn (sI σ1 (gR σ1 (gR σ1 x0 10) 2) (ix x3) x2) fun σ3 =>
    Mdl_readsAll_p129 rec61 σ3 x0 r2 x2 x3)
theorem V.gX17_readsAll_p110 {X : CX} (rec61 : HS → Nat → Int32 → Option ((Nat ⊕ Unit) × HS)) (hrec61 : ∀ (σ : HS) (x0 : Nat) (x1 : Int32), G X RX17 "readsAll" cX17_readsAll 7 none 9 222 (enX enV (cxz X)) 61 [(0, av x0), (1, iv x1)] [] σ (rec61 σ x0 x1)) (σ : HS) (x0 : Nat) (x1 : Int32) (x2 : Int32) (x3 : Int32) : G X RX17 "readsAll" cX17_readsAll 7 none 9 222 (enX enV (cxz X)) 110 [(0, av x0), (1, iv x1), (2, iv x2), (3, iv x3)] [] σ (Mdl_readsAll_p110 rec61 σ x0 x1 x2 x3) := by
  unfold Mdl_readsAll_p110
  refine g_iload_n 3 3 dX17_readsAll_110 rfl rfl ?_
  refine g_if_le 129 dX17_readsAll_111 (by decide) ?_ ?_
  · exact gX17_readsAll_p129 rec61 hrec61 _ _ _ _ _
  · refine g_iload_n 3 3 dX17_readsAll_114 rfl rfl ?_
    refine g_callS (fc := fun sς => Mdl_rank sς x3) (as := [iv x3]) q3615 mdX17_299 (ctX17_rank x3) rfl (Nat.le_of_ble_eq_true rfl) (Nat.le_of_ble_eq_true rfl) (Nat.le_of_ble_eq_true rfl) pu_I dX17_readsAll_115 (fun r2 σ1 => ?_)
    refine g_istore_n 1 dX17_readsAll_118 rfl (by decide) rfl ?_
    refine g_aload_n 0 1 dX17_readsAll_119 rfl rfl ?_
    refine g_getR fdX17_221 dX17_readsAll_120 ?_
    refine g_getR fdX17_302 dX17_readsAll_123 ?_
    refine g_iload_n 3 3 dX17_readsAll_126 rfl rfl ?_
    refine g_iload_n 2 2 dX17_readsAll_127 rfl rfl ?_
    refine g_iastore dX17_readsAll_128 (fun σ3 => ?_)
    refine G.sub [1, 0, 2, 3] rfl ?_
    exact gX17_readsAll_p129 rec61 hrec61 _ _ _ _ _
def V.Mdl_readsAll_p103 (rec61 : HS → Nat → Int32 → Option ((Nat ⊕ Unit) × HS)) (σ : HS) (x0 : Nat) (x1 : Int32) (x2 : Int32) (x3 : Int32) : Option ((Nat ⊕ Unit) × HS) :=
  ck (tg σ x0 = 18) <| clT (Mdl_stops σ x0 (6 : Int32) x2) fun _ σ1 =>
  Mdl_readsAll_p110 rec61 σ1 x0 x1 x2 x3
theorem V.gX17_readsAll_p103 {X : CX} (rec61 : HS → Nat → Int32 → Option ((Nat ⊕ Unit) × HS)) (hrec61 : ∀ (σ : HS) (x0 : Nat) (x1 : Int32), G X RX17 "readsAll" cX17_readsAll 7 none 9 222 (enX enV (cxz X)) 61 [(0, av x0), (1, iv x1)] [] σ (rec61 σ x0 x1)) (σ : HS) (x0 : Nat) (x1 : Int32) (x2 : Int32) (x3 : Int32) : G X RX17 "readsAll" cX17_readsAll 7 none 9 222 (enX enV (cxz X)) 103 [(0, av x0), (1, iv x1), (2, iv x2), (3, iv x3)] [] σ (Mdl_readsAll_p103 rec61 σ x0 x1 x2 x3) := by
  unfold Mdl_readsAll_p103
  refine g_aload_n 0 0 dX17_readsAll_103 rfl rfl ?_
  refine g_bipush (v := 6) dX17_readsAll_104 (by decide) ?_
  refine g_iload_n 2 2 dX17_readsAll_106 rfl rfl ?_
  refine g_callVT (fc := fun sς => Mdl_stops sς x0 (6 : Int32) x2) (ci := 17) (as := [iv (6 : Int32), iv x2]) rfl rfl rfl q3606 qs214 q3604 mdX17_257 (ctX17_stops x0 (6 : Int32) x2) rfl (Nat.le_of_ble_eq_true rfl) (Nat.le_of_ble_eq_true rfl) (Nat.le_of_ble_eq_true rfl) pu_V (by decide) dX17_readsAll_107 (fun _ σ1 => ?_)
  exact gX17_readsAll_p110 rec61 hrec61 _ _ _ _ _
def V.Mdl_readsAll_p61  : Nat → HS → Nat → Int32 → Option ((Nat ⊕ Unit) × HS)
  | 0, _, _, _ => none
  | n + 1, σ, x0, x1 =>
    ck (tg σ x0 = 18) <|
    ck (tg σ x0 = 18) <|
    ck (tg σ (gR σ x0 10) = 21) <|
    if (gI σ (gR σ x0 10) 1) ≤ (gI σ x0 11) then (
      ck (tg σ x0 = 18) <|
      ck (tg σ (gR σ x0 10) = 21) <|
      ck (tg σ x0 = 18) <|
      ck (tg σ (gR σ x0 10) = 21) <|
      if (gJ σ (gR σ x0 10) 14) = (gJ σ (gR σ x0 10) 50) then (
        Mdl_readsAll_p254 σ x0)
      else (
        ck (tg σ x0 = 18) <|
        ck (tg σ (gR σ x0 10) = 21) <|
        ck (tg σ x0 = 18) <| clT (Mdl_stops σ x0 (13 : Int32) (gI σ (gR σ x0 10) 1)) fun _ σ1 =>
        Mdl_readsAll_p254 σ1 x0))
    else (
      ck (tg σ x0 = 18) <|
      bn (gI σ x0 11) fun y2 =>
      ck (tg σ x0 = 18) <| clT (Mdl_next σ x0 ) fun r4 σ3 =>
      if (12 : Int32) < r4 then (
        Mdl_readsAll_p103 (Mdl_readsAll_p61 n) σ3 x0 x1 y2 r4)
      else (
        if r4 ≤ 0 then (
          Mdl_readsAll_p110 (Mdl_readsAll_p61 n) σ3 x0 x1 y2 r4)
        else (
          cl (Mdl_rank σ3 r4) fun r6 σ5 =>
          if x1 < r6 then (
            Mdl_readsAll_p110 (Mdl_readsAll_p61 n) σ5 x0 x1 y2 r4)
          else (
            Mdl_readsAll_p103 (Mdl_readsAll_p61 n) σ5 x0 x1 y2 r4))))
theorem V.gX17_readsAll_p61 {X : CX}  : ∀ (n : Nat) (σ : HS) (x0 : Nat) (x1 : Int32), G X RX17 "readsAll" cX17_readsAll 7 none 9 222 (enX enV (cxz X)) 61 [(0, av x0), (1, iv x1)] [] σ (Mdl_readsAll_p61 n σ x0 x1)
  | 0, σ, x0, x1 => by rw [Mdl_readsAll_p61]; exact G.nul
  | n + 1, σ, x0, x1 => by
    rw [Mdl_readsAll_p61]
    refine g_aload_n 0 0 dX17_readsAll_61 rfl rfl ?_
    refine g_getI fdX17_251 dX17_readsAll_62 ?_
    refine g_aload_n 0 0 dX17_readsAll_65 rfl rfl ?_
    refine g_getR fdX17_221 dX17_readsAll_66 ?_
    refine g_getI fdX17_292 dX17_readsAll_69 ?_
    refine g_icmp_ge 223 dX17_readsAll_72 (by decide) ?_ ?_
    · refine g_aload_n 0 0 dX17_readsAll_223 rfl rfl ?_
      refine g_getR fdX17_221 dX17_readsAll_224 ?_
      refine g_getJ fdX17_311 dX17_readsAll_227 ?_
      refine g_aload_n 0 0 dX17_readsAll_230 rfl rfl ?_
      refine g_getR fdX17_221 dX17_readsAll_231 ?_
      refine g_getJ fdX17_315 dX17_readsAll_234 ?_
      refine g_lcmp_eq 254 dX17_readsAll_237 dX17_readsAll_238 (by decide) ?_ ?_
      · refine G.sub [0] rfl ?_
        exact gX17_readsAll_p254 _ _
      · refine g_aload_n 0 0 dX17_readsAll_241 rfl rfl ?_
        refine g_bipush (v := 13) dX17_readsAll_242 (by decide) ?_
        refine g_aload_n 0 0 dX17_readsAll_244 rfl rfl ?_
        refine g_getR fdX17_221 dX17_readsAll_245 ?_
        refine g_getI fdX17_292 dX17_readsAll_248 ?_
        refine g_callVT (fc := fun sς => Mdl_stops sς x0 (13 : Int32) (gI σ (gR σ x0 10) 1)) (ci := 17) (as := [iv (13 : Int32), iv (gI σ (gR σ x0 10) 1)]) rfl rfl rfl q3606 qs214 q3604 mdX17_257 (ctX17_stops x0 (13 : Int32) (gI σ (gR σ x0 10) 1)) rfl (Nat.le_of_ble_eq_true rfl) (Nat.le_of_ble_eq_true rfl) (Nat.le_of_ble_eq_true rfl) pu_V (by decide) dX17_readsAll_251 (fun _ σ1 => ?_)
        refine G.sub [0] rfl ?_
        exact gX17_readsAll_p254 _ _
    · refine g_aload_n 0 0 dX17_readsAll_75 rfl rfl ?_
      refine g_getI fdX17_251 dX17_readsAll_76 ?_
      refine g_nmI (fun y2 => ?_)
      refine g_istore_n 2 dX17_readsAll_79 rfl (by decide) rfl ?_
      refine g_aload_n 0 1 dX17_readsAll_80 rfl rfl ?_
      refine g_callVT (fc := fun sς => Mdl_next sς x0 ) (ci := 17) (as := []) rfl rfl rfl q3602 qs213 q3600 mdX17_264 (ctX17_next x0 ) rfl (Nat.le_of_ble_eq_true rfl) (Nat.le_of_ble_eq_true rfl) (Nat.le_of_ble_eq_true rfl) pu_I (by decide) dX17_readsAll_81 (fun r4 σ3 => ?_)
      refine g_istore_n 3 dX17_readsAll_84 rfl (by decide) rfl ?_
      refine g_iload_n 3 0 dX17_readsAll_85 rfl rfl ?_
      refine g_bipush (v := 12) dX17_readsAll_86 (by decide) ?_
      refine g_icmp_gt 103 dX17_readsAll_88 (by decide) ?_ ?_
      · refine G.sub [2, 3, 1, 0] rfl ?_
        exact gX17_readsAll_p103 (Mdl_readsAll_p61 n) (gX17_readsAll_p61 n) _ _ _ _ _
      · refine g_iload_n 3 0 dX17_readsAll_91 rfl rfl ?_
        refine g_if_le 110 dX17_readsAll_92 (by decide) ?_ ?_
        · refine G.sub [2, 3, 1, 0] rfl ?_
          exact gX17_readsAll_p110 (Mdl_readsAll_p61 n) (gX17_readsAll_p61 n) _ _ _ _ _
        · refine g_iload_n 3 0 dX17_readsAll_95 rfl rfl ?_
          refine g_callS (fc := fun sς => Mdl_rank sς r4) (as := [iv r4]) q3615 mdX17_299 (ctX17_rank r4) rfl (Nat.le_of_ble_eq_true rfl) (Nat.le_of_ble_eq_true rfl) (Nat.le_of_ble_eq_true rfl) pu_I dX17_readsAll_96 (fun r6 σ5 => ?_)
          refine g_iload_n 1 3 dX17_readsAll_99 rfl rfl ?_
          refine g_icmp_gt 110 dX17_readsAll_100 (by decide) ?_ ?_
          · refine G.sub [2, 3, 1, 0] rfl ?_
            exact gX17_readsAll_p110 (Mdl_readsAll_p61 n) (gX17_readsAll_p61 n) _ _ _ _ _
          · refine G.sub [2, 3, 1, 0] rfl ?_
            exact gX17_readsAll_p103 (Mdl_readsAll_p61 n) (gX17_readsAll_p61 n) _ _ _ _ _
def V.Mdl_readsAll_p53 (rec19 : HS → Nat → Int32 → Option ((Nat ⊕ Unit) × HS)) (σ : HS) (x0 : Nat) (x1 : Int32) : Option ((Nat ⊕ Unit) × HS) :=
  bn (x1 + (-8 : Int32)) fun y1 =>
  rec19 σ x0 y1
theorem V.gX17_readsAll_p53 {X : CX} (rec19 : HS → Nat → Int32 → Option ((Nat ⊕ Unit) × HS)) (hrec19 : ∀ (σ : HS) (x0 : Nat) (x1 : Int32), G X RX17 "readsAll" cX17_readsAll 7 none 9 222 (enX enV (cxz X)) 19 [(0, av x0), (1, iv x1)] [] σ (rec19 σ x0 x1)) (σ : HS) (x0 : Nat) (x1 : Int32) : G X RX17 "readsAll" cX17_readsAll 7 none 9 222 (enX enV (cxz X)) 53 [(0, av x0), (1, iv x1)] [] σ (Mdl_readsAll_p53 rec19 σ x0 x1) := by
  unfold Mdl_readsAll_p53
  refine g_iincB (w := (-8)) 1 dX17_readsAll_53 rfl (by decide) (by decide) (fun _ => rfl) (fun y1 => ?_)
  refine g_goto 19 dX17_readsAll_56 (by decide) ?_
  refine G.sub [1, 0] rfl ?_
  exact hrec19 _ _ _
def V.Mdl_readsAll_p19  : Nat → HS → Nat → Int32 → Option ((Nat ⊕ Unit) × HS)
  | 0, _, _, _ => none
  | n + 1, σ, x0, x1 =>
    if x1 < 0 then (
      Mdl_readsAll_p61 FU σ x0 (0 : Int32))
    else (
      ck (tg σ x0 = 18) <| clT (Mdl_next σ x0 ) fun r2 σ1 =>
      if r2 = (((lshr (27429984746340352 : Int64) x1) &&& (255 : Int64)).toInt32) then (
        Mdl_readsAll_p53 (Mdl_readsAll_p19 n) σ1 x0 x1)
      else (
        ck (tg σ1 x0 = 18) <|
        ck (tg σ1 x0 = 18) <| clT (Mdl_stops σ1 x0 (5 : Int32) ((gI σ1 x0 11) - (1 : Int32))) fun _ σ3 =>
        Mdl_readsAll_p53 (Mdl_readsAll_p19 n) σ3 x0 x1))
theorem V.gX17_readsAll_p19 {X : CX}  : ∀ (n : Nat) (σ : HS) (x0 : Nat) (x1 : Int32), G X RX17 "readsAll" cX17_readsAll 7 none 9 222 (enX enV (cxz X)) 19 [(0, av x0), (1, iv x1)] [] σ (Mdl_readsAll_p19 n σ x0 x1)
  | 0, σ, x0, x1 => by rw [Mdl_readsAll_p19]; exact G.nul
  | n + 1, σ, x0, x1 => by
    rw [Mdl_readsAll_p19]
    refine g_iload_n 1 1 dX17_readsAll_19 rfl rfl ?_
    refine g_if_lt 59 dX17_readsAll_20 (by decide) ?_ ?_
    · refine g_iconst (v := 0) dX17_readsAll_59 (by decide) ?_
      refine g_istore_n 1 dX17_readsAll_60 rfl (by decide) rfl ?_
      refine G.sub [1, 0] rfl ?_
      exact gX17_readsAll_p61 FU _ _ _
    · refine g_aload_n 0 0 dX17_readsAll_23 rfl rfl ?_
      refine g_callVT (fc := fun sς => Mdl_next sς x0 ) (ci := 17) (as := []) rfl rfl rfl q3602 qs213 q3600 mdX17_264 (ctX17_next x0 ) rfl (Nat.le_of_ble_eq_true rfl) (Nat.le_of_ble_eq_true rfl) (Nat.le_of_ble_eq_true rfl) pu_I (by decide) dX17_readsAll_24 (fun r2 σ1 => ?_)
      refine g_istore_n 2 dX17_readsAll_27 rfl (by decide) rfl ?_
      refine g_iload_n 2 0 dX17_readsAll_28 rfl rfl ?_
      refine g_ldc2 q3612 dX17_readsAll_29 ?_
      refine g_iload_n 1 2 dX17_readsAll_32 rfl rfl ?_
      refine g_lshr dX17_readsAll_33 ?_
      refine g_ldc2 q3613 dX17_readsAll_34 ?_
      refine g_land dX17_readsAll_37 ?_
      refine g_l2i dX17_readsAll_38 ?_
      refine g_icmp_eq 53 dX17_readsAll_39 (by decide) ?_ ?_
      · refine G.sub [1, 2] rfl ?_
        exact gX17_readsAll_p53 (Mdl_readsAll_p19 n) (gX17_readsAll_p19 n) _ _ _
      · refine g_aload_n 0 1 dX17_readsAll_42 rfl rfl ?_
        refine g_iconst (v := 5) dX17_readsAll_43 (by decide) ?_
        refine g_aload_n 0 1 dX17_readsAll_44 rfl rfl ?_
        refine g_getI fdX17_251 dX17_readsAll_45 ?_
        refine g_iconst (v := 1) dX17_readsAll_48 (by decide) ?_
        refine g_isub dX17_readsAll_49 ?_
        refine g_callVT (fc := fun sς => Mdl_stops sς x0 (5 : Int32) ((gI σ1 x0 11) - (1 : Int32))) (ci := 17) (as := [iv (5 : Int32), iv ((gI σ1 x0 11) - (1 : Int32))]) rfl rfl rfl q3606 qs214 q3604 mdX17_257 (ctX17_stops x0 (5 : Int32) ((gI σ1 x0 11) - (1 : Int32))) rfl (Nat.le_of_ble_eq_true rfl) (Nat.le_of_ble_eq_true rfl) (Nat.le_of_ble_eq_true rfl) pu_V (by decide) dX17_readsAll_50 (fun _ σ3 => ?_)
        refine G.sub [1, 2] rfl ?_
        exact gX17_readsAll_p53 (Mdl_readsAll_p19 n) (gX17_readsAll_p19 n) _ _ _
def V.Mdl_readsAll (σ : HS) (x0 : Nat) : Option ((Nat ⊕ Unit) × HS) :=
  ck (tg σ x0 = 18) <| bn (sI σ x0 11 (0 : Int32)) fun σ1 =>
  ck (tg σ1 x0 = 18) <|
  ck (tg σ1 (gR σ1 x0 10) = 21) <|
  ck (tg σ1 x0 = 18) <| bn (sI σ1 x0 12 (gI σ1 (gR σ1 x0 10) 1)) fun σ2 =>
  Mdl_readsAll_p19 FU σ2 x0 (56 : Int32)
theorem V.ctX17_readsAll (x0 : Nat) : Ct yX17_readsAll  cX17_readsAll 7 none 9 222 eXV [av x0] (fun σ => Mdl_readsAll σ x0) := by
  refine Ct.of (own := RX17) (nm := "readsAll") (desc := "()V") rfl (by decide) (Nat.le_of_ble_eq_true rfl) (by decide) (fun X σ => ?_)
  show G X RX17 "readsAll" cX17_readsAll 7 none 9 222 (enX enV (cxz X)) 0 [(0, av x0)] [] σ (Mdl_readsAll σ x0)
  unfold Mdl_readsAll
  refine g_aload_n 0 0 dX17_readsAll_0 rfl rfl ?_
  refine g_iconst (v := 0) dX17_readsAll_1 (by decide) ?_
  refine g_putI fpX17_251 dX17_readsAll_2 (fun σ1 => ?_)
  refine g_aload_n 0 0 dX17_readsAll_5 rfl rfl ?_
  refine g_aload_n 0 0 dX17_readsAll_6 rfl rfl ?_
  refine g_getR fdX17_221 dX17_readsAll_7 ?_
  refine g_getI fdX17_292 dX17_readsAll_10 ?_
  refine g_putI fpX17_254 dX17_readsAll_13 (fun σ2 => ?_)
  refine g_bipush (v := 56) dX17_readsAll_16 (by decide) ?_
  refine g_istore_n 1 dX17_readsAll_18 rfl (by decide) rfl ?_
  refine G.sub [1, 0] rfl ?_
  exact gX17_readsAll_p19 FU _ _ _
theorem V.dX17_checksTypes_0 : decode cX17_checksTypes 0 = .ok (.iconst 0, 1) := by decide +kernel
theorem V.dX17_checksTypes_1 : decode cX17_checksTypes 1 = .ok (.istore_n 1, 1) := by decide +kernel
theorem V.dX17_checksTypes_2 : decode cX17_checksTypes 2 = .ok (.iload_n 1, 1) := by decide +kernel
theorem V.dX17_checksTypes_3 : decode cX17_checksTypes 3 = .ok (.aload_n 0, 1) := by decide +kernel
theorem V.dX17_checksTypes_4 : decode cX17_checksTypes 4 = .ok (.getfield 221, 3) := by decide +kernel
theorem V.dX17_checksTypes_7 : decode cX17_checksTypes 7 = .ok (.getfield 402, 3) := by decide +kernel
theorem V.dX17_checksTypes_10 : decode cX17_checksTypes 10 = .ok (.if_icmp .ge 57, 3) := by decide +kernel
theorem V.dX17_checksTypes_13 : decode cX17_checksTypes 13 = .ok (.aload_n 0, 1) := by decide +kernel
theorem V.dX17_checksTypes_14 : decode cX17_checksTypes 14 = .ok (.getfield 221, 3) := by decide +kernel
theorem V.dX17_checksTypes_17 : decode cX17_checksTypes 17 = .ok (.getfield 411, 3) := by decide +kernel
theorem V.dX17_checksTypes_20 : decode cX17_checksTypes 20 = .ok (.iload_n 1, 1) := by decide +kernel
theorem V.dX17_checksTypes_21 : decode cX17_checksTypes 21 = .ok (.iaload, 1) := by decide +kernel
theorem V.dX17_checksTypes_22 : decode cX17_checksTypes 22 = .ok (.ifCond .ne 39, 3) := by decide +kernel
theorem V.dX17_checksTypes_25 : decode cX17_checksTypes 25 = .ok (.aload_n 0, 1) := by decide +kernel
theorem V.dX17_checksTypes_26 : decode cX17_checksTypes 26 = .ok (.getfield 221, 3) := by decide +kernel
theorem V.dX17_checksTypes_29 : decode cX17_checksTypes 29 = .ok (.getfield 414, 3) := by decide +kernel
theorem V.dX17_checksTypes_32 : decode cX17_checksTypes 32 = .ok (.iload_n 1, 1) := by decide +kernel
theorem V.dX17_checksTypes_33 : decode cX17_checksTypes 33 = .ok (.laload, 1) := by decide +kernel
theorem V.dX17_checksTypes_34 : decode cX17_checksTypes 34 = .ok (.aload_n 0, 1) := by decide +kernel
theorem V.dX17_checksTypes_35 : decode cX17_checksTypes 35 = .ok (.getfield 221, 3) := by decide +kernel
theorem V.dX17_checksTypes_38 : decode cX17_checksTypes 38 = .ok (.getfield 381, 3) := by decide +kernel
theorem V.dX17_checksTypes_41 : decode cX17_checksTypes 41 = .ok (.i2l, 1) := by decide +kernel
theorem V.dX17_checksTypes_42 : decode cX17_checksTypes 42 = .ok (.lcmp, 1) := by decide +kernel
theorem V.dX17_checksTypes_43 : decode cX17_checksTypes 43 = .ok (.ifCond .lt 18, 3) := by decide +kernel
theorem V.dX17_checksTypes_46 : decode cX17_checksTypes 46 = .ok (.aload_n 0, 1) := by decide +kernel
theorem V.dX17_checksTypes_47 : decode cX17_checksTypes 47 = .ok (.bipush 20, 2) := by decide +kernel
theorem V.dX17_checksTypes_49 : decode cX17_checksTypes 49 = .ok (.aload_n 0, 1) := by decide +kernel
theorem V.dX17_checksTypes_50 : decode cX17_checksTypes 50 = .ok (.getfield 221, 3) := by decide +kernel
theorem V.dX17_checksTypes_53 : decode cX17_checksTypes 53 = .ok (.getfield 302, 3) := by decide +kernel
theorem V.dX17_checksTypes_56 : decode cX17_checksTypes 56 = .ok (.iconst 2, 1) := by decide +kernel
theorem V.dX17_checksTypes_57 : decode cX17_checksTypes 57 = .ok (.iaload, 1) := by decide +kernel
theorem V.dX17_checksTypes_58 : decode cX17_checksTypes 58 = .ok (.invokevirtual 257, 3) := by decide +kernel
theorem V.dX17_checksTypes_61 : decode cX17_checksTypes 61 = .ok (.iinc 1 1, 3) := by decide +kernel
theorem V.dX17_checksTypes_64 : decode cX17_checksTypes 64 = .ok (.goto (-62), 3) := by decide +kernel
theorem V.dX17_checksTypes_67 : decode cX17_checksTypes 67 = .ok (.iconst 0, 1) := by decide +kernel
theorem V.dX17_checksTypes_68 : decode cX17_checksTypes 68 = .ok (.istore_n 1, 1) := by decide +kernel
theorem V.dX17_checksTypes_69 : decode cX17_checksTypes 69 = .ok (.iload_n 1, 1) := by decide +kernel
theorem V.dX17_checksTypes_70 : decode cX17_checksTypes 70 = .ok (.aload_n 0, 1) := by decide +kernel
theorem V.dX17_checksTypes_71 : decode cX17_checksTypes 71 = .ok (.getfield 221, 3) := by decide +kernel
theorem V.dX17_checksTypes_74 : decode cX17_checksTypes 74 = .ok (.getfield 426, 3) := by decide +kernel
theorem V.dX17_checksTypes_77 : decode cX17_checksTypes 77 = .ok (.if_icmp .ge 45, 3) := by decide +kernel
theorem V.dX17_checksTypes_80 : decode cX17_checksTypes 80 = .ok (.aload_n 0, 1) := by decide +kernel
theorem V.dX17_checksTypes_81 : decode cX17_checksTypes 81 = .ok (.getfield 221, 3) := by decide +kernel
theorem V.dX17_checksTypes_84 : decode cX17_checksTypes 84 = .ok (.getfield 429, 3) := by decide +kernel
theorem V.dX17_checksTypes_87 : decode cX17_checksTypes 87 = .ok (.iload_n 1, 1) := by decide +kernel
theorem V.dX17_checksTypes_88 : decode cX17_checksTypes 88 = .ok (.laload, 1) := by decide +kernel
theorem V.dX17_checksTypes_89 : decode cX17_checksTypes 89 = .ok (.aload_n 0, 1) := by decide +kernel
theorem V.dX17_checksTypes_90 : decode cX17_checksTypes 90 = .ok (.getfield 221, 3) := by decide +kernel
theorem V.dX17_checksTypes_93 : decode cX17_checksTypes 93 = .ok (.getfield 381, 3) := by decide +kernel
theorem V.dX17_checksTypes_96 : decode cX17_checksTypes 96 = .ok (.i2l, 1) := by decide +kernel
theorem V.dX17_checksTypes_97 : decode cX17_checksTypes 97 = .ok (.lcmp, 1) := by decide +kernel
theorem V.dX17_checksTypes_98 : decode cX17_checksTypes 98 = .ok (.ifCond .lt 18, 3) := by decide +kernel
theorem V.dX17_checksTypes_101 : decode cX17_checksTypes 101 = .ok (.aload_n 0, 1) := by decide +kernel
theorem V.dX17_checksTypes_102 : decode cX17_checksTypes 102 = .ok (.bipush 20, 2) := by decide +kernel
theorem V.dX17_checksTypes_104 : decode cX17_checksTypes 104 = .ok (.aload_n 0, 1) := by decide +kernel
theorem V.dX17_checksTypes_105 : decode cX17_checksTypes 105 = .ok (.getfield 221, 3) := by decide +kernel
theorem V.dX17_checksTypes_108 : decode cX17_checksTypes 108 = .ok (.getfield 302, 3) := by decide +kernel
theorem V.dX17_checksTypes_111 : decode cX17_checksTypes 111 = .ok (.iconst 3, 1) := by decide +kernel
theorem V.dX17_checksTypes_112 : decode cX17_checksTypes 112 = .ok (.iaload, 1) := by decide +kernel
theorem V.dX17_checksTypes_113 : decode cX17_checksTypes 113 = .ok (.invokevirtual 257, 3) := by decide +kernel
theorem V.dX17_checksTypes_116 : decode cX17_checksTypes 116 = .ok (.iinc 1 1, 3) := by decide +kernel
theorem V.dX17_checksTypes_119 : decode cX17_checksTypes 119 = .ok (.goto (-50), 3) := by decide +kernel
theorem V.dX17_checksTypes_122 : decode cX17_checksTypes 122 = .ok (.return_, 1) := by decide +kernel
theorem V.fdX17_402 : FD RX17 402 20 8 0 := ⟨(RX20, TX20, 58), tyX20, rfl, rfl, in_X20, by decide, Or.inr ⟨_, q3376⟩, rfl⟩
theorem V.fdX17_381 : FD RX17 381 20 4 0 := ⟨(RX20, TX20, 58), tyX20, rfl, rfl, in_X20, by decide, Or.inr ⟨_, q3368⟩, rfl⟩
theorem V.fdX17_426 : FD RX17 426 20 15 0 := ⟨(RX20, TX20, 58), tyX20, rfl, rfl, in_X20, by decide, Or.inr ⟨_, q3390⟩, rfl⟩
/-! ModuleEngineModel.checksTypes()V -/
def V.Mdl_checksTypes_p116 (rec69 : HS → Nat → Int32 → Option ((Nat ⊕ Unit) × HS)) (σ : HS) (x0 : Nat) (x1 : Int32) : Option ((Nat ⊕ Unit) × HS) :=
  bn (x1 + (1 : Int32)) fun y1 =>
  rec69 σ x0 y1
theorem V.gX17_checksTypes_p116 {X : CX} (rec69 : HS → Nat → Int32 → Option ((Nat ⊕ Unit) × HS)) (hrec69 : ∀ (σ : HS) (x0 : Nat) (x1 : Int32), G X RX17 "checksTypes" cX17_checksTypes 2 none 1 22 (enX enV (cxz X)) 69 [(0, av x0), (1, iv x1)] [] σ (rec69 σ x0 x1)) (σ : HS) (x0 : Nat) (x1 : Int32) : G X RX17 "checksTypes" cX17_checksTypes 2 none 1 22 (enX enV (cxz X)) 116 [(0, av x0), (1, iv x1)] [] σ (Mdl_checksTypes_p116 rec69 σ x0 x1) := by
  unfold Mdl_checksTypes_p116
  refine g_iincB (w := 1) 1 dX17_checksTypes_116 rfl (by decide) (by decide) (fun _ => rfl) (fun y1 => ?_)
  refine g_goto 69 dX17_checksTypes_119 (by decide) ?_
  refine G.sub [1, 0] rfl ?_
  exact hrec69 _ _ _
def V.Mdl_checksTypes_p69  : Nat → HS → Nat → Int32 → Option ((Nat ⊕ Unit) × HS)
  | 0, _, _, _ => none
  | n + 1, σ, x0, x1 =>
    ck (tg σ x0 = 18) <|
    ck (tg σ (gR σ x0 10) = 21) <|
    if (gI σ (gR σ x0 10) 15) ≤ x1 then (
      some (.inr (), σ))
    else (
      ck (tg σ x0 = 18) <|
      ck (tg σ (gR σ x0 10) = 21) <|
      ck (tg σ (gR σ (gR σ x0 10) 16) = 101 ∧ inb x1 (ln σ (gR σ (gR σ x0 10) 16))) <|
      ck (tg σ x0 = 18) <|
      ck (tg σ (gR σ x0 10) = 21) <|
      if (gJ σ (gR σ (gR σ x0 10) 16) (ix x1)) < ((gI σ (gR σ x0 10) 4).toInt64) then (
        Mdl_checksTypes_p116 (Mdl_checksTypes_p69 n) σ x0 x1)
      else (
        ck (tg σ x0 = 18) <|
        ck (tg σ (gR σ x0 10) = 21) <|
        ck (tg σ (gR σ (gR σ x0 10) 2) = 100 ∧ inb (3 : Int32) (ln σ (gR σ (gR σ x0 10) 2))) <|
        ck (tg σ x0 = 18) <| clT (Mdl_stops σ x0 (20 : Int32) (gI σ (gR σ (gR σ x0 10) 2) (ix (3 : Int32)))) fun _ σ1 =>
        Mdl_checksTypes_p116 (Mdl_checksTypes_p69 n) σ1 x0 x1))
theorem V.gX17_checksTypes_p69 {X : CX}  : ∀ (n : Nat) (σ : HS) (x0 : Nat) (x1 : Int32), G X RX17 "checksTypes" cX17_checksTypes 2 none 1 22 (enX enV (cxz X)) 69 [(0, av x0), (1, iv x1)] [] σ (Mdl_checksTypes_p69 n σ x0 x1)
  | 0, σ, x0, x1 => by rw [Mdl_checksTypes_p69]; exact G.nul
  | n + 1, σ, x0, x1 => by
    rw [Mdl_checksTypes_p69]
    refine g_iload_n 1 1 dX17_checksTypes_69 rfl rfl ?_
    refine g_aload_n 0 0 dX17_checksTypes_70 rfl rfl ?_
    refine g_getR fdX17_221 dX17_checksTypes_71 ?_
    refine g_getI fdX17_426 dX17_checksTypes_74 ?_
    refine g_icmp_ge 122 dX17_checksTypes_77 (by decide) ?_ ?_
    · exact g_return rfl dX17_checksTypes_122
    · refine g_aload_n 0 0 dX17_checksTypes_80 rfl rfl ?_
      refine g_getR fdX17_221 dX17_checksTypes_81 ?_
      refine g_getR fdX17_429 dX17_checksTypes_84 ?_
      refine g_iload_n 1 1 dX17_checksTypes_87 rfl rfl ?_
      refine g_laload dX17_checksTypes_88 ?_
      refine g_aload_n 0 0 dX17_checksTypes_89 rfl rfl ?_
      refine g_getR fdX17_221 dX17_checksTypes_90 ?_
      refine g_getI fdX17_381 dX17_checksTypes_93 ?_
      refine g_i2l dX17_checksTypes_96 ?_
      refine g_lcmp_lt 116 dX17_checksTypes_97 dX17_checksTypes_98 (by decide) ?_ ?_
      · exact gX17_checksTypes_p116 (Mdl_checksTypes_p69 n) (gX17_checksTypes_p69 n) _ _ _
      · refine g_aload_n 0 0 dX17_checksTypes_101 rfl rfl ?_
        refine g_bipush (v := 20) dX17_checksTypes_102 (by decide) ?_
        refine g_aload_n 0 0 dX17_checksTypes_104 rfl rfl ?_
        refine g_getR fdX17_221 dX17_checksTypes_105 ?_
        refine g_getR fdX17_302 dX17_checksTypes_108 ?_
        refine g_iconst (v := 3) dX17_checksTypes_111 (by decide) ?_
        refine g_iaload dX17_checksTypes_112 ?_
        refine g_callVT (fc := fun sς => Mdl_stops sς x0 (20 : Int32) (gI σ (gR σ (gR σ x0 10) 2) (ix (3 : Int32)))) (ci := 17) (as := [iv (20 : Int32), iv (gI σ (gR σ (gR σ x0 10) 2) (ix (3 : Int32)))]) rfl rfl rfl q3606 qs214 q3604 mdX17_257 (ctX17_stops x0 (20 : Int32) (gI σ (gR σ (gR σ x0 10) 2) (ix (3 : Int32)))) rfl (Nat.le_of_ble_eq_true rfl) (Nat.le_of_ble_eq_true rfl) (Nat.le_of_ble_eq_true rfl) pu_V (by decide) dX17_checksTypes_113 (fun _ σ1 => ?_)
        exact gX17_checksTypes_p116 (Mdl_checksTypes_p69 n) (gX17_checksTypes_p69 n) _ _ _
def V.Mdl_checksTypes_p61 (rec2 : HS → Nat → Int32 → Option ((Nat ⊕ Unit) × HS)) (σ : HS) (x0 : Nat) (x1 : Int32) : Option ((Nat ⊕ Unit) × HS) :=
  bn (x1 + (1 : Int32)) fun y1 =>
  rec2 σ x0 y1
theorem V.gX17_checksTypes_p61 {X : CX} (rec2 : HS → Nat → Int32 → Option ((Nat ⊕ Unit) × HS)) (hrec2 : ∀ (σ : HS) (x0 : Nat) (x1 : Int32), G X RX17 "checksTypes" cX17_checksTypes 2 none 1 22 (enX enV (cxz X)) 2 [(0, av x0), (1, iv x1)] [] σ (rec2 σ x0 x1)) (σ : HS) (x0 : Nat) (x1 : Int32) : G X RX17 "checksTypes" cX17_checksTypes 2 none 1 22 (enX enV (cxz X)) 61 [(0, av x0), (1, iv x1)] [] σ (Mdl_checksTypes_p61 rec2 σ x0 x1) := by
  unfold Mdl_checksTypes_p61
  refine g_iincB (w := 1) 1 dX17_checksTypes_61 rfl (by decide) (by decide) (fun _ => rfl) (fun y1 => ?_)
  refine g_goto 2 dX17_checksTypes_64 (by decide) ?_
  refine G.sub [1, 0] rfl ?_
  exact hrec2 _ _ _
def V.Mdl_checksTypes_p2  : Nat → HS → Nat → Int32 → Option ((Nat ⊕ Unit) × HS)
  | 0, _, _, _ => none
  | n + 1, σ, x0, x1 =>
    ck (tg σ x0 = 18) <|
    ck (tg σ (gR σ x0 10) = 21) <|
    if (gI σ (gR σ x0 10) 8) ≤ x1 then (
      Mdl_checksTypes_p69 FU σ x0 (0 : Int32))
    else (
      ck (tg σ x0 = 18) <|
      ck (tg σ (gR σ x0 10) = 21) <|
      ck (tg σ (gR σ (gR σ x0 10) 9) = 100 ∧ inb x1 (ln σ (gR σ (gR σ x0 10) 9))) <|
      if (gI σ (gR σ (gR σ x0 10) 9) (ix x1)) = 0 then (
        ck (tg σ x0 = 18) <|
        ck (tg σ (gR σ x0 10) = 21) <|
        ck (tg σ (gR σ (gR σ x0 10) 10) = 101 ∧ inb x1 (ln σ (gR σ (gR σ x0 10) 10))) <|
        ck (tg σ x0 = 18) <|
        ck (tg σ (gR σ x0 10) = 21) <|
        if (gJ σ (gR σ (gR σ x0 10) 10) (ix x1)) < ((gI σ (gR σ x0 10) 4).toInt64) then (
          Mdl_checksTypes_p61 (Mdl_checksTypes_p2 n) σ x0 x1)
        else (
          ck (tg σ x0 = 18) <|
          ck (tg σ (gR σ x0 10) = 21) <|
          ck (tg σ (gR σ (gR σ x0 10) 2) = 100 ∧ inb (2 : Int32) (ln σ (gR σ (gR σ x0 10) 2))) <|
          ck (tg σ x0 = 18) <| clT (Mdl_stops σ x0 (20 : Int32) (gI σ (gR σ (gR σ x0 10) 2) (ix (2 : Int32)))) fun _ σ1 =>
          Mdl_checksTypes_p61 (Mdl_checksTypes_p2 n) σ1 x0 x1))
      else (
        Mdl_checksTypes_p61 (Mdl_checksTypes_p2 n) σ x0 x1))
theorem V.gX17_checksTypes_p2 {X : CX}  : ∀ (n : Nat) (σ : HS) (x0 : Nat) (x1 : Int32), G X RX17 "checksTypes" cX17_checksTypes 2 none 1 22 (enX enV (cxz X)) 2 [(0, av x0), (1, iv x1)] [] σ (Mdl_checksTypes_p2 n σ x0 x1)
  | 0, σ, x0, x1 => by rw [Mdl_checksTypes_p2]; exact G.nul
  | n + 1, σ, x0, x1 => by
    rw [Mdl_checksTypes_p2]
    refine g_iload_n 1 1 dX17_checksTypes_2 rfl rfl ?_
    refine g_aload_n 0 0 dX17_checksTypes_3 rfl rfl ?_
    refine g_getR fdX17_221 dX17_checksTypes_4 ?_
    refine g_getI fdX17_402 dX17_checksTypes_7 ?_
    refine g_icmp_ge 67 dX17_checksTypes_10 (by decide) ?_ ?_
    · refine g_iconst (v := 0) dX17_checksTypes_67 (by decide) ?_
      refine g_istore_n 1 dX17_checksTypes_68 rfl (by decide) rfl ?_
      refine G.sub [1, 0] rfl ?_
      exact gX17_checksTypes_p69 FU _ _ _
    · refine g_aload_n 0 0 dX17_checksTypes_13 rfl rfl ?_
      refine g_getR fdX17_221 dX17_checksTypes_14 ?_
      refine g_getR fdX17_411 dX17_checksTypes_17 ?_
      refine g_iload_n 1 1 dX17_checksTypes_20 rfl rfl ?_
      refine g_iaload dX17_checksTypes_21 ?_
      refine g_if_ne 61 dX17_checksTypes_22 (by decide) ?_ ?_
      · exact gX17_checksTypes_p61 (Mdl_checksTypes_p2 n) (gX17_checksTypes_p2 n) _ _ _
      · refine g_aload_n 0 0 dX17_checksTypes_25 rfl rfl ?_
        refine g_getR fdX17_221 dX17_checksTypes_26 ?_
        refine g_getR fdX17_414 dX17_checksTypes_29 ?_
        refine g_iload_n 1 1 dX17_checksTypes_32 rfl rfl ?_
        refine g_laload dX17_checksTypes_33 ?_
        refine g_aload_n 0 0 dX17_checksTypes_34 rfl rfl ?_
        refine g_getR fdX17_221 dX17_checksTypes_35 ?_
        refine g_getI fdX17_381 dX17_checksTypes_38 ?_
        refine g_i2l dX17_checksTypes_41 ?_
        refine g_lcmp_lt 61 dX17_checksTypes_42 dX17_checksTypes_43 (by decide) ?_ ?_
        · exact gX17_checksTypes_p61 (Mdl_checksTypes_p2 n) (gX17_checksTypes_p2 n) _ _ _
        · refine g_aload_n 0 0 dX17_checksTypes_46 rfl rfl ?_
          refine g_bipush (v := 20) dX17_checksTypes_47 (by decide) ?_
          refine g_aload_n 0 0 dX17_checksTypes_49 rfl rfl ?_
          refine g_getR fdX17_221 dX17_checksTypes_50 ?_
          refine g_getR fdX17_302 dX17_checksTypes_53 ?_
          refine g_iconst (v := 2) dX17_checksTypes_56 (by decide) ?_
          refine g_iaload dX17_checksTypes_57 ?_
          refine g_callVT (fc := fun sς => Mdl_stops sς x0 (20 : Int32) (gI σ (gR σ (gR σ x0 10) 2) (ix (2 : Int32)))) (ci := 17) (as := [iv (20 : Int32), iv (gI σ (gR σ (gR σ x0 10) 2) (ix (2 : Int32)))]) rfl rfl rfl q3606 qs214 q3604 mdX17_257 (ctX17_stops x0 (20 : Int32) (gI σ (gR σ (gR σ x0 10) 2) (ix (2 : Int32)))) rfl (Nat.le_of_ble_eq_true rfl) (Nat.le_of_ble_eq_true rfl) (Nat.le_of_ble_eq_true rfl) pu_V (by decide) dX17_checksTypes_58 (fun _ σ1 => ?_)
          exact gX17_checksTypes_p61 (Mdl_checksTypes_p2 n) (gX17_checksTypes_p2 n) _ _ _
def V.Mdl_checksTypes (σ : HS) (x0 : Nat) : Option ((Nat ⊕ Unit) × HS) :=
  Mdl_checksTypes_p2 FU σ x0 (0 : Int32)
theorem V.ctX17_checksTypes (x0 : Nat) : Ct yX17_checksTypes  cX17_checksTypes 2 none 1 22 eXV [av x0] (fun σ => Mdl_checksTypes σ x0) := by
  refine Ct.of (own := RX17) (nm := "checksTypes") (desc := "()V") rfl (by decide) (Nat.le_of_ble_eq_true rfl) (by decide) (fun X σ => ?_)
  show G X RX17 "checksTypes" cX17_checksTypes 2 none 1 22 (enX enV (cxz X)) 0 [(0, av x0)] [] σ (Mdl_checksTypes σ x0)
  unfold Mdl_checksTypes
  refine g_iconst (v := 0) dX17_checksTypes_0 (by decide) ?_
  refine g_istore_n 1 dX17_checksTypes_1 rfl (by decide) rfl ?_
  refine G.sub [1, 0] rfl ?_
  exact gX17_checksTypes_p2 FU _ _ _
theorem V.dX17_areLimits_0 : decode cX17_areLimits 0 = .ok (.lload_n 2, 1) := by decide +kernel
theorem V.dX17_areLimits_1 : decode cX17_areLimits 1 = .ok (.lconst 0, 1) := by decide +kernel
theorem V.dX17_areLimits_2 : decode cX17_areLimits 2 = .ok (.lcmp, 1) := by decide +kernel
theorem V.dX17_areLimits_3 : decode cX17_areLimits 3 = .ok (.ifCond .lt 9, 3) := by decide +kernel
theorem V.dX17_areLimits_6 : decode cX17_areLimits 6 = .ok (.lload_n 0, 1) := by decide +kernel
theorem V.dX17_areLimits_7 : decode cX17_areLimits 7 = .ok (.lload_n 2, 1) := by decide +kernel
theorem V.dX17_areLimits_8 : decode cX17_areLimits 8 = .ok (.lcmp, 1) := by decide +kernel
theorem V.dX17_areLimits_9 : decode cX17_areLimits 9 = .ok (.ifCond .gt 28, 3) := by decide +kernel
theorem V.dX17_areLimits_12 : decode cX17_areLimits 12 = .ok (.iload 4, 2) := by decide +kernel
theorem V.dX17_areLimits_14 : decode cX17_areLimits 14 = .ok (.ifCond .eq 19, 3) := by decide +kernel
theorem V.dX17_areLimits_17 : decode cX17_areLimits 17 = .ok (.lload_n 0, 1) := by decide +kernel
theorem V.dX17_areLimits_18 : decode cX17_areLimits 18 = .ok (.ldc2_w 636, 3) := by decide +kernel
theorem V.dX17_areLimits_21 : decode cX17_areLimits 21 = .ok (.lcmp, 1) := by decide +kernel
theorem V.dX17_areLimits_22 : decode cX17_areLimits 22 = .ok (.ifCond .gt 15, 3) := by decide +kernel
theorem V.dX17_areLimits_25 : decode cX17_areLimits 25 = .ok (.lload_n 2, 1) := by decide +kernel
theorem V.dX17_areLimits_26 : decode cX17_areLimits 26 = .ok (.ldc2_w 636, 3) := by decide +kernel
theorem V.dX17_areLimits_29 : decode cX17_areLimits 29 = .ok (.lcmp, 1) := by decide +kernel
theorem V.dX17_areLimits_30 : decode cX17_areLimits 30 = .ok (.ifCond .gt 7, 3) := by decide +kernel
theorem V.dX17_areLimits_33 : decode cX17_areLimits 33 = .ok (.iconst 1, 1) := by decide +kernel
theorem V.dX17_areLimits_34 : decode cX17_areLimits 34 = .ok (.goto 4, 3) := by decide +kernel
theorem V.dX17_areLimits_37 : decode cX17_areLimits 37 = .ok (.iconst 0, 1) := by decide +kernel
theorem V.dX17_areLimits_38 : decode cX17_areLimits 38 = .ok (.ireturn, 1) := by decide +kernel
/-! ModuleEngineModel.areLimits(JJZ)Z -/
def V.Mdl_areLimits_p33  (σ : HS)  : Option (Int32 × HS) :=
  some ((1 : Int32), σ)
theorem V.gX17_areLimits_p33 {X : CX}  (σ : HS)  : G X RX17 "areLimits" cX17_areLimits 5 (some .boolean) 0 0 enI 33 [] [] σ (Mdl_areLimits_p33 σ ) := by
  unfold Mdl_areLimits_p33
  refine g_iconst (v := 1) dX17_areLimits_33 (by decide) ?_
  refine g_goto 38 dX17_areLimits_34 (by decide) ?_
  exact g_zreturn rfl (by decide +kernel) dX17_areLimits_38
def V.Mdl_areLimits_p12  (σ : HS) (x0 : Int64) (x2 : Int64) (x4 : Int32) : Option (Int32 × HS) :=
  if x4 = 0 then (
    Mdl_areLimits_p33 σ)
  else (
    if (65536 : Int64) < x0 then (
      some ((0 : Int32), σ))
    else (
      if (65536 : Int64) < x2 then (
        some ((0 : Int32), σ))
      else (
        Mdl_areLimits_p33 σ)))
theorem V.gX17_areLimits_p12 {X : CX}  (σ : HS) (x0 : Int64) (x2 : Int64) (x4 : Int32) : G X RX17 "areLimits" cX17_areLimits 5 (some .boolean) 0 0 enI 12 [(0, jv x0), (2, jv x2), (4, iv x4)] [] σ (Mdl_areLimits_p12 σ x0 x2 x4) := by
  unfold Mdl_areLimits_p12
  refine g_iload 2 dX17_areLimits_12 rfl ?_
  refine g_if_eq 33 dX17_areLimits_14 (by decide) ?_ ?_
  · refine G.sub [] rfl ?_
    exact gX17_areLimits_p33 _
  · refine g_lload_n 0 0 dX17_areLimits_17 rfl rfl ?_
    refine g_ldc2 q3778 dX17_areLimits_18 ?_
    refine g_lcmp_gt 37 dX17_areLimits_21 dX17_areLimits_22 (by decide) ?_ ?_
    · refine g_iconst (v := 0) dX17_areLimits_37 (by decide) ?_
      exact g_zreturn rfl (by decide +kernel) dX17_areLimits_38
    · refine g_lload_n 2 1 dX17_areLimits_25 rfl rfl ?_
      refine g_ldc2 q3778 dX17_areLimits_26 ?_
      refine g_lcmp_gt 37 dX17_areLimits_29 dX17_areLimits_30 (by decide) ?_ ?_
      · refine g_iconst (v := 0) dX17_areLimits_37 (by decide) ?_
        exact g_zreturn rfl (by decide +kernel) dX17_areLimits_38
      · refine G.sub [] rfl ?_
        exact gX17_areLimits_p33 _
def V.Mdl_areLimits (σ : HS) (x0 : Int64) (x2 : Int64) (x4 : Int32) : Option (Int32 × HS) :=
  if x2 < (0 : Int64) then (
    Mdl_areLimits_p12 σ x0 x2 x4)
  else (
    if x2 < x0 then (
      some ((0 : Int32), σ))
    else (
      Mdl_areLimits_p12 σ x0 x2 x4))
theorem V.ctX17_areLimits (x0 : Int64) (x2 : Int64) (x4 : Int32) : Ct yX17_areLimits  cX17_areLimits 5 (some .boolean) 0 0 eI [jv x0, jv x2, iv x4] (fun σ => Mdl_areLimits σ x0 x2 x4) := by
  refine Ct.of (own := RX17) (nm := "areLimits") (desc := "(JJZ)Z") rfl (by decide) (Nat.le_of_ble_eq_true rfl) (by decide) (fun X σ => ?_)
  show G X RX17 "areLimits" cX17_areLimits 5 (some .boolean) 0 0 enI 0 [(0, jv x0), (2, jv x2), (4, iv x4)] [] σ (Mdl_areLimits σ x0 x2 x4)
  unfold Mdl_areLimits
  refine g_lload_n 2 1 dX17_areLimits_0 rfl rfl ?_
  refine g_lconst (v := 0) dX17_areLimits_1 (by decide) ?_
  refine g_lcmp_lt 12 dX17_areLimits_2 dX17_areLimits_3 (by decide) ?_ ?_
  · exact gX17_areLimits_p12 _ _ _ _
  · refine g_lload_n 0 0 dX17_areLimits_6 rfl rfl ?_
    refine g_lload_n 2 1 dX17_areLimits_7 rfl rfl ?_
    refine g_lcmp_gt 37 dX17_areLimits_8 dX17_areLimits_9 (by decide) ?_ ?_
    · refine g_iconst (v := 0) dX17_areLimits_37 (by decide) ?_
      exact g_zreturn rfl (by decide +kernel) dX17_areLimits_38
    · exact gX17_areLimits_p12 _ _ _ _
theorem V.dX17_checksLimits_0 : decode cX17_checksLimits 0 = .ok (.iconst 0, 1) := by decide +kernel
theorem V.dX17_checksLimits_1 : decode cX17_checksLimits 1 = .ok (.istore_n 1, 1) := by decide +kernel
theorem V.dX17_checksLimits_2 : decode cX17_checksLimits 2 = .ok (.iload_n 1, 1) := by decide +kernel
theorem V.dX17_checksLimits_3 : decode cX17_checksLimits 3 = .ok (.aload_n 0, 1) := by decide +kernel
theorem V.dX17_checksLimits_4 : decode cX17_checksLimits 4 = .ok (.getfield 221, 3) := by decide +kernel
theorem V.dX17_checksLimits_7 : decode cX17_checksLimits 7 = .ok (.getfield 402, 3) := by decide +kernel
theorem V.dX17_checksLimits_10 : decode cX17_checksLimits 10 = .ok (.if_icmp .ge 78, 3) := by decide +kernel
theorem V.dX17_checksLimits_13 : decode cX17_checksLimits 13 = .ok (.aload_n 0, 1) := by decide +kernel
theorem V.dX17_checksLimits_14 : decode cX17_checksLimits 14 = .ok (.getfield 221, 3) := by decide +kernel
theorem V.dX17_checksLimits_17 : decode cX17_checksLimits 17 = .ok (.getfield 411, 3) := by decide +kernel
theorem V.dX17_checksLimits_20 : decode cX17_checksLimits 20 = .ok (.iload_n 1, 1) := by decide +kernel
theorem V.dX17_checksLimits_21 : decode cX17_checksLimits 21 = .ok (.iaload, 1) := by decide +kernel
theorem V.dX17_checksLimits_22 : decode cX17_checksLimits 22 = .ok (.istore_n 2, 1) := by decide +kernel
theorem V.dX17_checksLimits_23 : decode cX17_checksLimits 23 = .ok (.iload_n 2, 1) := by decide +kernel
theorem V.dX17_checksLimits_24 : decode cX17_checksLimits 24 = .ok (.iconst 1, 1) := by decide +kernel
theorem V.dX17_checksLimits_25 : decode cX17_checksLimits 25 = .ok (.if_icmp .eq 8, 3) := by decide +kernel
theorem V.dX17_checksLimits_28 : decode cX17_checksLimits 28 = .ok (.iload_n 2, 1) := by decide +kernel
theorem V.dX17_checksLimits_29 : decode cX17_checksLimits 29 = .ok (.iconst 2, 1) := by decide +kernel
theorem V.dX17_checksLimits_30 : decode cX17_checksLimits 30 = .ok (.if_icmp .ne 52, 3) := by decide +kernel
theorem V.dX17_checksLimits_33 : decode cX17_checksLimits 33 = .ok (.aload_n 0, 1) := by decide +kernel
theorem V.dX17_checksLimits_34 : decode cX17_checksLimits 34 = .ok (.getfield 221, 3) := by decide +kernel
theorem V.dX17_checksLimits_37 : decode cX17_checksLimits 37 = .ok (.getfield 417, 3) := by decide +kernel
theorem V.dX17_checksLimits_40 : decode cX17_checksLimits 40 = .ok (.iload_n 1, 1) := by decide +kernel
theorem V.dX17_checksLimits_41 : decode cX17_checksLimits 41 = .ok (.laload, 1) := by decide +kernel
theorem V.dX17_checksLimits_42 : decode cX17_checksLimits 42 = .ok (.aload_n 0, 1) := by decide +kernel
theorem V.dX17_checksLimits_43 : decode cX17_checksLimits 43 = .ok (.getfield 221, 3) := by decide +kernel
theorem V.dX17_checksLimits_46 : decode cX17_checksLimits 46 = .ok (.getfield 420, 3) := by decide +kernel
theorem V.dX17_checksLimits_49 : decode cX17_checksLimits 49 = .ok (.iload_n 1, 1) := by decide +kernel
theorem V.dX17_checksLimits_50 : decode cX17_checksLimits 50 = .ok (.laload, 1) := by decide +kernel
theorem V.dX17_checksLimits_51 : decode cX17_checksLimits 51 = .ok (.iload_n 2, 1) := by decide +kernel
theorem V.dX17_checksLimits_52 : decode cX17_checksLimits 52 = .ok (.iconst 2, 1) := by decide +kernel
theorem V.dX17_checksLimits_53 : decode cX17_checksLimits 53 = .ok (.if_icmp .ne 7, 3) := by decide +kernel
theorem V.dX17_checksLimits_56 : decode cX17_checksLimits 56 = .ok (.iconst 1, 1) := by decide +kernel
theorem V.dX17_checksLimits_57 : decode cX17_checksLimits 57 = .ok (.goto 4, 3) := by decide +kernel
theorem V.dX17_checksLimits_60 : decode cX17_checksLimits 60 = .ok (.iconst 0, 1) := by decide +kernel
theorem V.dX17_checksLimits_61 : decode cX17_checksLimits 61 = .ok (.invokestatic 638, 3) := by decide +kernel
theorem V.dX17_checksLimits_64 : decode cX17_checksLimits 64 = .ok (.ifCond .ne 18, 3) := by decide +kernel
theorem V.dX17_checksLimits_67 : decode cX17_checksLimits 67 = .ok (.aload_n 0, 1) := by decide +kernel
theorem V.dX17_checksLimits_68 : decode cX17_checksLimits 68 = .ok (.bipush 21, 2) := by decide +kernel
theorem V.dX17_checksLimits_70 : decode cX17_checksLimits 70 = .ok (.aload_n 0, 1) := by decide +kernel
theorem V.dX17_checksLimits_71 : decode cX17_checksLimits 71 = .ok (.getfield 221, 3) := by decide +kernel
theorem V.dX17_checksLimits_74 : decode cX17_checksLimits 74 = .ok (.getfield 302, 3) := by decide +kernel
theorem V.dX17_checksLimits_77 : decode cX17_checksLimits 77 = .ok (.iconst 2, 1) := by decide +kernel
theorem V.dX17_checksLimits_78 : decode cX17_checksLimits 78 = .ok (.iaload, 1) := by decide +kernel
theorem V.dX17_checksLimits_79 : decode cX17_checksLimits 79 = .ok (.invokevirtual 257, 3) := by decide +kernel
theorem V.dX17_checksLimits_82 : decode cX17_checksLimits 82 = .ok (.iinc 1 1, 3) := by decide +kernel
theorem V.dX17_checksLimits_85 : decode cX17_checksLimits 85 = .ok (.goto (-83), 3) := by decide +kernel
theorem V.dX17_checksLimits_88 : decode cX17_checksLimits 88 = .ok (.iconst 0, 1) := by decide +kernel
theorem V.dX17_checksLimits_89 : decode cX17_checksLimits 89 = .ok (.istore_n 1, 1) := by decide +kernel
theorem V.dX17_checksLimits_90 : decode cX17_checksLimits 90 = .ok (.iload_n 1, 1) := by decide +kernel
theorem V.dX17_checksLimits_91 : decode cX17_checksLimits 91 = .ok (.aload_n 0, 1) := by decide +kernel
theorem V.dX17_checksLimits_92 : decode cX17_checksLimits 92 = .ok (.getfield 221, 3) := by decide +kernel
theorem V.dX17_checksLimits_95 : decode cX17_checksLimits 95 = .ok (.getfield 432, 3) := by decide +kernel
theorem V.dX17_checksLimits_98 : decode cX17_checksLimits 98 = .ok (.if_icmp .ge 49, 3) := by decide +kernel
theorem V.dX17_checksLimits_101 : decode cX17_checksLimits 101 = .ok (.aload_n 0, 1) := by decide +kernel
theorem V.dX17_checksLimits_102 : decode cX17_checksLimits 102 = .ok (.getfield 221, 3) := by decide +kernel
theorem V.dX17_checksLimits_105 : decode cX17_checksLimits 105 = .ok (.getfield 438, 3) := by decide +kernel
theorem V.dX17_checksLimits_108 : decode cX17_checksLimits 108 = .ok (.iload_n 1, 1) := by decide +kernel
theorem V.dX17_checksLimits_109 : decode cX17_checksLimits 109 = .ok (.laload, 1) := by decide +kernel
theorem V.dX17_checksLimits_110 : decode cX17_checksLimits 110 = .ok (.aload_n 0, 1) := by decide +kernel
theorem V.dX17_checksLimits_111 : decode cX17_checksLimits 111 = .ok (.getfield 221, 3) := by decide +kernel
theorem V.dX17_checksLimits_114 : decode cX17_checksLimits 114 = .ok (.getfield 441, 3) := by decide +kernel
theorem V.dX17_checksLimits_117 : decode cX17_checksLimits 117 = .ok (.iload_n 1, 1) := by decide +kernel
theorem V.dX17_checksLimits_118 : decode cX17_checksLimits 118 = .ok (.laload, 1) := by decide +kernel
theorem V.dX17_checksLimits_119 : decode cX17_checksLimits 119 = .ok (.iconst 0, 1) := by decide +kernel
theorem V.dX17_checksLimits_120 : decode cX17_checksLimits 120 = .ok (.invokestatic 638, 3) := by decide +kernel
theorem V.dX17_checksLimits_123 : decode cX17_checksLimits 123 = .ok (.ifCond .ne 18, 3) := by decide +kernel
theorem V.dX17_checksLimits_126 : decode cX17_checksLimits 126 = .ok (.aload_n 0, 1) := by decide +kernel
theorem V.dX17_checksLimits_127 : decode cX17_checksLimits 127 = .ok (.bipush 21, 2) := by decide +kernel
theorem V.dX17_checksLimits_129 : decode cX17_checksLimits 129 = .ok (.aload_n 0, 1) := by decide +kernel
theorem V.dX17_checksLimits_130 : decode cX17_checksLimits 130 = .ok (.getfield 221, 3) := by decide +kernel
theorem V.dX17_checksLimits_133 : decode cX17_checksLimits 133 = .ok (.getfield 302, 3) := by decide +kernel
theorem V.dX17_checksLimits_136 : decode cX17_checksLimits 136 = .ok (.iconst 4, 1) := by decide +kernel
theorem V.dX17_checksLimits_137 : decode cX17_checksLimits 137 = .ok (.iaload, 1) := by decide +kernel
theorem V.dX17_checksLimits_138 : decode cX17_checksLimits 138 = .ok (.invokevirtual 257, 3) := by decide +kernel
theorem V.dX17_checksLimits_141 : decode cX17_checksLimits 141 = .ok (.iinc 1 1, 3) := by decide +kernel
theorem V.dX17_checksLimits_144 : decode cX17_checksLimits 144 = .ok (.goto (-54), 3) := by decide +kernel
theorem V.dX17_checksLimits_147 : decode cX17_checksLimits 147 = .ok (.iconst 0, 1) := by decide +kernel
theorem V.dX17_checksLimits_148 : decode cX17_checksLimits 148 = .ok (.istore_n 1, 1) := by decide +kernel
theorem V.dX17_checksLimits_149 : decode cX17_checksLimits 149 = .ok (.iload_n 1, 1) := by decide +kernel
theorem V.dX17_checksLimits_150 : decode cX17_checksLimits 150 = .ok (.aload_n 0, 1) := by decide +kernel
theorem V.dX17_checksLimits_151 : decode cX17_checksLimits 151 = .ok (.getfield 221, 3) := by decide +kernel
theorem V.dX17_checksLimits_154 : decode cX17_checksLimits 154 = .ok (.getfield 444, 3) := by decide +kernel
theorem V.dX17_checksLimits_157 : decode cX17_checksLimits 157 = .ok (.if_icmp .ge 49, 3) := by decide +kernel
theorem V.dX17_checksLimits_160 : decode cX17_checksLimits 160 = .ok (.aload_n 0, 1) := by decide +kernel
theorem V.dX17_checksLimits_161 : decode cX17_checksLimits 161 = .ok (.getfield 221, 3) := by decide +kernel
theorem V.dX17_checksLimits_164 : decode cX17_checksLimits 164 = .ok (.getfield 447, 3) := by decide +kernel
theorem V.dX17_checksLimits_167 : decode cX17_checksLimits 167 = .ok (.iload_n 1, 1) := by decide +kernel
theorem V.dX17_checksLimits_168 : decode cX17_checksLimits 168 = .ok (.laload, 1) := by decide +kernel
theorem V.dX17_checksLimits_169 : decode cX17_checksLimits 169 = .ok (.aload_n 0, 1) := by decide +kernel
theorem V.dX17_checksLimits_170 : decode cX17_checksLimits 170 = .ok (.getfield 221, 3) := by decide +kernel
theorem V.dX17_checksLimits_173 : decode cX17_checksLimits 173 = .ok (.getfield 450, 3) := by decide +kernel
theorem V.dX17_checksLimits_176 : decode cX17_checksLimits 176 = .ok (.iload_n 1, 1) := by decide +kernel
theorem V.dX17_checksLimits_177 : decode cX17_checksLimits 177 = .ok (.laload, 1) := by decide +kernel
theorem V.dX17_checksLimits_178 : decode cX17_checksLimits 178 = .ok (.iconst 1, 1) := by decide +kernel
theorem V.dX17_checksLimits_179 : decode cX17_checksLimits 179 = .ok (.invokestatic 638, 3) := by decide +kernel
theorem V.dX17_checksLimits_182 : decode cX17_checksLimits 182 = .ok (.ifCond .ne 18, 3) := by decide +kernel
theorem V.dX17_checksLimits_185 : decode cX17_checksLimits 185 = .ok (.aload_n 0, 1) := by decide +kernel
theorem V.dX17_checksLimits_186 : decode cX17_checksLimits 186 = .ok (.bipush 21, 2) := by decide +kernel
theorem V.dX17_checksLimits_188 : decode cX17_checksLimits 188 = .ok (.aload_n 0, 1) := by decide +kernel
theorem V.dX17_checksLimits_189 : decode cX17_checksLimits 189 = .ok (.getfield 221, 3) := by decide +kernel
theorem V.dX17_checksLimits_192 : decode cX17_checksLimits 192 = .ok (.getfield 302, 3) := by decide +kernel
theorem V.dX17_checksLimits_195 : decode cX17_checksLimits 195 = .ok (.iconst 5, 1) := by decide +kernel
theorem V.dX17_checksLimits_196 : decode cX17_checksLimits 196 = .ok (.iaload, 1) := by decide +kernel
theorem V.dX17_checksLimits_197 : decode cX17_checksLimits 197 = .ok (.invokevirtual 257, 3) := by decide +kernel
theorem V.dX17_checksLimits_200 : decode cX17_checksLimits 200 = .ok (.iinc 1 1, 3) := by decide +kernel
theorem V.dX17_checksLimits_203 : decode cX17_checksLimits 203 = .ok (.goto (-54), 3) := by decide +kernel
theorem V.dX17_checksLimits_206 : decode cX17_checksLimits 206 = .ok (.return_, 1) := by decide +kernel
theorem V.fdX17_432 : FD RX17 432 20 17 0 := ⟨(RX20, TX20, 58), tyX20, rfl, rfl, in_X20, by decide, Or.inr ⟨_, q3394⟩, rfl⟩
theorem V.mdX17_638 : MD RX17 638 yX17_areLimits cX17_areLimits 5 (some .boolean) 3 := ⟨Or.inl q3775, q377, q3777, by decide, by decide, by decide +kernel⟩
theorem V.fdX17_444 : FD RX17 444 20 21 0 := ⟨(RX20, TX20, 58), tyX20, rfl, rfl, in_X20, by decide, Or.inr ⟨_, q3402⟩, rfl⟩
/-! ModuleEngineModel.checksLimits()V -/
def V.Mdl_checksLimits_p200 (rec149 : HS → Nat → Int32 → Option ((Nat ⊕ Unit) × HS)) (σ : HS) (x0 : Nat) (x1 : Int32) : Option ((Nat ⊕ Unit) × HS) :=
  bn (x1 + (1 : Int32)) fun y1 =>
  rec149 σ x0 y1
theorem V.gX17_checksLimits_p200 {X : CX} (rec149 : HS → Nat → Int32 → Option ((Nat ⊕ Unit) × HS)) (hrec149 : ∀ (σ : HS) (x0 : Nat) (x1 : Int32), G X RX17 "checksLimits" cX17_checksLimits 3 none 1 24 (enX enV (cxz X)) 149 [(0, av x0), (1, iv x1)] [] σ (rec149 σ x0 x1)) (σ : HS) (x0 : Nat) (x1 : Int32) : G X RX17 "checksLimits" cX17_checksLimits 3 none 1 24 (enX enV (cxz X)) 200 [(0, av x0), (1, iv x1)] [] σ (Mdl_checksLimits_p200 rec149 σ x0 x1) := by
  unfold Mdl_checksLimits_p200
  refine g_iincB (w := 1) 1 dX17_checksLimits_200 rfl (by decide) (by decide) (fun _ => rfl) (fun y1 => ?_)
  refine g_goto 149 dX17_checksLimits_203 (by decide) ?_
  refine G.sub [1, 0] rfl ?_
  exact hrec149 _ _ _
def V.Mdl_checksLimits_p149  : Nat → HS → Nat → Int32 → Option ((Nat ⊕ Unit) × HS)
  | 0, _, _, _ => none
  | n + 1, σ, x0, x1 =>
    ck (tg σ x0 = 18) <|
    ck (tg σ (gR σ x0 10) = 21) <|
    if (gI σ (gR σ x0 10) 21) ≤ x1 then (
      some (.inr (), σ))
    else (
      ck (tg σ x0 = 18) <|
      ck (tg σ (gR σ x0 10) = 21) <|
      ck (tg σ (gR σ (gR σ x0 10) 22) = 101 ∧ inb x1 (ln σ (gR σ (gR σ x0 10) 22))) <|
      ck (tg σ x0 = 18) <|
      ck (tg σ (gR σ x0 10) = 21) <|
      ck (tg σ (gR σ (gR σ x0 10) 23) = 101 ∧ inb x1 (ln σ (gR σ (gR σ x0 10) 23))) <|
      cl (Mdl_areLimits σ (gJ σ (gR σ (gR σ x0 10) 22) (ix x1)) (gJ σ (gR σ (gR σ x0 10) 23) (ix x1)) (1 : Int32)) fun r2 σ1 =>
      if r2 = 0 then (
        ck (tg σ1 x0 = 18) <|
        ck (tg σ1 (gR σ1 x0 10) = 21) <|
        ck (tg σ1 (gR σ1 (gR σ1 x0 10) 2) = 100 ∧ inb (5 : Int32) (ln σ1 (gR σ1 (gR σ1 x0 10) 2))) <|
        ck (tg σ1 x0 = 18) <| clT (Mdl_stops σ1 x0 (21 : Int32) (gI σ1 (gR σ1 (gR σ1 x0 10) 2) (ix (5 : Int32)))) fun _ σ3 =>
        Mdl_checksLimits_p200 (Mdl_checksLimits_p149 n) σ3 x0 x1)
      else (
        Mdl_checksLimits_p200 (Mdl_checksLimits_p149 n) σ1 x0 x1))
theorem V.gX17_checksLimits_p149 {X : CX}  : ∀ (n : Nat) (σ : HS) (x0 : Nat) (x1 : Int32), G X RX17 "checksLimits" cX17_checksLimits 3 none 1 24 (enX enV (cxz X)) 149 [(0, av x0), (1, iv x1)] [] σ (Mdl_checksLimits_p149 n σ x0 x1)
  | 0, σ, x0, x1 => by rw [Mdl_checksLimits_p149]; exact G.nul
  | n + 1, σ, x0, x1 => by
    rw [Mdl_checksLimits_p149]
    refine g_iload_n 1 1 dX17_checksLimits_149 rfl rfl ?_
    refine g_aload_n 0 0 dX17_checksLimits_150 rfl rfl ?_
    refine g_getR fdX17_221 dX17_checksLimits_151 ?_
    refine g_getI fdX17_444 dX17_checksLimits_154 ?_
    refine g_icmp_ge 206 dX17_checksLimits_157 (by decide) ?_ ?_
    · exact g_return rfl dX17_checksLimits_206
    · refine g_aload_n 0 0 dX17_checksLimits_160 rfl rfl ?_
      refine g_getR fdX17_221 dX17_checksLimits_161 ?_
      refine g_getR fdX17_447 dX17_checksLimits_164 ?_
      refine g_iload_n 1 1 dX17_checksLimits_167 rfl rfl ?_
      refine g_laload dX17_checksLimits_168 ?_
      refine g_aload_n 0 0 dX17_checksLimits_169 rfl rfl ?_
      refine g_getR fdX17_221 dX17_checksLimits_170 ?_
      refine g_getR fdX17_450 dX17_checksLimits_173 ?_
      refine g_iload_n 1 1 dX17_checksLimits_176 rfl rfl ?_
      refine g_laload dX17_checksLimits_177 ?_
      refine g_iconst (v := 1) dX17_checksLimits_178 (by decide) ?_
      refine g_callS (fc := fun sς => Mdl_areLimits sς (gJ σ (gR σ (gR σ x0 10) 22) (ix x1)) (gJ σ (gR σ (gR σ x0 10) 23) (ix x1)) (1 : Int32)) (as := [jv (gJ σ (gR σ (gR σ x0 10) 22) (ix x1)), jv (gJ σ (gR σ (gR σ x0 10) 23) (ix x1)), iv (1 : Int32)]) q3776 mdX17_638 (ctX17_areLimits (gJ σ (gR σ (gR σ x0 10) 22) (ix x1)) (gJ σ (gR σ (gR σ x0 10) 23) (ix x1)) (1 : Int32)) rfl (Nat.le_of_ble_eq_true rfl) (Nat.le_of_ble_eq_true rfl) (Nat.le_of_ble_eq_true rfl) pu_I dX17_checksLimits_179 (fun r2 σ1 => ?_)
      refine g_if_ne 200 dX17_checksLimits_182 (by decide) ?_ ?_
      · exact gX17_checksLimits_p200 (Mdl_checksLimits_p149 n) (gX17_checksLimits_p149 n) _ _ _
      · refine g_aload_n 0 0 dX17_checksLimits_185 rfl rfl ?_
        refine g_bipush (v := 21) dX17_checksLimits_186 (by decide) ?_
        refine g_aload_n 0 0 dX17_checksLimits_188 rfl rfl ?_
        refine g_getR fdX17_221 dX17_checksLimits_189 ?_
        refine g_getR fdX17_302 dX17_checksLimits_192 ?_
        refine g_iconst (v := 5) dX17_checksLimits_195 (by decide) ?_
        refine g_iaload dX17_checksLimits_196 ?_
        refine g_callVT (fc := fun sς => Mdl_stops sς x0 (21 : Int32) (gI σ1 (gR σ1 (gR σ1 x0 10) 2) (ix (5 : Int32)))) (ci := 17) (as := [iv (21 : Int32), iv (gI σ1 (gR σ1 (gR σ1 x0 10) 2) (ix (5 : Int32)))]) rfl rfl rfl q3606 qs214 q3604 mdX17_257 (ctX17_stops x0 (21 : Int32) (gI σ1 (gR σ1 (gR σ1 x0 10) 2) (ix (5 : Int32)))) rfl (Nat.le_of_ble_eq_true rfl) (Nat.le_of_ble_eq_true rfl) (Nat.le_of_ble_eq_true rfl) pu_V (by decide) dX17_checksLimits_197 (fun _ σ3 => ?_)
        exact gX17_checksLimits_p200 (Mdl_checksLimits_p149 n) (gX17_checksLimits_p149 n) _ _ _
def V.Mdl_checksLimits_p141 (rec90 : HS → Nat → Int32 → Option ((Nat ⊕ Unit) × HS)) (σ : HS) (x0 : Nat) (x1 : Int32) : Option ((Nat ⊕ Unit) × HS) :=
  bn (x1 + (1 : Int32)) fun y1 =>
  rec90 σ x0 y1
theorem V.gX17_checksLimits_p141 {X : CX} (rec90 : HS → Nat → Int32 → Option ((Nat ⊕ Unit) × HS)) (hrec90 : ∀ (σ : HS) (x0 : Nat) (x1 : Int32), G X RX17 "checksLimits" cX17_checksLimits 3 none 1 24 (enX enV (cxz X)) 90 [(0, av x0), (1, iv x1)] [] σ (rec90 σ x0 x1)) (σ : HS) (x0 : Nat) (x1 : Int32) : G X RX17 "checksLimits" cX17_checksLimits 3 none 1 24 (enX enV (cxz X)) 141 [(0, av x0), (1, iv x1)] [] σ (Mdl_checksLimits_p141 rec90 σ x0 x1) := by
  unfold Mdl_checksLimits_p141
  refine g_iincB (w := 1) 1 dX17_checksLimits_141 rfl (by decide) (by decide) (fun _ => rfl) (fun y1 => ?_)
  refine g_goto 90 dX17_checksLimits_144 (by decide) ?_
  refine G.sub [1, 0] rfl ?_
  exact hrec90 _ _ _
def V.Mdl_checksLimits_p90  : Nat → HS → Nat → Int32 → Option ((Nat ⊕ Unit) × HS)
  | 0, _, _, _ => none
  | n + 1, σ, x0, x1 =>
    ck (tg σ x0 = 18) <|
    ck (tg σ (gR σ x0 10) = 21) <|
    if (gI σ (gR σ x0 10) 17) ≤ x1 then (
      Mdl_checksLimits_p149 FU σ x0 (0 : Int32))
    else (
      ck (tg σ x0 = 18) <|
      ck (tg σ (gR σ x0 10) = 21) <|
      ck (tg σ (gR σ (gR σ x0 10) 19) = 101 ∧ inb x1 (ln σ (gR σ (gR σ x0 10) 19))) <|
      ck (tg σ x0 = 18) <|
      ck (tg σ (gR σ x0 10) = 21) <|
      ck (tg σ (gR σ (gR σ x0 10) 20) = 101 ∧ inb x1 (ln σ (gR σ (gR σ x0 10) 20))) <|
      cl (Mdl_areLimits σ (gJ σ (gR σ (gR σ x0 10) 19) (ix x1)) (gJ σ (gR σ (gR σ x0 10) 20) (ix x1)) (0 : Int32)) fun r2 σ1 =>
      if r2 = 0 then (
        ck (tg σ1 x0 = 18) <|
        ck (tg σ1 (gR σ1 x0 10) = 21) <|
        ck (tg σ1 (gR σ1 (gR σ1 x0 10) 2) = 100 ∧ inb (4 : Int32) (ln σ1 (gR σ1 (gR σ1 x0 10) 2))) <|
        ck (tg σ1 x0 = 18) <| clT (Mdl_stops σ1 x0 (21 : Int32) (gI σ1 (gR σ1 (gR σ1 x0 10) 2) (ix (4 : Int32)))) fun _ σ3 =>
        Mdl_checksLimits_p141 (Mdl_checksLimits_p90 n) σ3 x0 x1)
      else (
        Mdl_checksLimits_p141 (Mdl_checksLimits_p90 n) σ1 x0 x1))
theorem V.gX17_checksLimits_p90 {X : CX}  : ∀ (n : Nat) (σ : HS) (x0 : Nat) (x1 : Int32), G X RX17 "checksLimits" cX17_checksLimits 3 none 1 24 (enX enV (cxz X)) 90 [(0, av x0), (1, iv x1)] [] σ (Mdl_checksLimits_p90 n σ x0 x1)
  | 0, σ, x0, x1 => by rw [Mdl_checksLimits_p90]; exact G.nul
  | n + 1, σ, x0, x1 => by
    rw [Mdl_checksLimits_p90]
    refine g_iload_n 1 1 dX17_checksLimits_90 rfl rfl ?_
    refine g_aload_n 0 0 dX17_checksLimits_91 rfl rfl ?_
    refine g_getR fdX17_221 dX17_checksLimits_92 ?_
    refine g_getI fdX17_432 dX17_checksLimits_95 ?_
    refine g_icmp_ge 147 dX17_checksLimits_98 (by decide) ?_ ?_
    · refine g_iconst (v := 0) dX17_checksLimits_147 (by decide) ?_
      refine g_istore_n 1 dX17_checksLimits_148 rfl (by decide) rfl ?_
      refine G.sub [1, 0] rfl ?_
      exact gX17_checksLimits_p149 FU _ _ _
    · refine g_aload_n 0 0 dX17_checksLimits_101 rfl rfl ?_
      refine g_getR fdX17_221 dX17_checksLimits_102 ?_
      refine g_getR fdX17_438 dX17_checksLimits_105 ?_
      refine g_iload_n 1 1 dX17_checksLimits_108 rfl rfl ?_
      refine g_laload dX17_checksLimits_109 ?_
      refine g_aload_n 0 0 dX17_checksLimits_110 rfl rfl ?_
      refine g_getR fdX17_221 dX17_checksLimits_111 ?_
      refine g_getR fdX17_441 dX17_checksLimits_114 ?_
      refine g_iload_n 1 1 dX17_checksLimits_117 rfl rfl ?_
      refine g_laload dX17_checksLimits_118 ?_
      refine g_iconst (v := 0) dX17_checksLimits_119 (by decide) ?_
      refine g_callS (fc := fun sς => Mdl_areLimits sς (gJ σ (gR σ (gR σ x0 10) 19) (ix x1)) (gJ σ (gR σ (gR σ x0 10) 20) (ix x1)) (0 : Int32)) (as := [jv (gJ σ (gR σ (gR σ x0 10) 19) (ix x1)), jv (gJ σ (gR σ (gR σ x0 10) 20) (ix x1)), iv (0 : Int32)]) q3776 mdX17_638 (ctX17_areLimits (gJ σ (gR σ (gR σ x0 10) 19) (ix x1)) (gJ σ (gR σ (gR σ x0 10) 20) (ix x1)) (0 : Int32)) rfl (Nat.le_of_ble_eq_true rfl) (Nat.le_of_ble_eq_true rfl) (Nat.le_of_ble_eq_true rfl) pu_I dX17_checksLimits_120 (fun r2 σ1 => ?_)
      refine g_if_ne 141 dX17_checksLimits_123 (by decide) ?_ ?_
      · exact gX17_checksLimits_p141 (Mdl_checksLimits_p90 n) (gX17_checksLimits_p90 n) _ _ _
      · refine g_aload_n 0 0 dX17_checksLimits_126 rfl rfl ?_
        refine g_bipush (v := 21) dX17_checksLimits_127 (by decide) ?_
        refine g_aload_n 0 0 dX17_checksLimits_129 rfl rfl ?_
        refine g_getR fdX17_221 dX17_checksLimits_130 ?_
        refine g_getR fdX17_302 dX17_checksLimits_133 ?_
        refine g_iconst (v := 4) dX17_checksLimits_136 (by decide) ?_
        refine g_iaload dX17_checksLimits_137 ?_
        refine g_callVT (fc := fun sς => Mdl_stops sς x0 (21 : Int32) (gI σ1 (gR σ1 (gR σ1 x0 10) 2) (ix (4 : Int32)))) (ci := 17) (as := [iv (21 : Int32), iv (gI σ1 (gR σ1 (gR σ1 x0 10) 2) (ix (4 : Int32)))]) rfl rfl rfl q3606 qs214 q3604 mdX17_257 (ctX17_stops x0 (21 : Int32) (gI σ1 (gR σ1 (gR σ1 x0 10) 2) (ix (4 : Int32)))) rfl (Nat.le_of_ble_eq_true rfl) (Nat.le_of_ble_eq_true rfl) (Nat.le_of_ble_eq_true rfl) pu_V (by decide) dX17_checksLimits_138 (fun _ σ3 => ?_)
        exact gX17_checksLimits_p141 (Mdl_checksLimits_p90 n) (gX17_checksLimits_p90 n) _ _ _
def V.Mdl_checksLimits_p82 (rec2 : HS → Nat → Int32 → Option ((Nat ⊕ Unit) × HS)) (σ : HS) (x0 : Nat) (x1 : Int32) : Option ((Nat ⊕ Unit) × HS) :=
  bn (x1 + (1 : Int32)) fun y1 =>
  rec2 σ x0 y1
theorem V.gX17_checksLimits_p82 {X : CX} (rec2 : HS → Nat → Int32 → Option ((Nat ⊕ Unit) × HS)) (hrec2 : ∀ (σ : HS) (x0 : Nat) (x1 : Int32), G X RX17 "checksLimits" cX17_checksLimits 3 none 1 24 (enX enV (cxz X)) 2 [(0, av x0), (1, iv x1)] [] σ (rec2 σ x0 x1)) (σ : HS) (x0 : Nat) (x1 : Int32) : G X RX17 "checksLimits" cX17_checksLimits 3 none 1 24 (enX enV (cxz X)) 82 [(0, av x0), (1, iv x1)] [] σ (Mdl_checksLimits_p82 rec2 σ x0 x1) := by
  unfold Mdl_checksLimits_p82
  refine g_iincB (w := 1) 1 dX17_checksLimits_82 rfl (by decide) (by decide) (fun _ => rfl) (fun y1 => ?_)
  refine g_goto 2 dX17_checksLimits_85 (by decide) ?_
  refine G.sub [1, 0] rfl ?_
  exact hrec2 _ _ _
def V.Mdl_checksLimits_p61 (rec2 : HS → Nat → Int32 → Option ((Nat ⊕ Unit) × HS)) (σ : HS) (x0 : Nat) (x1 : Int32) (s0 : Int32) (s1 : Int64) (s2 : Int64) : Option ((Nat ⊕ Unit) × HS) :=
  cl (Mdl_areLimits σ s2 s1 s0) fun r2 σ1 =>
  if r2 = 0 then (
    ck (tg σ1 x0 = 18) <|
    ck (tg σ1 (gR σ1 x0 10) = 21) <|
    ck (tg σ1 (gR σ1 (gR σ1 x0 10) 2) = 100 ∧ inb (2 : Int32) (ln σ1 (gR σ1 (gR σ1 x0 10) 2))) <|
    ck (tg σ1 x0 = 18) <| clT (Mdl_stops σ1 x0 (21 : Int32) (gI σ1 (gR σ1 (gR σ1 x0 10) 2) (ix (2 : Int32)))) fun _ σ3 =>
    Mdl_checksLimits_p82 rec2 σ3 x0 x1)
  else (
    Mdl_checksLimits_p82 rec2 σ1 x0 x1)
theorem V.gX17_checksLimits_p61 {X : CX} (rec2 : HS → Nat → Int32 → Option ((Nat ⊕ Unit) × HS)) (hrec2 : ∀ (σ : HS) (x0 : Nat) (x1 : Int32), G X RX17 "checksLimits" cX17_checksLimits 3 none 1 24 (enX enV (cxz X)) 2 [(0, av x0), (1, iv x1)] [] σ (rec2 σ x0 x1)) (σ : HS) (x0 : Nat) (x1 : Int32) (s0 : Int32) (s1 : Int64) (s2 : Int64) : G X RX17 "checksLimits" cX17_checksLimits 3 none 1 24 (enX enV (cxz X)) 61 [(0, av x0), (1, iv x1)] [iv s0, jv s1, jv s2] σ (Mdl_checksLimits_p61 rec2 σ x0 x1 s0 s1 s2) := by
  unfold Mdl_checksLimits_p61
  refine g_callS (fc := fun sς => Mdl_areLimits sς s2 s1 s0) (as := [jv s2, jv s1, iv s0]) q3776 mdX17_638 (ctX17_areLimits s2 s1 s0) rfl (Nat.le_of_ble_eq_true rfl) (Nat.le_of_ble_eq_true rfl) (Nat.le_of_ble_eq_true rfl) pu_I dX17_checksLimits_61 (fun r2 σ1 => ?_)
  refine g_if_ne 82 dX17_checksLimits_64 (by decide) ?_ ?_
  · exact gX17_checksLimits_p82 rec2 hrec2 _ _ _
  · refine g_aload_n 0 0 dX17_checksLimits_67 rfl rfl ?_
    refine g_bipush (v := 21) dX17_checksLimits_68 (by decide) ?_
    refine g_aload_n 0 0 dX17_checksLimits_70 rfl rfl ?_
    refine g_getR fdX17_221 dX17_checksLimits_71 ?_
    refine g_getR fdX17_302 dX17_checksLimits_74 ?_
    refine g_iconst (v := 2) dX17_checksLimits_77 (by decide) ?_
    refine g_iaload dX17_checksLimits_78 ?_
    refine g_callVT (fc := fun sς => Mdl_stops sς x0 (21 : Int32) (gI σ1 (gR σ1 (gR σ1 x0 10) 2) (ix (2 : Int32)))) (ci := 17) (as := [iv (21 : Int32), iv (gI σ1 (gR σ1 (gR σ1 x0 10) 2) (ix (2 : Int32)))]) rfl rfl rfl q3606 qs214 q3604 mdX17_257 (ctX17_stops x0 (21 : Int32) (gI σ1 (gR σ1 (gR σ1 x0 10) 2) (ix (2 : Int32)))) rfl (Nat.le_of_ble_eq_true rfl) (Nat.le_of_ble_eq_true rfl) (Nat.le_of_ble_eq_true rfl) pu_V (by decide) dX17_checksLimits_79 (fun _ σ3 => ?_)
    exact gX17_checksLimits_p82 rec2 hrec2 _ _ _
def V.Mdl_checksLimits_p33 (rec2 : HS → Nat → Int32 → Option ((Nat ⊕ Unit) × HS)) (σ : HS) (x0 : Nat) (x1 : Int32) (x2 : Int32) : Option ((Nat ⊕ Unit) × HS) :=
  ck (tg σ x0 = 18) <|
  ck (tg σ (gR σ x0 10) = 21) <|
  ck (tg σ (gR σ (gR σ x0 10) 11) = 101 ∧ inb x1 (ln σ (gR σ (gR σ x0 10) 11))) <|
  ck (tg σ x0 = 18) <|
  ck (tg σ (gR σ x0 10) = 21) <|
  ck (tg σ (gR σ (gR σ x0 10) 12) = 101 ∧ inb x1 (ln σ (gR σ (gR σ x0 10) 12))) <|
  if x2 = (2 : Int32) then (
    Mdl_checksLimits_p61 rec2 σ x0 x1 (1 : Int32) (gJ σ (gR σ (gR σ x0 10) 12) (ix x1)) (gJ σ (gR σ (gR σ x0 10) 11) (ix x1)))
  else (
    Mdl_checksLimits_p61 rec2 σ x0 x1 (0 : Int32) (gJ σ (gR σ (gR σ x0 10) 12) (ix x1)) (gJ σ (gR σ (gR σ x0 10) 11) (ix x1)))
theorem V.gX17_checksLimits_p33 {X : CX} (rec2 : HS → Nat → Int32 → Option ((Nat ⊕ Unit) × HS)) (hrec2 : ∀ (σ : HS) (x0 : Nat) (x1 : Int32), G X RX17 "checksLimits" cX17_checksLimits 3 none 1 24 (enX enV (cxz X)) 2 [(0, av x0), (1, iv x1)] [] σ (rec2 σ x0 x1)) (σ : HS) (x0 : Nat) (x1 : Int32) (x2 : Int32) : G X RX17 "checksLimits" cX17_checksLimits 3 none 1 24 (enX enV (cxz X)) 33 [(0, av x0), (1, iv x1), (2, iv x2)] [] σ (Mdl_checksLimits_p33 rec2 σ x0 x1 x2) := by
  unfold Mdl_checksLimits_p33
  refine g_aload_n 0 0 dX17_checksLimits_33 rfl rfl ?_
  refine g_getR fdX17_221 dX17_checksLimits_34 ?_
  refine g_getR fdX17_417 dX17_checksLimits_37 ?_
  refine g_iload_n 1 1 dX17_checksLimits_40 rfl rfl ?_
  refine g_laload dX17_checksLimits_41 ?_
  refine g_aload_n 0 0 dX17_checksLimits_42 rfl rfl ?_
  refine g_getR fdX17_221 dX17_checksLimits_43 ?_
  refine g_getR fdX17_420 dX17_checksLimits_46 ?_
  refine g_iload_n 1 1 dX17_checksLimits_49 rfl rfl ?_
  refine g_laload dX17_checksLimits_50 ?_
  refine g_iload_n 2 2 dX17_checksLimits_51 rfl rfl ?_
  refine g_iconst (v := 2) dX17_checksLimits_52 (by decide) ?_
  refine g_icmp_ne 60 dX17_checksLimits_53 (by decide) ?_ ?_
  · refine g_iconst (v := 0) dX17_checksLimits_60 (by decide) ?_
    refine G.sub [0, 1] rfl ?_
    exact gX17_checksLimits_p61 rec2 hrec2 _ _ _ _ _ _
  · refine g_iconst (v := 1) dX17_checksLimits_56 (by decide) ?_
    refine g_goto 61 dX17_checksLimits_57 (by decide) ?_
    refine G.sub [0, 1] rfl ?_
    exact gX17_checksLimits_p61 rec2 hrec2 _ _ _ _ _ _
def V.Mdl_checksLimits_p2  : Nat → HS → Nat → Int32 → Option ((Nat ⊕ Unit) × HS)
  | 0, _, _, _ => none
  | n + 1, σ, x0, x1 =>
    ck (tg σ x0 = 18) <|
    ck (tg σ (gR σ x0 10) = 21) <|
    if (gI σ (gR σ x0 10) 8) ≤ x1 then (
      Mdl_checksLimits_p90 FU σ x0 (0 : Int32))
    else (
      ck (tg σ x0 = 18) <|
      ck (tg σ (gR σ x0 10) = 21) <|
      ck (tg σ (gR σ (gR σ x0 10) 9) = 100 ∧ inb x1 (ln σ (gR σ (gR σ x0 10) 9))) <|
      bn (gI σ (gR σ (gR σ x0 10) 9) (ix x1)) fun y1 =>
      if y1 = (1 : Int32) then (
        Mdl_checksLimits_p33 (Mdl_checksLimits_p2 n) σ x0 x1 y1)
      else (
        if y1 = (2 : Int32) then (
          Mdl_checksLimits_p33 (Mdl_checksLimits_p2 n) σ x0 x1 y1)
        else (
          Mdl_checksLimits_p82 (Mdl_checksLimits_p2 n) σ x0 x1)))
theorem V.gX17_checksLimits_p2 {X : CX}  : ∀ (n : Nat) (σ : HS) (x0 : Nat) (x1 : Int32), G X RX17 "checksLimits" cX17_checksLimits 3 none 1 24 (enX enV (cxz X)) 2 [(0, av x0), (1, iv x1)] [] σ (Mdl_checksLimits_p2 n σ x0 x1)
  | 0, σ, x0, x1 => by rw [Mdl_checksLimits_p2]; exact G.nul
  | n + 1, σ, x0, x1 => by
    rw [Mdl_checksLimits_p2]
    refine g_iload_n 1 1 dX17_checksLimits_2 rfl rfl ?_
    refine g_aload_n 0 0 dX17_checksLimits_3 rfl rfl ?_
    refine g_getR fdX17_221 dX17_checksLimits_4 ?_
    refine g_getI fdX17_402 dX17_checksLimits_7 ?_
    refine g_icmp_ge 88 dX17_checksLimits_10 (by decide) ?_ ?_
    · refine g_iconst (v := 0) dX17_checksLimits_88 (by decide) ?_
      refine g_istore_n 1 dX17_checksLimits_89 rfl (by decide) rfl ?_
      refine G.sub [1, 0] rfl ?_
      exact gX17_checksLimits_p90 FU _ _ _
    · refine g_aload_n 0 0 dX17_checksLimits_13 rfl rfl ?_
      refine g_getR fdX17_221 dX17_checksLimits_14 ?_
      refine g_getR fdX17_411 dX17_checksLimits_17 ?_
      refine g_iload_n 1 1 dX17_checksLimits_20 rfl rfl ?_
      refine g_iaload dX17_checksLimits_21 ?_
      refine g_nmI (fun y1 => ?_)
      refine g_istore_n 2 dX17_checksLimits_22 rfl (by decide) rfl ?_
      refine g_iload_n 2 0 dX17_checksLimits_23 rfl rfl ?_
      refine g_iconst (v := 1) dX17_checksLimits_24 (by decide) ?_
      refine g_icmp_eq 33 dX17_checksLimits_25 (by decide) ?_ ?_
      · refine G.sub [1, 2, 0] rfl ?_
        exact gX17_checksLimits_p33 (Mdl_checksLimits_p2 n) (gX17_checksLimits_p2 n) _ _ _ _
      · refine g_iload_n 2 0 dX17_checksLimits_28 rfl rfl ?_
        refine g_iconst (v := 2) dX17_checksLimits_29 (by decide) ?_
        refine g_icmp_ne 82 dX17_checksLimits_30 (by decide) ?_ ?_
        · refine G.sub [1, 2] rfl ?_
          exact gX17_checksLimits_p82 (Mdl_checksLimits_p2 n) (gX17_checksLimits_p2 n) _ _ _
        · refine G.sub [1, 2, 0] rfl ?_
          exact gX17_checksLimits_p33 (Mdl_checksLimits_p2 n) (gX17_checksLimits_p2 n) _ _ _ _
def V.Mdl_checksLimits (σ : HS) (x0 : Nat) : Option ((Nat ⊕ Unit) × HS) :=
  Mdl_checksLimits_p2 FU σ x0 (0 : Int32)
theorem V.ctX17_checksLimits (x0 : Nat) : Ct yX17_checksLimits  cX17_checksLimits 3 none 1 24 eXV [av x0] (fun σ => Mdl_checksLimits σ x0) := by
  refine Ct.of (own := RX17) (nm := "checksLimits") (desc := "()V") rfl (by decide) (Nat.le_of_ble_eq_true rfl) (by decide) (fun X σ => ?_)
  show G X RX17 "checksLimits" cX17_checksLimits 3 none 1 24 (enX enV (cxz X)) 0 [(0, av x0)] [] σ (Mdl_checksLimits σ x0)
  unfold Mdl_checksLimits
  refine g_iconst (v := 0) dX17_checksLimits_0 (by decide) ?_
  refine g_istore_n 1 dX17_checksLimits_1 rfl (by decide) rfl ?_
  refine G.sub [1, 0] rfl ?_
  exact gX17_checksLimits_p2 FU _ _ _
