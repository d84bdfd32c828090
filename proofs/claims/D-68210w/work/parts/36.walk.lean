set_option maxRecDepth 100000
theorem V.dX17_root_0 : decode cX17_root 0 = .ok (.aload_n 0, 1) := by decide +kernel
theorem V.dX17_root_1 : decode cX17_root 1 = .ok (.getfield 61, 3) := by decide +kernel
theorem V.dX17_root_4 : decode cX17_root 4 = .ok (.iload_n 1, 1) := by decide +kernel
theorem V.dX17_root_5 : decode cX17_root 5 = .ok (.lload_n 2, 1) := by decide +kernel
theorem V.dX17_root_6 : decode cX17_root 6 = .ok (.invokevirtual 868, 3) := by decide +kernel
theorem V.dX17_root_9 : decode cX17_root 9 = .ok (.aload_n 0, 1) := by decide +kernel
theorem V.dX17_root_10 : decode cX17_root 10 = .ok (.getfield 61, 3) := by decide +kernel
theorem V.dX17_root_13 : decode cX17_root 13 = .ok (.getfield 871, 3) := by decide +kernel
theorem V.dX17_root_16 : decode cX17_root 16 = .ok (.iconst 1, 1) := by decide +kernel
theorem V.dX17_root_17 : decode cX17_root 17 = .ok (.if_icmp .ne 5, 3) := by decide +kernel
theorem V.dX17_root_20 : decode cX17_root 20 = .ok (.lload_n 2, 1) := by decide +kernel
theorem V.dX17_root_21 : decode cX17_root 21 = .ok (.lreturn, 1) := by decide +kernel
theorem V.dX17_root_22 : decode cX17_root 22 = .ok (.aload_n 0, 1) := by decide +kernel
theorem V.dX17_root_23 : decode cX17_root 23 = .ok (.getfield 61, 3) := by decide +kernel
theorem V.dX17_root_26 : decode cX17_root 26 = .ok (.getfield 871, 3) := by decide +kernel
theorem V.dX17_root_29 : decode cX17_root 29 = .ok (.iconst 3, 1) := by decide +kernel
theorem V.dX17_root_30 : decode cX17_root 30 = .ok (.if_icmp .eq 13, 3) := by decide +kernel
theorem V.dX17_root_33 : decode cX17_root 33 = .ok (.aload_n 0, 1) := by decide +kernel
theorem V.dX17_root_34 : decode cX17_root 34 = .ok (.getfield 61, 3) := by decide +kernel
theorem V.dX17_root_37 : decode cX17_root 37 = .ok (.getfield 921, 3) := by decide +kernel
theorem V.dX17_root_40 : decode cX17_root 40 = .ok (.ifCond .eq 8, 3) := by decide +kernel
theorem V.dX17_root_43 : decode cX17_root 43 = .ok (.iload_n 1, 1) := by decide +kernel
theorem V.dX17_root_44 : decode cX17_root 44 = .ok (.invokestatic 910, 3) := by decide +kernel
theorem V.dX17_root_47 : decode cX17_root 47 = .ok (.lreturn, 1) := by decide +kernel
theorem V.dX17_root_48 : decode cX17_root 48 = .ok (.aload_n 0, 1) := by decide +kernel
theorem V.dX17_root_49 : decode cX17_root 49 = .ok (.getfield 61, 3) := by decide +kernel
theorem V.dX17_root_52 : decode cX17_root 52 = .ok (.getfield 871, 3) := by decide +kernel
theorem V.dX17_root_55 : decode cX17_root 55 = .ok (.iconst 2, 1) := by decide +kernel
theorem V.dX17_root_56 : decode cX17_root 56 = .ok (.if_icmp .ne 5, 3) := by decide +kernel
theorem V.dX17_root_59 : decode cX17_root 59 = .ok (.lload_n 2, 1) := by decide +kernel
theorem V.dX17_root_60 : decode cX17_root 60 = .ok (.lreturn, 1) := by decide +kernel
theorem V.dX17_root_61 : decode cX17_root 61 = .ok (.aload_n 0, 1) := by decide +kernel
theorem V.dX17_root_62 : decode cX17_root 62 = .ok (.getfield 61, 3) := by decide +kernel
theorem V.dX17_root_65 : decode cX17_root 65 = .ok (.getfield 916, 3) := by decide +kernel
theorem V.dX17_root_68 : decode cX17_root 68 = .ok (.lstore 4, 2) := by decide +kernel
theorem V.dX17_root_70 : decode cX17_root 70 = .ok (.aload_n 0, 1) := by decide +kernel
theorem V.dX17_root_71 : decode cX17_root 71 = .ok (.getfield 61, 3) := by decide +kernel
theorem V.dX17_root_74 : decode cX17_root 74 = .ok (.getfield 913, 3) := by decide +kernel
theorem V.dX17_root_77 : decode cX17_root 77 = .ok (.istore 6, 2) := by decide +kernel
theorem V.dX17_root_79 : decode cX17_root 79 = .ok (.lload 4, 2) := by decide +kernel
theorem V.dX17_root_81 : decode cX17_root 81 = .ok (.ldc2_w 928, 3) := by decide +kernel
theorem V.dX17_root_84 : decode cX17_root 84 = .ok (.lcmp, 1) := by decide +kernel
theorem V.dX17_root_85 : decode cX17_root 85 = .ok (.ifCond .lt 10, 3) := by decide +kernel
theorem V.dX17_root_88 : decode cX17_root 88 = .ok (.iload 6, 2) := by decide +kernel
theorem V.dX17_root_90 : decode cX17_root 90 = .ok (.iconst 2, 1) := by decide +kernel
theorem V.dX17_root_91 : decode cX17_root 91 = .ok (.irem, 1) := by decide +kernel
theorem V.dX17_root_92 : decode cX17_root 92 = .ok (.ifCond .eq 15, 3) := by decide +kernel
theorem V.dX17_root_95 : decode cX17_root 95 = .ok (.lload 4, 2) := by decide +kernel
theorem V.dX17_root_97 : decode cX17_root 97 = .ok (.iconst 1, 1) := by decide +kernel
theorem V.dX17_root_98 : decode cX17_root 98 = .ok (.lshl, 1) := by decide +kernel
theorem V.dX17_root_99 : decode cX17_root 99 = .ok (.lstore 4, 2) := by decide +kernel
theorem V.dX17_root_101 : decode cX17_root 101 = .ok (.iinc 6 (-1), 3) := by decide +kernel
theorem V.dX17_root_104 : decode cX17_root 104 = .ok (.goto (-25), 3) := by decide +kernel
theorem V.dX17_root_107 : decode cX17_root 107 = .ok (.lconst 0, 1) := by decide +kernel
theorem V.dX17_root_108 : decode cX17_root 108 = .ok (.lstore 7, 2) := by decide +kernel
theorem V.dX17_root_110 : decode cX17_root 110 = .ok (.lconst 0, 1) := by decide +kernel
theorem V.dX17_root_111 : decode cX17_root 111 = .ok (.lstore 9, 2) := by decide +kernel
theorem V.dX17_root_113 : decode cX17_root 113 = .ok (.bipush 28, 2) := by decide +kernel
theorem V.dX17_root_115 : decode cX17_root 115 = .ok (.istore 11, 2) := by decide +kernel
theorem V.dX17_root_117 : decode cX17_root 117 = .ok (.iload 11, 2) := by decide +kernel
theorem V.dX17_root_119 : decode cX17_root 119 = .ok (.bipush (-30), 2) := by decide +kernel
theorem V.dX17_root_121 : decode cX17_root 121 = .ok (.if_icmp .le 71, 3) := by decide +kernel
theorem V.dX17_root_124 : decode cX17_root 124 = .ok (.lload 7, 2) := by decide +kernel
theorem V.dX17_root_126 : decode cX17_root 126 = .ok (.iconst 2, 1) := by decide +kernel
theorem V.dX17_root_127 : decode cX17_root 127 = .ok (.lshl, 1) := by decide +kernel
theorem V.dX17_root_128 : decode cX17_root 128 = .ok (.iload 11, 2) := by decide +kernel
theorem V.dX17_root_130 : decode cX17_root 130 = .ok (.ifCond .ge 7, 3) := by decide +kernel
theorem V.dX17_root_133 : decode cX17_root 133 = .ok (.lconst 0, 1) := by decide +kernel
theorem V.dX17_root_134 : decode cX17_root 134 = .ok (.goto 14, 3) := by decide +kernel
theorem V.dX17_root_137 : decode cX17_root 137 = .ok (.lload 4, 2) := by decide +kernel
theorem V.dX17_root_139 : decode cX17_root 139 = .ok (.iconst 2, 1) := by decide +kernel
theorem V.dX17_root_140 : decode cX17_root 140 = .ok (.iload 11, 2) := by decide +kernel
theorem V.dX17_root_142 : decode cX17_root 142 = .ok (.imul, 1) := by decide +kernel
theorem V.dX17_root_143 : decode cX17_root 143 = .ok (.lushr, 1) := by decide +kernel
theorem V.dX17_root_144 : decode cX17_root 144 = .ok (.ldc2_w 930, 3) := by decide +kernel
theorem V.dX17_root_147 : decode cX17_root 147 = .ok (.land, 1) := by decide +kernel
theorem V.dX17_root_148 : decode cX17_root 148 = .ok (.lor, 1) := by decide +kernel
theorem V.dX17_root_149 : decode cX17_root 149 = .ok (.lstore 7, 2) := by decide +kernel
theorem V.dX17_root_151 : decode cX17_root 151 = .ok (.lload 9, 2) := by decide +kernel
theorem V.dX17_root_153 : decode cX17_root 153 = .ok (.iconst 2, 1) := by decide +kernel
theorem V.dX17_root_154 : decode cX17_root 154 = .ok (.lshl, 1) := by decide +kernel
theorem V.dX17_root_155 : decode cX17_root 155 = .ok (.lconst 1, 1) := by decide +kernel
theorem V.dX17_root_156 : decode cX17_root 156 = .ok (.lor, 1) := by decide +kernel
theorem V.dX17_root_157 : decode cX17_root 157 = .ok (.lstore 12, 2) := by decide +kernel
theorem V.dX17_root_159 : decode cX17_root 159 = .ok (.lload 9, 2) := by decide +kernel
theorem V.dX17_root_161 : decode cX17_root 161 = .ok (.iconst 1, 1) := by decide +kernel
theorem V.dX17_root_162 : decode cX17_root 162 = .ok (.lshl, 1) := by decide +kernel
theorem V.dX17_root_163 : decode cX17_root 163 = .ok (.lstore 9, 2) := by decide +kernel
theorem V.dX17_root_165 : decode cX17_root 165 = .ok (.lload 7, 2) := by decide +kernel
theorem V.dX17_root_167 : decode cX17_root 167 = .ok (.lload 12, 2) := by decide +kernel
theorem V.dX17_root_169 : decode cX17_root 169 = .ok (.lcmp, 1) := by decide +kernel
theorem V.dX17_root_170 : decode cX17_root 170 = .ok (.ifCond .lt 16, 3) := by decide +kernel
theorem V.dX17_root_173 : decode cX17_root 173 = .ok (.lload 7, 2) := by decide +kernel
theorem V.dX17_root_175 : decode cX17_root 175 = .ok (.lload 12, 2) := by decide +kernel
theorem V.dX17_root_177 : decode cX17_root 177 = .ok (.lsub, 1) := by decide +kernel
theorem V.dX17_root_178 : decode cX17_root 178 = .ok (.lstore 7, 2) := by decide +kernel
theorem V.dX17_root_180 : decode cX17_root 180 = .ok (.lload 9, 2) := by decide +kernel
theorem V.dX17_root_182 : decode cX17_root 182 = .ok (.lconst 1, 1) := by decide +kernel
theorem V.dX17_root_183 : decode cX17_root 183 = .ok (.ladd, 1) := by decide +kernel
theorem V.dX17_root_184 : decode cX17_root 184 = .ok (.lstore 9, 2) := by decide +kernel
theorem V.dX17_root_186 : decode cX17_root 186 = .ok (.iinc 11 (-1), 3) := by decide +kernel
theorem V.dX17_root_189 : decode cX17_root 189 = .ok (.goto (-72), 3) := by decide +kernel
theorem V.dX17_root_192 : decode cX17_root 192 = .ok (.iload_n 1, 1) := by decide +kernel
theorem V.dX17_root_193 : decode cX17_root 193 = .ok (.iconst 0, 1) := by decide +kernel
theorem V.dX17_root_194 : decode cX17_root 194 = .ok (.lconst 0, 1) := by decide +kernel
theorem V.dX17_root_195 : decode cX17_root 195 = .ok (.lload 9, 2) := by decide +kernel
theorem V.dX17_root_197 : decode cX17_root 197 = .ok (.iload 6, 2) := by decide +kernel
theorem V.dX17_root_199 : decode cX17_root 199 = .ok (.iconst 2, 1) := by decide +kernel
theorem V.dX17_root_200 : decode cX17_root 200 = .ok (.idiv, 1) := by decide +kernel
theorem V.dX17_root_201 : decode cX17_root 201 = .ok (.bipush 29, 2) := by decide +kernel
theorem V.dX17_root_203 : decode cX17_root 203 = .ok (.isub, 1) := by decide +kernel
theorem V.dX17_root_204 : decode cX17_root 204 = .ok (.lload 7, 2) := by decide +kernel
theorem V.dX17_root_206 : decode cX17_root 206 = .ok (.lconst 0, 1) := by decide +kernel
theorem V.dX17_root_207 : decode cX17_root 207 = .ok (.lcmp, 1) := by decide +kernel
theorem V.dX17_root_208 : decode cX17_root 208 = .ok (.ifCond .eq 7, 3) := by decide +kernel
theorem V.dX17_root_211 : decode cX17_root 211 = .ok (.iconst 1, 1) := by decide +kernel
theorem V.dX17_root_212 : decode cX17_root 212 = .ok (.goto 4, 3) := by decide +kernel
theorem V.dX17_root_215 : decode cX17_root 215 = .ok (.iconst 0, 1) := by decide +kernel
theorem V.dX17_root_216 : decode cX17_root 216 = .ok (.invokestatic 924, 3) := by decide +kernel
theorem V.dX17_root_219 : decode cX17_root 219 = .ok (.lreturn, 1) := by decide +kernel
/-! ModuleEngineModel.root(IJ)J -/
def V.Mdl_root_p43  (σ : HS) (x1 : Int32) : Option (Int64 × HS) :=
  cl (Mdl_noneOf σ x1) fun r2 σ1 =>
  some (r2, σ1)
theorem V.gX17_root_p43 {X : CX}  (σ : HS) (x1 : Int32) : G X RX17 "root" cX17_root 14 (some .long) 3 81 enJ 43 [(1, iv x1)] [] σ (Mdl_root_p43 σ x1) := by
  unfold Mdl_root_p43
  refine g_iload_n 1 0 dX17_root_43 rfl rfl ?_
  refine g_callS (fc := fun sς => Mdl_noneOf sς x1) (as := [iv x1]) q4251 mdX17_910 (ctX17_noneOf x1) rfl (Nat.le_of_ble_eq_true rfl) (Nat.le_of_ble_eq_true rfl) (Nat.le_of_ble_eq_true rfl) pu_J dX17_root_44 (fun r2 σ1 => ?_)
  exact g_lreturn rfl dX17_root_47
def V.Mdl_root_p95 (rec79 : HS → Int32 → Int64 → Int32 → Option (Int64 × HS)) (σ : HS) (x1 : Int32) (x4 : Int64) (x6 : Int32) : Option (Int64 × HS) :=
  bn (lshl x4 (1 : Int32)) fun y1 =>
  bn (x6 + (-1 : Int32)) fun y2 =>
  rec79 σ x1 y1 y2
theorem V.gX17_root_p95 {X : CX} (rec79 : HS → Int32 → Int64 → Int32 → Option (Int64 × HS)) (hrec79 : ∀ (σ : HS) (x1 : Int32) (x4 : Int64) (x6 : Int32), G X RX17 "root" cX17_root 14 (some .long) 3 81 enJ 79 [(1, iv x1), (4, jv x4), (6, iv x6)] [] σ (rec79 σ x1 x4 x6)) (σ : HS) (x1 : Int32) (x4 : Int64) (x6 : Int32) : G X RX17 "root" cX17_root 14 (some .long) 3 81 enJ 95 [(1, iv x1), (4, jv x4), (6, iv x6)] [] σ (Mdl_root_p95 rec79 σ x1 x4 x6) := by
  unfold Mdl_root_p95
  refine g_lload 1 dX17_root_95 rfl ?_
  refine g_iconst (v := 1) dX17_root_97 (by decide) ?_
  refine g_lshl dX17_root_98 ?_
  refine g_nmJ (fun y1 => ?_)
  refine g_lstore dX17_root_99 (by decide) rfl ?_
  refine g_iincB (w := (-1)) 2 dX17_root_101 rfl (by decide) (by decide) (fun _ => rfl) (fun y2 => ?_)
  refine g_goto 79 dX17_root_104 (by decide) ?_
  refine G.sub [2, 1, 0] rfl ?_
  exact hrec79 _ _ _ _
def V.Mdl_root_p216  (σ : HS) (s0 : Int32) (s1 : Int32) (s2 : Int64) (s3 : Int64) (s4 : Int32) (s5 : Int32) : Option (Int64 × HS) :=
  cl (Mdl_rounded σ s5 s4 s3 s2 s1 s0) fun r2 σ1 =>
  some (r2, σ1)
theorem V.gX17_root_p216 {X : CX}  (σ : HS) (s0 : Int32) (s1 : Int32) (s2 : Int64) (s3 : Int64) (s4 : Int32) (s5 : Int32) : G X RX17 "root" cX17_root 14 (some .long) 3 81 enJ 216 [] [iv s0, iv s1, jv s2, jv s3, iv s4, iv s5] σ (Mdl_root_p216 σ s0 s1 s2 s3 s4 s5) := by
  unfold Mdl_root_p216
  refine g_callS (fc := fun sς => Mdl_rounded sς s5 s4 s3 s2 s1 s0) (as := [iv s5, iv s4, jv s3, jv s2, iv s1, iv s0]) q4260 mdX17_924 (ctX17_rounded s5 s4 s3 s2 s1 s0) rfl (Nat.le_of_ble_eq_true rfl) (Nat.le_of_ble_eq_true rfl) (Nat.le_of_ble_eq_true rfl) pu_J dX17_root_216 (fun r2 σ1 => ?_)
  exact g_lreturn rfl dX17_root_219
def V.Mdl_root_p186 (rec117 : HS → Int32 → Int64 → Int32 → Int64 → Int64 → Int32 → Option (Int64 × HS)) (σ : HS) (x1 : Int32) (x4 : Int64) (x6 : Int32) (x7 : Int64) (x9 : Int64) (x11 : Int32) : Option (Int64 × HS) :=
  bn (x11 + (-1 : Int32)) fun y1 =>
  rec117 σ x1 x4 x6 x7 x9 y1
theorem V.gX17_root_p186 {X : CX} (rec117 : HS → Int32 → Int64 → Int32 → Int64 → Int64 → Int32 → Option (Int64 × HS)) (hrec117 : ∀ (σ : HS) (x1 : Int32) (x4 : Int64) (x6 : Int32) (x7 : Int64) (x9 : Int64) (x11 : Int32), G X RX17 "root" cX17_root 14 (some .long) 3 81 enJ 117 [(1, iv x1), (4, jv x4), (6, iv x6), (7, jv x7), (9, jv x9), (11, iv x11)] [] σ (rec117 σ x1 x4 x6 x7 x9 x11)) (σ : HS) (x1 : Int32) (x4 : Int64) (x6 : Int32) (x7 : Int64) (x9 : Int64) (x11 : Int32) : G X RX17 "root" cX17_root 14 (some .long) 3 81 enJ 186 [(1, iv x1), (4, jv x4), (6, iv x6), (7, jv x7), (9, jv x9), (11, iv x11)] [] σ (Mdl_root_p186 rec117 σ x1 x4 x6 x7 x9 x11) := by
  unfold Mdl_root_p186
  refine g_iincB (w := (-1)) 5 dX17_root_186 rfl (by decide) (by decide) (fun _ => rfl) (fun y1 => ?_)
  refine g_goto 117 dX17_root_189 (by decide) ?_
  refine G.sub [1, 2, 3, 4, 5, 0] rfl ?_
  exact hrec117 _ _ _ _ _ _ _
def V.Mdl_root_p148 (rec117 : HS → Int32 → Int64 → Int32 → Int64 → Int64 → Int32 → Option (Int64 × HS)) (σ : HS) (x1 : Int32) (x4 : Int64) (x6 : Int32) (x9 : Int64) (x11 : Int32) (s0 : Int64) (s1 : Int64) : Option (Int64 × HS) :=
  bn (s1 ||| s0) fun y1 =>
  bn ((lshl x9 (2 : Int32)) ||| (1 : Int64)) fun y2 =>
  bn (lshl x9 (1 : Int32)) fun y3 =>
  if y1 < y2 then (
    Mdl_root_p186 rec117 σ x1 x4 x6 y1 y3 x11)
  else (
    bn (y1 - y2) fun y4 =>
    bn (y3 + (1 : Int64)) fun y5 =>
    Mdl_root_p186 rec117 σ x1 x4 x6 y4 y5 x11)
theorem V.gX17_root_p148 {X : CX} (rec117 : HS → Int32 → Int64 → Int32 → Int64 → Int64 → Int32 → Option (Int64 × HS)) (hrec117 : ∀ (σ : HS) (x1 : Int32) (x4 : Int64) (x6 : Int32) (x7 : Int64) (x9 : Int64) (x11 : Int32), G X RX17 "root" cX17_root 14 (some .long) 3 81 enJ 117 [(1, iv x1), (4, jv x4), (6, iv x6), (7, jv x7), (9, jv x9), (11, iv x11)] [] σ (rec117 σ x1 x4 x6 x7 x9 x11)) (σ : HS) (x1 : Int32) (x4 : Int64) (x6 : Int32) (x9 : Int64) (x11 : Int32) (s0 : Int64) (s1 : Int64) : G X RX17 "root" cX17_root 14 (some .long) 3 81 enJ 148 [(1, iv x1), (4, jv x4), (6, iv x6), (9, jv x9), (11, iv x11)] [jv s0, jv s1] σ (Mdl_root_p148 rec117 σ x1 x4 x6 x9 x11 s0 s1) := by
  unfold Mdl_root_p148
  refine g_lor dX17_root_148 ?_
  refine g_nmJ (fun y1 => ?_)
  refine g_lstore dX17_root_149 (by decide) rfl ?_
  refine g_lload 4 dX17_root_151 rfl ?_
  refine g_iconst (v := 2) dX17_root_153 (by decide) ?_
  refine g_lshl dX17_root_154 ?_
  refine g_lconst (v := 1) dX17_root_155 (by decide) ?_
  refine g_lor dX17_root_156 ?_
  refine g_nmJ (fun y2 => ?_)
  refine g_lstore dX17_root_157 (by decide) rfl ?_
  refine g_lload 5 dX17_root_159 rfl ?_
  refine g_iconst (v := 1) dX17_root_161 (by decide) ?_
  refine g_lshl dX17_root_162 ?_
  refine g_nmJ (fun y3 => ?_)
  refine g_lstore dX17_root_163 (by decide) rfl ?_
  refine g_lload 2 dX17_root_165 rfl ?_
  refine g_lload 1 dX17_root_167 rfl ?_
  refine g_lcmp_lt 186 dX17_root_169 dX17_root_170 (by decide) ?_ ?_
  · refine G.sub [3, 4, 5, 2, 0, 6] rfl ?_
    exact gX17_root_p186 rec117 hrec117 _ _ _ _ _ _ _
  · refine g_lload 2 dX17_root_173 rfl ?_
    refine g_lload 1 dX17_root_175 rfl ?_
    refine g_lsub dX17_root_177 ?_
    refine g_nmJ (fun y4 => ?_)
    refine g_lstore dX17_root_178 (by decide) rfl ?_
    refine g_lload 1 dX17_root_180 rfl ?_
    refine g_lconst (v := 1) dX17_root_182 (by decide) ?_
    refine g_ladd dX17_root_183 ?_
    refine g_nmJ (fun y5 => ?_)
    refine g_lstore dX17_root_184 (by decide) rfl ?_
    refine G.sub [3, 4, 5, 1, 0, 6] rfl ?_
    exact gX17_root_p186 rec117 hrec117 _ _ _ _ _ _ _
def V.Mdl_root_p117  : Nat → HS → Int32 → Int64 → Int32 → Int64 → Int64 → Int32 → Option (Int64 × HS)
  | 0, _, _, _, _, _, _, _ => none
  | n + 1, σ, x1, x4, x6, x7, x9, x11 =>
    if x11 ≤ (-30 : Int32) then (
      ck (¬ (2 : Int32) = 0) <|
      if x7 = (0 : Int64) then (
        Mdl_root_p216 σ (0 : Int32) ((x6 / (2 : Int32)) - (29 : Int32)) x9 (0 : Int64) (0 : Int32) x1)
      else (
        Mdl_root_p216 σ (1 : Int32) ((x6 / (2 : Int32)) - (29 : Int32)) x9 (0 : Int64) (0 : Int32) x1))
    else (
      if 0 ≤ x11 then (
        Mdl_root_p148 (Mdl_root_p117 n) σ x1 x4 x6 x9 x11 ((lushr x4 ((2 : Int32) * x11)) &&& (3 : Int64)) (lshl x7 (2 : Int32)))
      else (
        Mdl_root_p148 (Mdl_root_p117 n) σ x1 x4 x6 x9 x11 (0 : Int64) (lshl x7 (2 : Int32))))
theorem V.gX17_root_p117 {X : CX}  : ∀ (n : Nat) (σ : HS) (x1 : Int32) (x4 : Int64) (x6 : Int32) (x7 : Int64) (x9 : Int64) (x11 : Int32), G X RX17 "root" cX17_root 14 (some .long) 3 81 enJ 117 [(1, iv x1), (4, jv x4), (6, iv x6), (7, jv x7), (9, jv x9), (11, iv x11)] [] σ (Mdl_root_p117 n σ x1 x4 x6 x7 x9 x11)
  | 0, σ, x1, x4, x6, x7, x9, x11 => by rw [Mdl_root_p117]; exact G.nul
  | n + 1, σ, x1, x4, x6, x7, x9, x11 => by
    rw [Mdl_root_p117]
    refine g_iload 5 dX17_root_117 rfl ?_
    refine g_bipush (v := (-30)) dX17_root_119 (by decide) ?_
    refine g_icmp_le 192 dX17_root_121 (by decide) ?_ ?_
    · refine g_iload_n 1 0 dX17_root_192 rfl rfl ?_
      refine g_iconst (v := 0) dX17_root_193 (by decide) ?_
      refine g_lconst (v := 0) dX17_root_194 (by decide) ?_
      refine g_lload 4 dX17_root_195 rfl ?_
      refine g_iload 2 dX17_root_197 rfl ?_
      refine g_iconst (v := 2) dX17_root_199 (by decide) ?_
      refine g_idiv dX17_root_200 ?_
      refine g_bipush (v := 29) dX17_root_201 (by decide) ?_
      refine g_isub dX17_root_203 ?_
      refine g_lload 3 dX17_root_204 rfl ?_
      refine g_lconst (v := 0) dX17_root_206 (by decide) ?_
      refine g_lcmp_eq 215 dX17_root_207 dX17_root_208 (by decide) ?_ ?_
      · refine g_iconst (v := 0) dX17_root_215 (by decide) ?_
        refine G.sub [] rfl ?_
        exact gX17_root_p216 _ _ _ _ _ _ _
      · refine g_iconst (v := 1) dX17_root_211 (by decide) ?_
        refine g_goto 216 dX17_root_212 (by decide) ?_
        refine G.sub [] rfl ?_
        exact gX17_root_p216 _ _ _ _ _ _ _
    · refine g_lload 3 dX17_root_124 rfl ?_
      refine g_iconst (v := 2) dX17_root_126 (by decide) ?_
      refine g_lshl dX17_root_127 ?_
      refine g_iload 5 dX17_root_128 rfl ?_
      refine g_if_ge 137 dX17_root_130 (by decide) ?_ ?_
      · refine g_lload 1 dX17_root_137 rfl ?_
        refine g_iconst (v := 2) dX17_root_139 (by decide) ?_
        refine g_iload 5 dX17_root_140 rfl ?_
        refine g_imul dX17_root_142 ?_
        refine g_lushr dX17_root_143 ?_
        refine g_ldc2 q4276 dX17_root_144 ?_
        refine g_land dX17_root_147 ?_
        refine G.sub [0, 1, 2, 4, 5] rfl ?_
        exact gX17_root_p148 (Mdl_root_p117 n) (gX17_root_p117 n) _ _ _ _ _ _ _ _
      · refine g_lconst (v := 0) dX17_root_133 (by decide) ?_
        refine g_goto 148 dX17_root_134 (by decide) ?_
        refine G.sub [0, 1, 2, 4, 5] rfl ?_
        exact gX17_root_p148 (Mdl_root_p117 n) (gX17_root_p117 n) _ _ _ _ _ _ _ _
def V.Mdl_root_p79  : Nat → HS → Int32 → Int64 → Int32 → Option (Int64 × HS)
  | 0, _, _, _, _ => none
  | n + 1, σ, x1, x4, x6 =>
    if x4 < (4503599627370496 : Int64) then (
      Mdl_root_p95 (Mdl_root_p79 n) σ x1 x4 x6)
    else (
      ck (¬ (2 : Int32) = 0) <|
      if (x6 - x6 / (2 : Int32) * (2 : Int32)) = 0 then (
        Mdl_root_p117 FU σ x1 x4 x6 (0 : Int64) (0 : Int64) (28 : Int32))
      else (
        Mdl_root_p95 (Mdl_root_p79 n) σ x1 x4 x6))
theorem V.gX17_root_p79 {X : CX}  : ∀ (n : Nat) (σ : HS) (x1 : Int32) (x4 : Int64) (x6 : Int32), G X RX17 "root" cX17_root 14 (some .long) 3 81 enJ 79 [(1, iv x1), (4, jv x4), (6, iv x6)] [] σ (Mdl_root_p79 n σ x1 x4 x6)
  | 0, σ, x1, x4, x6 => by rw [Mdl_root_p79]; exact G.nul
  | n + 1, σ, x1, x4, x6 => by
    rw [Mdl_root_p79]
    refine g_lload 1 dX17_root_79 rfl ?_
    refine g_ldc2 q4275 dX17_root_81 ?_
    refine g_lcmp_lt 95 dX17_root_84 dX17_root_85 (by decide) ?_ ?_
    · exact gX17_root_p95 (Mdl_root_p79 n) (gX17_root_p79 n) _ _ _ _
    · refine g_iload 2 dX17_root_88 rfl ?_
      refine g_iconst (v := 2) dX17_root_90 (by decide) ?_
      refine g_irem dX17_root_91 ?_
      refine g_if_eq 107 dX17_root_92 (by decide) ?_ ?_
      · refine g_lconst (v := 0) dX17_root_107 (by decide) ?_
        refine g_lstore dX17_root_108 (by decide) rfl ?_
        refine g_lconst (v := 0) dX17_root_110 (by decide) ?_
        refine g_lstore dX17_root_111 (by decide) rfl ?_
        refine g_bipush (v := 28) dX17_root_113 (by decide) ?_
        refine g_istore dX17_root_115 (by decide) rfl ?_
        refine G.sub [3, 4, 5, 2, 1, 0] rfl ?_
        exact gX17_root_p117 FU _ _ _ _ _ _ _
      · exact gX17_root_p95 (Mdl_root_p79 n) (gX17_root_p79 n) _ _ _ _
def V.Mdl_root (σ : HS) (x0 : Nat) (x1 : Int32) (x2 : Int64) : Option (Int64 × HS) :=
  ck (tg σ x0 = 18) <|
  ck (tg σ (gR σ x0 34) = 20) <| cl (Rea_read σ (gR σ x0 34) x1 x2) fun _ σ1 =>
  ck (tg σ1 x0 = 18) <|
  ck (tg σ1 (gR σ1 x0 34) = 20) <|
  if (gI σ1 (gR σ1 x0 34) 1) = (1 : Int32) then (
    some (x2, σ1))
  else (
    ck (tg σ1 x0 = 18) <|
    ck (tg σ1 (gR σ1 x0 34) = 20) <|
    if (gI σ1 (gR σ1 x0 34) 1) = (3 : Int32) then (
      Mdl_root_p43 σ1 x1)
    else (
      ck (tg σ1 x0 = 18) <|
      ck (tg σ1 (gR σ1 x0 34) = 20) <|
      if (gI σ1 (gR σ1 x0 34) 0) = 0 then (
        ck (tg σ1 x0 = 18) <|
        ck (tg σ1 (gR σ1 x0 34) = 20) <|
        if (gI σ1 (gR σ1 x0 34) 1) = (2 : Int32) then (
          some (x2, σ1))
        else (
          ck (tg σ1 x0 = 18) <|
          ck (tg σ1 (gR σ1 x0 34) = 20) <|
          bn (gJ σ1 (gR σ1 x0 34) 2) fun y2 =>
          ck (tg σ1 x0 = 18) <|
          ck (tg σ1 (gR σ1 x0 34) = 20) <|
          bn (gI σ1 (gR σ1 x0 34) 3) fun y3 =>
          Mdl_root_p79 FU σ1 x1 y2 y3))
      else (
        Mdl_root_p43 σ1 x1)))
theorem V.ctX17_root (x0 : Nat) (x1 : Int32) (x2 : Int64) : Ct yX17_root  cX17_root 14 (some .long) 3 81 eJ [av x0, iv x1, jv x2] (fun σ => Mdl_root σ x0 x1 x2) := by
  refine Ct.of (own := RX17) (nm := "root") (desc := "(IJ)J") rfl (by decide) (Nat.le_of_ble_eq_true rfl) (by decide) (fun X σ => ?_)
  show G X RX17 "root" cX17_root 14 (some .long) 3 81 enJ 0 [(0, av x0), (1, iv x1), (2, jv x2)] [] σ (Mdl_root σ x0 x1 x2)
  unfold Mdl_root
  refine g_aload_n 0 0 dX17_root_0 rfl rfl ?_
  refine g_getR fdX17_61 dX17_root_1 ?_
  refine g_iload_n 1 1 dX17_root_4 rfl rfl ?_
  refine g_lload_n 2 2 dX17_root_5 rfl rfl ?_
  refine g_callV (fc := fun sς => Rea_read sς (gR σ x0 34) x1 x2) (ci := 19) (as := [iv x1, jv x2]) rfl rfl rfl q4200 q4201 mdX17_868 (ctX19_read (gR σ x0 34) x1 x2) rfl (Nat.le_of_ble_eq_true rfl) (Nat.le_of_ble_eq_true rfl) (Nat.le_of_ble_eq_true rfl) pu_V dX17_root_6 (fun _ σ1 => ?_)
  refine g_aload_n 0 0 dX17_root_9 rfl rfl ?_
  refine g_getR fdX17_61 dX17_root_10 ?_
  refine g_getI fdX17_871 dX17_root_13 ?_
  refine g_iconst (v := 1) dX17_root_16 (by decide) ?_
  refine g_icmp_ne 22 dX17_root_17 (by decide) ?_ ?_
  · refine g_aload_n 0 0 dX17_root_22 rfl rfl ?_
    refine g_getR fdX17_61 dX17_root_23 ?_
    refine g_getI fdX17_871 dX17_root_26 ?_
    refine g_iconst (v := 3) dX17_root_29 (by decide) ?_
    refine g_icmp_eq 43 dX17_root_30 (by decide) ?_ ?_
    · refine G.sub [1] rfl ?_
      exact gX17_root_p43 _ _
    · refine g_aload_n 0 0 dX17_root_33 rfl rfl ?_
      refine g_getR fdX17_61 dX17_root_34 ?_
      refine g_getI fdX17_921 dX17_root_37 ?_
      refine g_if_eq 48 dX17_root_40 (by decide) ?_ ?_
      · refine g_aload_n 0 0 dX17_root_48 rfl rfl ?_
        refine g_getR fdX17_61 dX17_root_49 ?_
        refine g_getI fdX17_871 dX17_root_52 ?_
        refine g_iconst (v := 2) dX17_root_55 (by decide) ?_
        refine g_icmp_ne 61 dX17_root_56 (by decide) ?_ ?_
        · refine g_aload_n 0 0 dX17_root_61 rfl rfl ?_
          refine g_getR fdX17_61 dX17_root_62 ?_
          refine g_getJ fdX17_916 dX17_root_65 ?_
          refine g_nmJ (fun y2 => ?_)
          refine g_lstore dX17_root_68 (by decide) rfl ?_
          refine g_aload_n 0 1 dX17_root_70 rfl rfl ?_
          refine g_getR fdX17_61 dX17_root_71 ?_
          refine g_getI fdX17_913 dX17_root_74 ?_
          refine g_nmI (fun y3 => ?_)
          refine g_istore dX17_root_77 (by decide) rfl ?_
          refine G.sub [3, 1, 0] rfl ?_
          exact gX17_root_p79 FU _ _ _ _
        · refine g_lload_n 2 2 dX17_root_59 rfl rfl ?_
          exact g_lreturn rfl dX17_root_60
      · refine G.sub [1] rfl ?_
        exact gX17_root_p43 _ _
  · refine g_lload_n 2 2 dX17_root_20 rfl rfl ?_
    exact g_lreturn rfl dX17_root_21
theorem V.dX17_sumOf_0 : decode cX17_sumOf 0 = .ok (.aload_n 1, 1) := by decide +kernel
theorem V.dX17_sumOf_1 : decode cX17_sumOf 1 = .ok (.getfield 913, 3) := by decide +kernel
theorem V.dX17_sumOf_4 : decode cX17_sumOf 4 = .ok (.aload_n 2, 1) := by decide +kernel
theorem V.dX17_sumOf_5 : decode cX17_sumOf 5 = .ok (.getfield 913, 3) := by decide +kernel
theorem V.dX17_sumOf_8 : decode cX17_sumOf 8 = .ok (.isub, 1) := by decide +kernel
theorem V.dX17_sumOf_9 : decode cX17_sumOf 9 = .ok (.istore_n 3, 1) := by decide +kernel
theorem V.dX17_sumOf_10 : decode cX17_sumOf 10 = .ok (.iload_n 3, 1) := by decide +kernel
theorem V.dX17_sumOf_11 : decode cX17_sumOf 11 = .ok (.bipush 64, 2) := by decide +kernel
theorem V.dX17_sumOf_13 : decode cX17_sumOf 13 = .ok (.if_icmp .le 13, 3) := by decide +kernel
theorem V.dX17_sumOf_16 : decode cX17_sumOf 16 = .ok (.aload_n 1, 1) := by decide +kernel
theorem V.dX17_sumOf_17 : decode cX17_sumOf 17 = .ok (.getfield 913, 3) := by decide +kernel
theorem V.dX17_sumOf_20 : decode cX17_sumOf 20 = .ok (.bipush 64, 2) := by decide +kernel
theorem V.dX17_sumOf_22 : decode cX17_sumOf 22 = .ok (.isub, 1) := by decide +kernel
theorem V.dX17_sumOf_23 : decode cX17_sumOf 23 = .ok (.goto 7, 3) := by decide +kernel
theorem V.dX17_sumOf_26 : decode cX17_sumOf 26 = .ok (.aload_n 2, 1) := by decide +kernel
theorem V.dX17_sumOf_27 : decode cX17_sumOf 27 = .ok (.getfield 913, 3) := by decide +kernel
theorem V.dX17_sumOf_30 : decode cX17_sumOf 30 = .ok (.istore 4, 2) := by decide +kernel
theorem V.dX17_sumOf_32 : decode cX17_sumOf 32 = .ok (.iload_n 3, 1) := by decide +kernel
theorem V.dX17_sumOf_33 : decode cX17_sumOf 33 = .ok (.ifCond .ne 7, 3) := by decide +kernel
theorem V.dX17_sumOf_36 : decode cX17_sumOf 36 = .ok (.lconst 0, 1) := by decide +kernel
theorem V.dX17_sumOf_37 : decode cX17_sumOf 37 = .ok (.goto 25, 3) := by decide +kernel
theorem V.dX17_sumOf_40 : decode cX17_sumOf 40 = .ok (.iload_n 3, 1) := by decide +kernel
theorem V.dX17_sumOf_41 : decode cX17_sumOf 41 = .ok (.bipush 64, 2) := by decide +kernel
theorem V.dX17_sumOf_43 : decode cX17_sumOf 43 = .ok (.if_icmp .lt 10, 3) := by decide +kernel
theorem V.dX17_sumOf_46 : decode cX17_sumOf 46 = .ok (.aload_n 1, 1) := by decide +kernel
theorem V.dX17_sumOf_47 : decode cX17_sumOf 47 = .ok (.getfield 916, 3) := by decide +kernel
theorem V.dX17_sumOf_50 : decode cX17_sumOf 50 = .ok (.goto 12, 3) := by decide +kernel
theorem V.dX17_sumOf_53 : decode cX17_sumOf 53 = .ok (.aload_n 1, 1) := by decide +kernel
theorem V.dX17_sumOf_54 : decode cX17_sumOf 54 = .ok (.getfield 916, 3) := by decide +kernel
theorem V.dX17_sumOf_57 : decode cX17_sumOf 57 = .ok (.bipush 64, 2) := by decide +kernel
theorem V.dX17_sumOf_59 : decode cX17_sumOf 59 = .ok (.iload_n 3, 1) := by decide +kernel
theorem V.dX17_sumOf_60 : decode cX17_sumOf 60 = .ok (.isub, 1) := by decide +kernel
theorem V.dX17_sumOf_61 : decode cX17_sumOf 61 = .ok (.lushr, 1) := by decide +kernel
theorem V.dX17_sumOf_62 : decode cX17_sumOf 62 = .ok (.lstore 5, 2) := by decide +kernel
theorem V.dX17_sumOf_64 : decode cX17_sumOf 64 = .ok (.iload_n 3, 1) := by decide +kernel
theorem V.dX17_sumOf_65 : decode cX17_sumOf 65 = .ok (.bipush 64, 2) := by decide +kernel
theorem V.dX17_sumOf_67 : decode cX17_sumOf 67 = .ok (.if_icmp .lt 7, 3) := by decide +kernel
theorem V.dX17_sumOf_70 : decode cX17_sumOf 70 = .ok (.lconst 0, 1) := by decide +kernel
theorem V.dX17_sumOf_71 : decode cX17_sumOf 71 = .ok (.goto 9, 3) := by decide +kernel
theorem V.dX17_sumOf_74 : decode cX17_sumOf 74 = .ok (.aload_n 1, 1) := by decide +kernel
theorem V.dX17_sumOf_75 : decode cX17_sumOf 75 = .ok (.getfield 916, 3) := by decide +kernel
theorem V.dX17_sumOf_78 : decode cX17_sumOf 78 = .ok (.iload_n 3, 1) := by decide +kernel
theorem V.dX17_sumOf_79 : decode cX17_sumOf 79 = .ok (.lshl, 1) := by decide +kernel
theorem V.dX17_sumOf_80 : decode cX17_sumOf 80 = .ok (.lstore 7, 2) := by decide +kernel
theorem V.dX17_sumOf_82 : decode cX17_sumOf 82 = .ok (.aload_n 2, 1) := by decide +kernel
theorem V.dX17_sumOf_83 : decode cX17_sumOf 83 = .ok (.getfield 916, 3) := by decide +kernel
theorem V.dX17_sumOf_86 : decode cX17_sumOf 86 = .ok (.lstore 9, 2) := by decide +kernel
theorem V.dX17_sumOf_88 : decode cX17_sumOf 88 = .ok (.bipush 64, 2) := by decide +kernel
theorem V.dX17_sumOf_90 : decode cX17_sumOf 90 = .ok (.istore 11, 2) := by decide +kernel
theorem V.dX17_sumOf_92 : decode cX17_sumOf 92 = .ok (.iload 11, 2) := by decide +kernel
theorem V.dX17_sumOf_94 : decode cX17_sumOf 94 = .ok (.iload_n 3, 1) := by decide +kernel
theorem V.dX17_sumOf_95 : decode cX17_sumOf 95 = .ok (.if_icmp .ge 27, 3) := by decide +kernel
theorem V.dX17_sumOf_98 : decode cX17_sumOf 98 = .ok (.lload 9, 2) := by decide +kernel
theorem V.dX17_sumOf_100 : decode cX17_sumOf 100 = .ok (.lconst 1, 1) := by decide +kernel
theorem V.dX17_sumOf_101 : decode cX17_sumOf 101 = .ok (.lcmp, 1) := by decide +kernel
theorem V.dX17_sumOf_102 : decode cX17_sumOf 102 = .ok (.ifCond .le 20, 3) := by decide +kernel
theorem V.dX17_sumOf_105 : decode cX17_sumOf 105 = .ok (.lload 9, 2) := by decide +kernel
theorem V.dX17_sumOf_107 : decode cX17_sumOf 107 = .ok (.iconst 1, 1) := by decide +kernel
theorem V.dX17_sumOf_108 : decode cX17_sumOf 108 = .ok (.lushr, 1) := by decide +kernel
theorem V.dX17_sumOf_109 : decode cX17_sumOf 109 = .ok (.lload 9, 2) := by decide +kernel
theorem V.dX17_sumOf_111 : decode cX17_sumOf 111 = .ok (.lconst 1, 1) := by decide +kernel
theorem V.dX17_sumOf_112 : decode cX17_sumOf 112 = .ok (.land, 1) := by decide +kernel
theorem V.dX17_sumOf_113 : decode cX17_sumOf 113 = .ok (.lor, 1) := by decide +kernel
theorem V.dX17_sumOf_114 : decode cX17_sumOf 114 = .ok (.lstore 9, 2) := by decide +kernel
theorem V.dX17_sumOf_116 : decode cX17_sumOf 116 = .ok (.iinc 11 1, 3) := by decide +kernel
theorem V.dX17_sumOf_119 : decode cX17_sumOf 119 = .ok (.goto (-27), 3) := by decide +kernel
theorem V.dX17_sumOf_122 : decode cX17_sumOf 122 = .ok (.aload_n 1, 1) := by decide +kernel
theorem V.dX17_sumOf_123 : decode cX17_sumOf 123 = .ok (.getfield 921, 3) := by decide +kernel
theorem V.dX17_sumOf_126 : decode cX17_sumOf 126 = .ok (.aload_n 2, 1) := by decide +kernel
theorem V.dX17_sumOf_127 : decode cX17_sumOf 127 = .ok (.getfield 921, 3) := by decide +kernel
theorem V.dX17_sumOf_130 : decode cX17_sumOf 130 = .ok (.if_icmp .ne 43, 3) := by decide +kernel
theorem V.dX17_sumOf_133 : decode cX17_sumOf 133 = .ok (.lload 7, 2) := by decide +kernel
theorem V.dX17_sumOf_135 : decode cX17_sumOf 135 = .ok (.lload 9, 2) := by decide +kernel
theorem V.dX17_sumOf_137 : decode cX17_sumOf 137 = .ok (.ladd, 1) := by decide +kernel
theorem V.dX17_sumOf_138 : decode cX17_sumOf 138 = .ok (.lstore 11, 2) := by decide +kernel
theorem V.dX17_sumOf_140 : decode cX17_sumOf 140 = .ok (.iload_n 0, 1) := by decide +kernel
theorem V.dX17_sumOf_141 : decode cX17_sumOf 141 = .ok (.aload_n 1, 1) := by decide +kernel
theorem V.dX17_sumOf_142 : decode cX17_sumOf 142 = .ok (.getfield 921, 3) := by decide +kernel
theorem V.dX17_sumOf_145 : decode cX17_sumOf 145 = .ok (.lload 11, 2) := by decide +kernel
theorem V.dX17_sumOf_147 : decode cX17_sumOf 147 = .ok (.lload 7, 2) := by decide +kernel
theorem V.dX17_sumOf_149 : decode cX17_sumOf 149 = .ok (.invokestatic 827, 3) := by decide +kernel
theorem V.dX17_sumOf_152 : decode cX17_sumOf 152 = .ok (.ifCond .eq 10, 3) := by decide +kernel
theorem V.dX17_sumOf_155 : decode cX17_sumOf 155 = .ok (.lload 5, 2) := by decide +kernel
theorem V.dX17_sumOf_157 : decode cX17_sumOf 157 = .ok (.lconst 1, 1) := by decide +kernel
theorem V.dX17_sumOf_158 : decode cX17_sumOf 158 = .ok (.ladd, 1) := by decide +kernel
theorem V.dX17_sumOf_159 : decode cX17_sumOf 159 = .ok (.goto 5, 3) := by decide +kernel
theorem V.dX17_sumOf_162 : decode cX17_sumOf 162 = .ok (.lload 5, 2) := by decide +kernel
theorem V.dX17_sumOf_164 : decode cX17_sumOf 164 = .ok (.lload 11, 2) := by decide +kernel
theorem V.dX17_sumOf_166 : decode cX17_sumOf 166 = .ok (.iload 4, 2) := by decide +kernel
theorem V.dX17_sumOf_168 : decode cX17_sumOf 168 = .ok (.iconst 0, 1) := by decide +kernel
theorem V.dX17_sumOf_169 : decode cX17_sumOf 169 = .ok (.invokestatic 924, 3) := by decide +kernel
theorem V.dX17_sumOf_172 : decode cX17_sumOf 172 = .ok (.lreturn, 1) := by decide +kernel
theorem V.dX17_sumOf_173 : decode cX17_sumOf 173 = .ok (.lload 5, 2) := by decide +kernel
theorem V.dX17_sumOf_175 : decode cX17_sumOf 175 = .ok (.lconst 0, 1) := by decide +kernel
theorem V.dX17_sumOf_176 : decode cX17_sumOf 176 = .ok (.lcmp, 1) := by decide +kernel
theorem V.dX17_sumOf_177 : decode cX17_sumOf 177 = .ok (.ifCond .ne 13, 3) := by decide +kernel
theorem V.dX17_sumOf_180 : decode cX17_sumOf 180 = .ok (.lload 7, 2) := by decide +kernel
theorem V.dX17_sumOf_182 : decode cX17_sumOf 182 = .ok (.lload 9, 2) := by decide +kernel
theorem V.dX17_sumOf_184 : decode cX17_sumOf 184 = .ok (.lcmp, 1) := by decide +kernel
theorem V.dX17_sumOf_185 : decode cX17_sumOf 185 = .ok (.ifCond .ne 5, 3) := by decide +kernel
theorem V.dX17_sumOf_188 : decode cX17_sumOf 188 = .ok (.lconst 0, 1) := by decide +kernel
theorem V.dX17_sumOf_189 : decode cX17_sumOf 189 = .ok (.lreturn, 1) := by decide +kernel
theorem V.dX17_sumOf_190 : decode cX17_sumOf 190 = .ok (.lload 5, 2) := by decide +kernel
theorem V.dX17_sumOf_192 : decode cX17_sumOf 192 = .ok (.lconst 0, 1) := by decide +kernel
theorem V.dX17_sumOf_193 : decode cX17_sumOf 193 = .ok (.lcmp, 1) := by decide +kernel
theorem V.dX17_sumOf_194 : decode cX17_sumOf 194 = .ok (.ifCond .ne 31, 3) := by decide +kernel
theorem V.dX17_sumOf_197 : decode cX17_sumOf 197 = .ok (.lload 7, 2) := by decide +kernel
theorem V.dX17_sumOf_199 : decode cX17_sumOf 199 = .ok (.lload 9, 2) := by decide +kernel
theorem V.dX17_sumOf_201 : decode cX17_sumOf 201 = .ok (.invokestatic 827, 3) := by decide +kernel
theorem V.dX17_sumOf_204 : decode cX17_sumOf 204 = .ok (.ifCond .eq 21, 3) := by decide +kernel
theorem V.dX17_sumOf_207 : decode cX17_sumOf 207 = .ok (.iload_n 0, 1) := by decide +kernel
theorem V.dX17_sumOf_208 : decode cX17_sumOf 208 = .ok (.aload_n 2, 1) := by decide +kernel
theorem V.dX17_sumOf_209 : decode cX17_sumOf 209 = .ok (.getfield 921, 3) := by decide +kernel
theorem V.dX17_sumOf_212 : decode cX17_sumOf 212 = .ok (.lconst 0, 1) := by decide +kernel
theorem V.dX17_sumOf_213 : decode cX17_sumOf 213 = .ok (.lload 9, 2) := by decide +kernel
theorem V.dX17_sumOf_215 : decode cX17_sumOf 215 = .ok (.lload 7, 2) := by decide +kernel
theorem V.dX17_sumOf_217 : decode cX17_sumOf 217 = .ok (.lsub, 1) := by decide +kernel
theorem V.dX17_sumOf_218 : decode cX17_sumOf 218 = .ok (.iload 4, 2) := by decide +kernel
theorem V.dX17_sumOf_220 : decode cX17_sumOf 220 = .ok (.iconst 0, 1) := by decide +kernel
theorem V.dX17_sumOf_221 : decode cX17_sumOf 221 = .ok (.invokestatic 924, 3) := by decide +kernel
theorem V.dX17_sumOf_224 : decode cX17_sumOf 224 = .ok (.lreturn, 1) := by decide +kernel
theorem V.dX17_sumOf_225 : decode cX17_sumOf 225 = .ok (.iload_n 0, 1) := by decide +kernel
theorem V.dX17_sumOf_226 : decode cX17_sumOf 226 = .ok (.aload_n 1, 1) := by decide +kernel
theorem V.dX17_sumOf_227 : decode cX17_sumOf 227 = .ok (.getfield 921, 3) := by decide +kernel
theorem V.dX17_sumOf_230 : decode cX17_sumOf 230 = .ok (.lload 7, 2) := by decide +kernel
theorem V.dX17_sumOf_232 : decode cX17_sumOf 232 = .ok (.lload 9, 2) := by decide +kernel
theorem V.dX17_sumOf_234 : decode cX17_sumOf 234 = .ok (.invokestatic 827, 3) := by decide +kernel
theorem V.dX17_sumOf_237 : decode cX17_sumOf 237 = .ok (.ifCond .eq 10, 3) := by decide +kernel
theorem V.dX17_sumOf_240 : decode cX17_sumOf 240 = .ok (.lload 5, 2) := by decide +kernel
theorem V.dX17_sumOf_242 : decode cX17_sumOf 242 = .ok (.lconst 1, 1) := by decide +kernel
theorem V.dX17_sumOf_243 : decode cX17_sumOf 243 = .ok (.lsub, 1) := by decide +kernel
theorem V.dX17_sumOf_244 : decode cX17_sumOf 244 = .ok (.goto 5, 3) := by decide +kernel
theorem V.dX17_sumOf_247 : decode cX17_sumOf 247 = .ok (.lload 5, 2) := by decide +kernel
theorem V.dX17_sumOf_249 : decode cX17_sumOf 249 = .ok (.lload 7, 2) := by decide +kernel
theorem V.dX17_sumOf_251 : decode cX17_sumOf 251 = .ok (.lload 9, 2) := by decide +kernel
theorem V.dX17_sumOf_253 : decode cX17_sumOf 253 = .ok (.lsub, 1) := by decide +kernel
theorem V.dX17_sumOf_254 : decode cX17_sumOf 254 = .ok (.iload 4, 2) := by decide +kernel
theorem V.dX17_sumOf_256 : decode cX17_sumOf 256 = .ok (.iconst 0, 1) := by decide +kernel
theorem V.dX17_sumOf_257 : decode cX17_sumOf 257 = .ok (.invokestatic 924, 3) := by decide +kernel
theorem V.dX17_sumOf_260 : decode cX17_sumOf 260 = .ok (.lreturn, 1) := by decide +kernel
/-! ModuleEngineModel.sumOf(ILModuleEngineModel$Real;LModuleEngineModel$Real;)J -/
def V.Mdl_sumOf_p249  (σ : HS) (x4 : Int32) (x7 : Int64) (x9 : Int64) (s0 : Int64) (s1 : Int32) (s2 : Int32) : Option (Int64 × HS) :=
  cl (Mdl_rounded σ s2 s1 s0 (x7 - x9) x4 (0 : Int32)) fun r2 σ1 =>
  some (r2, σ1)
theorem V.gX17_sumOf_p249 {X : CX}  (σ : HS) (x4 : Int32) (x7 : Int64) (x9 : Int64) (s0 : Int64) (s1 : Int32) (s2 : Int32) : G X RX17 "sumOf" cX17_sumOf 13 (some .long) 3 81 enJ 249 [(4, iv x4), (7, jv x7), (9, jv x9)] [jv s0, iv s1, iv s2] σ (Mdl_sumOf_p249 σ x4 x7 x9 s0 s1 s2) := by
  unfold Mdl_sumOf_p249
  refine g_lload 1 dX17_sumOf_249 rfl ?_
  refine g_lload 2 dX17_sumOf_251 rfl ?_
  refine g_lsub dX17_sumOf_253 ?_
  refine g_iload 0 dX17_sumOf_254 rfl ?_
  refine g_iconst (v := 0) dX17_sumOf_256 (by decide) ?_
  refine g_callS (fc := fun sς => Mdl_rounded sς s2 s1 s0 (x7 - x9) x4 (0 : Int32)) (as := [iv s2, iv s1, jv s0, jv (x7 - x9), iv x4, iv (0 : Int32)]) q4260 mdX17_924 (ctX17_rounded s2 s1 s0 (x7 - x9) x4 (0 : Int32)) rfl (Nat.le_of_ble_eq_true rfl) (Nat.le_of_ble_eq_true rfl) (Nat.le_of_ble_eq_true rfl) pu_J dX17_sumOf_257 (fun r2 σ1 => ?_)
  exact g_lreturn rfl dX17_sumOf_260
def V.Mdl_sumOf_p225  (σ : HS) (x0 : Int32) (x1 : Nat) (x4 : Int32) (x5 : Int64) (x7 : Int64) (x9 : Int64) : Option (Int64 × HS) :=
  ck (tg σ x1 = 20) <|
  cl (Mdl_isBelow σ x7 x9) fun r2 σ1 =>
  if r2 = 0 then (
    Mdl_sumOf_p249 σ1 x4 x7 x9 x5 (gI σ x1 0) x0)
  else (
    Mdl_sumOf_p249 σ1 x4 x7 x9 (x5 - (1 : Int64)) (gI σ x1 0) x0)
theorem V.gX17_sumOf_p225 {X : CX}  (σ : HS) (x0 : Int32) (x1 : Nat) (x4 : Int32) (x5 : Int64) (x7 : Int64) (x9 : Int64) : G X RX17 "sumOf" cX17_sumOf 13 (some .long) 3 81 enJ 225 [(0, iv x0), (1, av x1), (4, iv x4), (5, jv x5), (7, jv x7), (9, jv x9)] [] σ (Mdl_sumOf_p225 σ x0 x1 x4 x5 x7 x9) := by
  unfold Mdl_sumOf_p225
  refine g_iload_n 0 0 dX17_sumOf_225 rfl rfl ?_
  refine g_aload_n 1 1 dX17_sumOf_226 rfl rfl ?_
  refine g_getI fdX17_921 dX17_sumOf_227 ?_
  refine g_lload 4 dX17_sumOf_230 rfl ?_
  refine g_lload 5 dX17_sumOf_232 rfl ?_
  refine g_callS (fc := fun sς => Mdl_isBelow sς x7 x9) (as := [jv x7, jv x9]) q4192 mdX17_827 (ctX17_isBelow x7 x9) rfl (Nat.le_of_ble_eq_true rfl) (Nat.le_of_ble_eq_true rfl) (Nat.le_of_ble_eq_true rfl) pu_I dX17_sumOf_234 (fun r2 σ1 => ?_)
  refine g_if_eq 247 dX17_sumOf_237 (by decide) ?_ ?_
  · refine g_lload 3 dX17_sumOf_247 rfl ?_
    refine G.sub [2, 4, 5] rfl ?_
    exact gX17_sumOf_p249 _ _ _ _ _ _ _
  · refine g_lload 3 dX17_sumOf_240 rfl ?_
    refine g_lconst (v := 1) dX17_sumOf_242 (by decide) ?_
    refine g_lsub dX17_sumOf_243 ?_
    refine g_goto 249 dX17_sumOf_244 (by decide) ?_
    refine G.sub [2, 4, 5] rfl ?_
    exact gX17_sumOf_p249 _ _ _ _ _ _ _
def V.Mdl_sumOf_p190  (σ : HS) (x0 : Int32) (x1 : Nat) (x2 : Nat) (x4 : Int32) (x5 : Int64) (x7 : Int64) (x9 : Int64) : Option (Int64 × HS) :=
  if x5 = (0 : Int64) then (
    cl (Mdl_isBelow σ x7 x9) fun r2 σ1 =>
    if r2 = 0 then (
      Mdl_sumOf_p225 σ1 x0 x1 x4 x5 x7 x9)
    else (
      ck (tg σ1 x2 = 20) <|
      cl (Mdl_rounded σ1 x0 (gI σ1 x2 0) (0 : Int64) (x9 - x7) x4 (0 : Int32)) fun r4 σ3 =>
      some (r4, σ3)))
  else (
    Mdl_sumOf_p225 σ x0 x1 x4 x5 x7 x9)
theorem V.gX17_sumOf_p190 {X : CX}  (σ : HS) (x0 : Int32) (x1 : Nat) (x2 : Nat) (x4 : Int32) (x5 : Int64) (x7 : Int64) (x9 : Int64) : G X RX17 "sumOf" cX17_sumOf 13 (some .long) 3 81 enJ 190 [(0, iv x0), (1, av x1), (2, av x2), (4, iv x4), (5, jv x5), (7, jv x7), (9, jv x9)] [] σ (Mdl_sumOf_p190 σ x0 x1 x2 x4 x5 x7 x9) := by
  unfold Mdl_sumOf_p190
  refine g_lload 4 dX17_sumOf_190 rfl ?_
  refine g_lconst (v := 0) dX17_sumOf_192 (by decide) ?_
  refine g_lcmp_ne 225 dX17_sumOf_193 dX17_sumOf_194 (by decide) ?_ ?_
  · refine G.sub [0, 1, 3, 4, 5, 6] rfl ?_
    exact gX17_sumOf_p225 _ _ _ _ _ _ _
  · refine g_lload 5 dX17_sumOf_197 rfl ?_
    refine g_lload 6 dX17_sumOf_199 rfl ?_
    refine g_callS (fc := fun sς => Mdl_isBelow sς x7 x9) (as := [jv x7, jv x9]) q4192 mdX17_827 (ctX17_isBelow x7 x9) rfl (Nat.le_of_ble_eq_true rfl) (Nat.le_of_ble_eq_true rfl) (Nat.le_of_ble_eq_true rfl) pu_I dX17_sumOf_201 (fun r2 σ1 => ?_)
    refine g_if_eq 225 dX17_sumOf_204 (by decide) ?_ ?_
    · refine G.sub [0, 1, 3, 4, 5, 6] rfl ?_
      exact gX17_sumOf_p225 _ _ _ _ _ _ _
    · refine g_iload_n 0 0 dX17_sumOf_207 rfl rfl ?_
      refine g_aload_n 2 2 dX17_sumOf_208 rfl rfl ?_
      refine g_getI fdX17_921 dX17_sumOf_209 ?_
      refine g_lconst (v := 0) dX17_sumOf_212 (by decide) ?_
      refine g_lload 6 dX17_sumOf_213 rfl ?_
      refine g_lload 5 dX17_sumOf_215 rfl ?_
      refine g_lsub dX17_sumOf_217 ?_
      refine g_iload 3 dX17_sumOf_218 rfl ?_
      refine g_iconst (v := 0) dX17_sumOf_220 (by decide) ?_
      refine g_callS (fc := fun sς => Mdl_rounded sς x0 (gI σ1 x2 0) (0 : Int64) (x9 - x7) x4 (0 : Int32)) (as := [iv x0, iv (gI σ1 x2 0), jv (0 : Int64), jv (x9 - x7), iv x4, iv (0 : Int32)]) q4260 mdX17_924 (ctX17_rounded x0 (gI σ1 x2 0) (0 : Int64) (x9 - x7) x4 (0 : Int32)) rfl (Nat.le_of_ble_eq_true rfl) (Nat.le_of_ble_eq_true rfl) (Nat.le_of_ble_eq_true rfl) pu_J dX17_sumOf_221 (fun r4 σ3 => ?_)
      exact g_lreturn rfl dX17_sumOf_224
def V.Mdl_sumOf_p164  (σ : HS) (x4 : Int32) (x11 : Int64) (s0 : Int64) (s1 : Int32) (s2 : Int32) : Option (Int64 × HS) :=
  cl (Mdl_rounded σ s2 s1 s0 x11 x4 (0 : Int32)) fun r2 σ1 =>
  some (r2, σ1)
theorem V.gX17_sumOf_p164 {X : CX}  (σ : HS) (x4 : Int32) (x11 : Int64) (s0 : Int64) (s1 : Int32) (s2 : Int32) : G X RX17 "sumOf" cX17_sumOf 13 (some .long) 3 81 enJ 164 [(4, iv x4), (11, jv x11)] [jv s0, iv s1, iv s2] σ (Mdl_sumOf_p164 σ x4 x11 s0 s1 s2) := by
  unfold Mdl_sumOf_p164
  refine g_lload 1 dX17_sumOf_164 rfl ?_
  refine g_iload 0 dX17_sumOf_166 rfl ?_
  refine g_iconst (v := 0) dX17_sumOf_168 (by decide) ?_
  refine g_callS (fc := fun sς => Mdl_rounded sς s2 s1 s0 x11 x4 (0 : Int32)) (as := [iv s2, iv s1, jv s0, jv x11, iv x4, iv (0 : Int32)]) q4260 mdX17_924 (ctX17_rounded s2 s1 s0 x11 x4 (0 : Int32)) rfl (Nat.le_of_ble_eq_true rfl) (Nat.le_of_ble_eq_true rfl) (Nat.le_of_ble_eq_true rfl) pu_J dX17_sumOf_169 (fun r2 σ1 => ?_)
  exact g_lreturn rfl dX17_sumOf_172
def V.Mdl_sumOf_p122  (σ : HS) (x0 : Int32) (x1 : Nat) (x2 : Nat) (x4 : Int32) (x5 : Int64) (x7 : Int64) (x9 : Int64) : Option (Int64 × HS) :=
  ck (tg σ x1 = 20) <|
  ck (tg σ x2 = 20) <|
  if (gI σ x1 0) = (gI σ x2 0) then (
    bn (x7 + x9) fun y1 =>
    ck (tg σ x1 = 20) <|
    cl (Mdl_isBelow σ y1 x7) fun r3 σ2 =>
    if r3 = 0 then (
      Mdl_sumOf_p164 σ2 x4 y1 x5 (gI σ x1 0) x0)
    else (
      Mdl_sumOf_p164 σ2 x4 y1 (x5 + (1 : Int64)) (gI σ x1 0) x0))
  else (
    if x5 = (0 : Int64) then (
      if x7 = x9 then (
        some ((0 : Int64), σ))
      else (
        Mdl_sumOf_p190 σ x0 x1 x2 x4 x5 x7 x9))
    else (
      Mdl_sumOf_p190 σ x0 x1 x2 x4 x5 x7 x9))
theorem V.gX17_sumOf_p122 {X : CX}  (σ : HS) (x0 : Int32) (x1 : Nat) (x2 : Nat) (x4 : Int32) (x5 : Int64) (x7 : Int64) (x9 : Int64) : G X RX17 "sumOf" cX17_sumOf 13 (some .long) 3 81 enJ 122 [(0, iv x0), (1, av x1), (2, av x2), (4, iv x4), (5, jv x5), (7, jv x7), (9, jv x9)] [] σ (Mdl_sumOf_p122 σ x0 x1 x2 x4 x5 x7 x9) := by
  unfold Mdl_sumOf_p122
  refine g_aload_n 1 1 dX17_sumOf_122 rfl rfl ?_
  refine g_getI fdX17_921 dX17_sumOf_123 ?_
  refine g_aload_n 2 2 dX17_sumOf_126 rfl rfl ?_
  refine g_getI fdX17_921 dX17_sumOf_127 ?_
  refine g_icmp_ne 173 dX17_sumOf_130 (by decide) ?_ ?_
  · refine g_lload 4 dX17_sumOf_173 rfl ?_
    refine g_lconst (v := 0) dX17_sumOf_175 (by decide) ?_
    refine g_lcmp_ne 190 dX17_sumOf_176 dX17_sumOf_177 (by decide) ?_ ?_
    · exact gX17_sumOf_p190 _ _ _ _ _ _ _ _
    · refine g_lload 5 dX17_sumOf_180 rfl ?_
      refine g_lload 6 dX17_sumOf_182 rfl ?_
      refine g_lcmp_ne 190 dX17_sumOf_184 dX17_sumOf_185 (by decide) ?_ ?_
      · exact gX17_sumOf_p190 _ _ _ _ _ _ _ _
      · refine g_lconst (v := 0) dX17_sumOf_188 (by decide) ?_
        exact g_lreturn rfl dX17_sumOf_189
  · refine g_lload 5 dX17_sumOf_133 rfl ?_
    refine g_lload 6 dX17_sumOf_135 rfl ?_
    refine g_ladd dX17_sumOf_137 ?_
    refine g_nmJ (fun y1 => ?_)
    refine g_lstore dX17_sumOf_138 (by decide) rfl ?_
    refine g_iload_n 0 1 dX17_sumOf_140 rfl rfl ?_
    refine g_aload_n 1 2 dX17_sumOf_141 rfl rfl ?_
    refine g_getI fdX17_921 dX17_sumOf_142 ?_
    refine g_lload 0 dX17_sumOf_145 rfl ?_
    refine g_lload 6 dX17_sumOf_147 rfl ?_
    refine g_callS (fc := fun sς => Mdl_isBelow sς y1 x7) (as := [jv y1, jv x7]) q4192 mdX17_827 (ctX17_isBelow y1 x7) rfl (Nat.le_of_ble_eq_true rfl) (Nat.le_of_ble_eq_true rfl) (Nat.le_of_ble_eq_true rfl) pu_I dX17_sumOf_149 (fun r3 σ2 => ?_)
    refine g_if_eq 162 dX17_sumOf_152 (by decide) ?_ ?_
    · refine g_lload 5 dX17_sumOf_162 rfl ?_
      refine G.sub [4, 0] rfl ?_
      exact gX17_sumOf_p164 _ _ _ _ _ _
    · refine g_lload 5 dX17_sumOf_155 rfl ?_
      refine g_lconst (v := 1) dX17_sumOf_157 (by decide) ?_
      refine g_ladd dX17_sumOf_158 ?_
      refine g_goto 164 dX17_sumOf_159 (by decide) ?_
      refine G.sub [4, 0] rfl ?_
      exact gX17_sumOf_p164 _ _ _ _ _ _
def V.Mdl_sumOf_p92  : Nat → HS → Int32 → Nat → Nat → Int32 → Int32 → Int64 → Int64 → Int64 → Int32 → Option (Int64 × HS)
  | 0, _, _, _, _, _, _, _, _, _, _ => none
  | n + 1, σ, x0, x1, x2, x3, x4, x5, x7, x9, x11 =>
    if x3 ≤ x11 then (
      Mdl_sumOf_p122 σ x0 x1 x2 x4 x5 x7 x9)
    else (
      if x9 ≤ (1 : Int64) then (
        Mdl_sumOf_p122 σ x0 x1 x2 x4 x5 x7 x9)
      else (
        bn ((lushr x9 (1 : Int32)) ||| (x9 &&& (1 : Int64))) fun y1 =>
        bn (x11 + (1 : Int32)) fun y2 =>
        Mdl_sumOf_p92 n σ x0 x1 x2 x3 x4 x5 x7 y1 y2))
theorem V.gX17_sumOf_p92 {X : CX}  : ∀ (n : Nat) (σ : HS) (x0 : Int32) (x1 : Nat) (x2 : Nat) (x3 : Int32) (x4 : Int32) (x5 : Int64) (x7 : Int64) (x9 : Int64) (x11 : Int32), G X RX17 "sumOf" cX17_sumOf 13 (some .long) 3 81 enJ 92 [(0, iv x0), (1, av x1), (2, av x2), (3, iv x3), (4, iv x4), (5, jv x5), (7, jv x7), (9, jv x9), (11, iv x11)] [] σ (Mdl_sumOf_p92 n σ x0 x1 x2 x3 x4 x5 x7 x9 x11)
  | 0, σ, x0, x1, x2, x3, x4, x5, x7, x9, x11 => by rw [Mdl_sumOf_p92]; exact G.nul
  | n + 1, σ, x0, x1, x2, x3, x4, x5, x7, x9, x11 => by
    rw [Mdl_sumOf_p92]
    refine g_iload 8 dX17_sumOf_92 rfl ?_
    refine g_iload_n 3 3 dX17_sumOf_94 rfl rfl ?_
    refine g_icmp_ge 122 dX17_sumOf_95 (by decide) ?_ ?_
    · refine G.sub [0, 1, 2, 4, 5, 6, 7] rfl ?_
      exact gX17_sumOf_p122 _ _ _ _ _ _ _ _
    · refine g_lload 7 dX17_sumOf_98 rfl ?_
      refine g_lconst (v := 1) dX17_sumOf_100 (by decide) ?_
      refine g_lcmp_le 122 dX17_sumOf_101 dX17_sumOf_102 (by decide) ?_ ?_
      · refine G.sub [0, 1, 2, 4, 5, 6, 7] rfl ?_
        exact gX17_sumOf_p122 _ _ _ _ _ _ _ _
      · refine g_lload 7 dX17_sumOf_105 rfl ?_
        refine g_iconst (v := 1) dX17_sumOf_107 (by decide) ?_
        refine g_lushr dX17_sumOf_108 ?_
        refine g_lload 7 dX17_sumOf_109 rfl ?_
        refine g_lconst (v := 1) dX17_sumOf_111 (by decide) ?_
        refine g_land dX17_sumOf_112 ?_
        refine g_lor dX17_sumOf_113 ?_
        refine g_nmJ (fun y1 => ?_)
        refine g_lstore dX17_sumOf_114 (by decide) rfl ?_
        refine g_iincB (w := 1) 8 dX17_sumOf_116 rfl (by decide) (by decide) (fun _ => rfl) (fun y2 => ?_)
        refine g_goto 92 dX17_sumOf_119 (by decide) ?_
        refine G.sub [2, 3, 4, 5, 6, 7, 8, 1, 0] rfl ?_
        exact gX17_sumOf_p92 n _ _ _ _ _ _ _ _ _ _
def V.Mdl_sumOf_p80  (σ : HS) (x0 : Int32) (x1 : Nat) (x2 : Nat) (x3 : Int32) (x4 : Int32) (x5 : Int64) (s0 : Int64) : Option (Int64 × HS) :=
  ck (tg σ x2 = 20) <|
  bn (gJ σ x2 2) fun y1 =>
  Mdl_sumOf_p92 FU σ x0 x1 x2 x3 x4 x5 s0 y1 (64 : Int32)
theorem V.gX17_sumOf_p80 {X : CX}  (σ : HS) (x0 : Int32) (x1 : Nat) (x2 : Nat) (x3 : Int32) (x4 : Int32) (x5 : Int64) (s0 : Int64) : G X RX17 "sumOf" cX17_sumOf 13 (some .long) 3 81 enJ 80 [(0, iv x0), (1, av x1), (2, av x2), (3, iv x3), (4, iv x4), (5, jv x5)] [jv s0] σ (Mdl_sumOf_p80 σ x0 x1 x2 x3 x4 x5 s0) := by
  unfold Mdl_sumOf_p80
  refine g_lstore dX17_sumOf_80 (by decide) rfl ?_
  refine g_aload_n 2 3 dX17_sumOf_82 rfl rfl ?_
  refine g_getJ fdX17_916 dX17_sumOf_83 ?_
  refine g_nmJ (fun y1 => ?_)
  refine g_lstore dX17_sumOf_86 (by decide) rfl ?_
  refine g_bipush (v := 64) dX17_sumOf_88 (by decide) ?_
  refine g_istore dX17_sumOf_90 (by decide) rfl ?_
  refine G.sub [3, 4, 5, 6, 7, 8, 2, 1, 0] rfl ?_
  exact gX17_sumOf_p92 FU _ _ _ _ _ _ _ _ _ _
def V.Mdl_sumOf_p62  (σ : HS) (x0 : Int32) (x1 : Nat) (x2 : Nat) (x3 : Int32) (x4 : Int32) (s0 : Int64) : Option (Int64 × HS) :=
  if x3 < (64 : Int32) then (
    ck (tg σ x1 = 20) <|
    Mdl_sumOf_p80 σ x0 x1 x2 x3 x4 s0 (lshl (gJ σ x1 2) x3))
  else (
    Mdl_sumOf_p80 σ x0 x1 x2 x3 x4 s0 (0 : Int64))
theorem V.gX17_sumOf_p62 {X : CX}  (σ : HS) (x0 : Int32) (x1 : Nat) (x2 : Nat) (x3 : Int32) (x4 : Int32) (s0 : Int64) : G X RX17 "sumOf" cX17_sumOf 13 (some .long) 3 81 enJ 62 [(0, iv x0), (1, av x1), (2, av x2), (3, iv x3), (4, iv x4)] [jv s0] σ (Mdl_sumOf_p62 σ x0 x1 x2 x3 x4 s0) := by
  unfold Mdl_sumOf_p62
  refine g_lstore dX17_sumOf_62 (by decide) rfl ?_
  refine g_iload_n 3 4 dX17_sumOf_64 rfl rfl ?_
  refine g_bipush (v := 64) dX17_sumOf_65 (by decide) ?_
  refine g_icmp_lt 74 dX17_sumOf_67 (by decide) ?_ ?_
  · refine g_aload_n 1 2 dX17_sumOf_74 rfl rfl ?_
    refine g_getJ fdX17_916 dX17_sumOf_75 ?_
    refine g_iload_n 3 4 dX17_sumOf_78 rfl rfl ?_
    refine g_lshl dX17_sumOf_79 ?_
    refine G.sub [1, 2, 3, 4, 5, 0] rfl ?_
    exact gX17_sumOf_p80 _ _ _ _ _ _ _ _
  · refine g_lconst (v := 0) dX17_sumOf_70 (by decide) ?_
    refine g_goto 80 dX17_sumOf_71 (by decide) ?_
    refine G.sub [1, 2, 3, 4, 5, 0] rfl ?_
    exact gX17_sumOf_p80 _ _ _ _ _ _ _ _
def V.Mdl_sumOf_p30  (σ : HS) (x0 : Int32) (x1 : Nat) (x2 : Nat) (x3 : Int32) (s0 : Int32) : Option (Int64 × HS) :=
  if x3 = 0 then (
    Mdl_sumOf_p62 σ x0 x1 x2 x3 s0 (0 : Int64))
  else (
    if x3 < (64 : Int32) then (
      ck (tg σ x1 = 20) <|
      Mdl_sumOf_p62 σ x0 x1 x2 x3 s0 (lushr (gJ σ x1 2) ((64 : Int32) - x3)))
    else (
      ck (tg σ x1 = 20) <|
      Mdl_sumOf_p62 σ x0 x1 x2 x3 s0 (gJ σ x1 2)))
theorem V.gX17_sumOf_p30 {X : CX}  (σ : HS) (x0 : Int32) (x1 : Nat) (x2 : Nat) (x3 : Int32) (s0 : Int32) : G X RX17 "sumOf" cX17_sumOf 13 (some .long) 3 81 enJ 30 [(0, iv x0), (1, av x1), (2, av x2), (3, iv x3)] [iv s0] σ (Mdl_sumOf_p30 σ x0 x1 x2 x3 s0) := by
  unfold Mdl_sumOf_p30
  refine g_istore dX17_sumOf_30 (by decide) rfl ?_
  refine g_iload_n 3 4 dX17_sumOf_32 rfl rfl ?_
  refine g_if_ne 40 dX17_sumOf_33 (by decide) ?_ ?_
  · refine g_iload_n 3 4 dX17_sumOf_40 rfl rfl ?_
    refine g_bipush (v := 64) dX17_sumOf_41 (by decide) ?_
    refine g_icmp_lt 53 dX17_sumOf_43 (by decide) ?_ ?_
    · refine g_aload_n 1 2 dX17_sumOf_53 rfl rfl ?_
      refine g_getJ fdX17_916 dX17_sumOf_54 ?_
      refine g_bipush (v := 64) dX17_sumOf_57 (by decide) ?_
      refine g_iload_n 3 4 dX17_sumOf_59 rfl rfl ?_
      refine g_isub dX17_sumOf_60 ?_
      refine g_lushr dX17_sumOf_61 ?_
      refine G.sub [1, 2, 3, 4, 0] rfl ?_
      exact gX17_sumOf_p62 _ _ _ _ _ _ _
    · refine g_aload_n 1 2 dX17_sumOf_46 rfl rfl ?_
      refine g_getJ fdX17_916 dX17_sumOf_47 ?_
      refine g_goto 62 dX17_sumOf_50 (by decide) ?_
      refine G.sub [1, 2, 3, 4, 0] rfl ?_
      exact gX17_sumOf_p62 _ _ _ _ _ _ _
  · refine g_lconst (v := 0) dX17_sumOf_36 (by decide) ?_
    refine g_goto 62 dX17_sumOf_37 (by decide) ?_
    refine G.sub [1, 2, 3, 4, 0] rfl ?_
    exact gX17_sumOf_p62 _ _ _ _ _ _ _
def V.Mdl_sumOf (σ : HS) (x0 : Int32) (x1 : Nat) (x2 : Nat) : Option (Int64 × HS) :=
  ck (tg σ x1 = 20) <|
  ck (tg σ x2 = 20) <|
  bn ((gI σ x1 3) - (gI σ x2 3)) fun y1 =>
  if y1 ≤ (64 : Int32) then (
    ck (tg σ x2 = 20) <|
    Mdl_sumOf_p30 σ x0 x1 x2 y1 (gI σ x2 3))
  else (
    ck (tg σ x1 = 20) <|
    Mdl_sumOf_p30 σ x0 x1 x2 y1 ((gI σ x1 3) - (64 : Int32)))
theorem V.ctX17_sumOf (x0 : Int32) (x1 : Nat) (x2 : Nat) : Ct yX17_sumOf  cX17_sumOf 13 (some .long) 3 81 eJ [iv x0, av x1, av x2] (fun σ => Mdl_sumOf σ x0 x1 x2) := by
  refine Ct.of (own := RX17) (nm := "sumOf") (desc := "(ILModuleEngineModel$Real;LModuleEngineModel$Real;)J") rfl (by decide) (Nat.le_of_ble_eq_true rfl) (by decide) (fun X σ => ?_)
  show G X RX17 "sumOf" cX17_sumOf 13 (some .long) 3 81 enJ 0 [(0, iv x0), (1, av x1), (2, av x2)] [] σ (Mdl_sumOf σ x0 x1 x2)
  unfold Mdl_sumOf
  refine g_aload_n 1 1 dX17_sumOf_0 rfl rfl ?_
  refine g_getI fdX17_913 dX17_sumOf_1 ?_
  refine g_aload_n 2 2 dX17_sumOf_4 rfl rfl ?_
  refine g_getI fdX17_913 dX17_sumOf_5 ?_
  refine g_isub dX17_sumOf_8 ?_
  refine g_nmI (fun y1 => ?_)
  refine g_istore_n 3 dX17_sumOf_9 rfl (by decide) rfl ?_
  refine g_iload_n 3 0 dX17_sumOf_10 rfl rfl ?_
  refine g_bipush (v := 64) dX17_sumOf_11 (by decide) ?_
  refine g_icmp_le 26 dX17_sumOf_13 (by decide) ?_ ?_
  · refine g_aload_n 2 3 dX17_sumOf_26 rfl rfl ?_
    refine g_getI fdX17_913 dX17_sumOf_27 ?_
    refine G.sub [1, 2, 3, 0] rfl ?_
    exact gX17_sumOf_p30 _ _ _ _ _ _
  · refine g_aload_n 1 2 dX17_sumOf_16 rfl rfl ?_
    refine g_getI fdX17_913 dX17_sumOf_17 ?_
    refine g_bipush (v := 64) dX17_sumOf_20 (by decide) ?_
    refine g_isub dX17_sumOf_22 ?_
    refine g_goto 30 dX17_sumOf_23 (by decide) ?_
    refine G.sub [1, 2, 3, 0] rfl ?_
    exact gX17_sumOf_p30 _ _ _ _ _ _
theorem V.dX17_sum_0 : decode cX17_sum 0 = .ok (.aload_n 0, 1) := by decide +kernel
theorem V.dX17_sum_1 : decode cX17_sum 1 = .ok (.getfield 61, 3) := by decide +kernel
theorem V.dX17_sum_4 : decode cX17_sum 4 = .ok (.iload_n 1, 1) := by decide +kernel
theorem V.dX17_sum_5 : decode cX17_sum 5 = .ok (.lload_n 2, 1) := by decide +kernel
theorem V.dX17_sum_6 : decode cX17_sum 6 = .ok (.invokevirtual 868, 3) := by decide +kernel
theorem V.dX17_sum_9 : decode cX17_sum 9 = .ok (.aload_n 0, 1) := by decide +kernel
theorem V.dX17_sum_10 : decode cX17_sum 10 = .ok (.getfield 65, 3) := by decide +kernel
theorem V.dX17_sum_13 : decode cX17_sum 13 = .ok (.iload_n 1, 1) := by decide +kernel
theorem V.dX17_sum_14 : decode cX17_sum 14 = .ok (.lload 4, 2) := by decide +kernel
theorem V.dX17_sum_16 : decode cX17_sum 16 = .ok (.invokevirtual 868, 3) := by decide +kernel
theorem V.dX17_sum_19 : decode cX17_sum 19 = .ok (.aload_n 0, 1) := by decide +kernel
theorem V.dX17_sum_20 : decode cX17_sum 20 = .ok (.getfield 65, 3) := by decide +kernel
theorem V.dX17_sum_23 : decode cX17_sum 23 = .ok (.aload_n 0, 1) := by decide +kernel
theorem V.dX17_sum_24 : decode cX17_sum 24 = .ok (.getfield 65, 3) := by decide +kernel
theorem V.dX17_sum_27 : decode cX17_sum 27 = .ok (.getfield 921, 3) := by decide +kernel
theorem V.dX17_sum_30 : decode cX17_sum 30 = .ok (.iload 6, 2) := by decide +kernel
theorem V.dX17_sum_32 : decode cX17_sum 32 = .ok (.if_icmp .eq 7, 3) := by decide +kernel
theorem V.dX17_sum_35 : decode cX17_sum 35 = .ok (.iconst 1, 1) := by decide +kernel
theorem V.dX17_sum_36 : decode cX17_sum 36 = .ok (.goto 4, 3) := by decide +kernel
theorem V.dX17_sum_39 : decode cX17_sum 39 = .ok (.iconst 0, 1) := by decide +kernel
theorem V.dX17_sum_40 : decode cX17_sum 40 = .ok (.putfield 921, 3) := by decide +kernel
theorem V.dX17_sum_43 : decode cX17_sum 43 = .ok (.aload_n 0, 1) := by decide +kernel
theorem V.dX17_sum_44 : decode cX17_sum 44 = .ok (.getfield 61, 3) := by decide +kernel
theorem V.dX17_sum_47 : decode cX17_sum 47 = .ok (.getfield 871, 3) := by decide +kernel
theorem V.dX17_sum_50 : decode cX17_sum 50 = .ok (.iconst 3, 1) := by decide +kernel
theorem V.dX17_sum_51 : decode cX17_sum 51 = .ok (.if_icmp .eq 14, 3) := by decide +kernel
theorem V.dX17_sum_54 : decode cX17_sum 54 = .ok (.aload_n 0, 1) := by decide +kernel
theorem V.dX17_sum_55 : decode cX17_sum 55 = .ok (.getfield 65, 3) := by decide +kernel
theorem V.dX17_sum_58 : decode cX17_sum 58 = .ok (.getfield 871, 3) := by decide +kernel
theorem V.dX17_sum_61 : decode cX17_sum 61 = .ok (.iconst 3, 1) := by decide +kernel
theorem V.dX17_sum_62 : decode cX17_sum 62 = .ok (.if_icmp .ne 8, 3) := by decide +kernel
theorem V.dX17_sum_65 : decode cX17_sum 65 = .ok (.iload_n 1, 1) := by decide +kernel
theorem V.dX17_sum_66 : decode cX17_sum 66 = .ok (.invokestatic 910, 3) := by decide +kernel
theorem V.dX17_sum_69 : decode cX17_sum 69 = .ok (.lreturn, 1) := by decide +kernel
theorem V.dX17_sum_70 : decode cX17_sum 70 = .ok (.aload_n 0, 1) := by decide +kernel
theorem V.dX17_sum_71 : decode cX17_sum 71 = .ok (.getfield 61, 3) := by decide +kernel
theorem V.dX17_sum_74 : decode cX17_sum 74 = .ok (.getfield 871, 3) := by decide +kernel
theorem V.dX17_sum_77 : decode cX17_sum 77 = .ok (.iconst 2, 1) := by decide +kernel
theorem V.dX17_sum_78 : decode cX17_sum 78 = .ok (.if_icmp .ne 36, 3) := by decide +kernel
theorem V.dX17_sum_81 : decode cX17_sum 81 = .ok (.aload_n 0, 1) := by decide +kernel
theorem V.dX17_sum_82 : decode cX17_sum 82 = .ok (.getfield 65, 3) := by decide +kernel
theorem V.dX17_sum_85 : decode cX17_sum 85 = .ok (.getfield 871, 3) := by decide +kernel
theorem V.dX17_sum_88 : decode cX17_sum 88 = .ok (.iconst 2, 1) := by decide +kernel
theorem V.dX17_sum_89 : decode cX17_sum 89 = .ok (.if_icmp .ne 25, 3) := by decide +kernel
theorem V.dX17_sum_92 : decode cX17_sum 92 = .ok (.aload_n 0, 1) := by decide +kernel
theorem V.dX17_sum_93 : decode cX17_sum 93 = .ok (.getfield 61, 3) := by decide +kernel
theorem V.dX17_sum_96 : decode cX17_sum 96 = .ok (.getfield 921, 3) := by decide +kernel
theorem V.dX17_sum_99 : decode cX17_sum 99 = .ok (.aload_n 0, 1) := by decide +kernel
theorem V.dX17_sum_100 : decode cX17_sum 100 = .ok (.getfield 65, 3) := by decide +kernel
theorem V.dX17_sum_103 : decode cX17_sum 103 = .ok (.getfield 921, 3) := by decide +kernel
theorem V.dX17_sum_106 : decode cX17_sum 106 = .ok (.if_icmp .eq 8, 3) := by decide +kernel
theorem V.dX17_sum_109 : decode cX17_sum 109 = .ok (.iload_n 1, 1) := by decide +kernel
theorem V.dX17_sum_110 : decode cX17_sum 110 = .ok (.invokestatic 910, 3) := by decide +kernel
theorem V.dX17_sum_113 : decode cX17_sum 113 = .ok (.lreturn, 1) := by decide +kernel
theorem V.dX17_sum_114 : decode cX17_sum 114 = .ok (.aload_n 0, 1) := by decide +kernel
theorem V.dX17_sum_115 : decode cX17_sum 115 = .ok (.getfield 61, 3) := by decide +kernel
theorem V.dX17_sum_118 : decode cX17_sum 118 = .ok (.getfield 871, 3) := by decide +kernel
theorem V.dX17_sum_121 : decode cX17_sum 121 = .ok (.iconst 2, 1) := by decide +kernel
theorem V.dX17_sum_122 : decode cX17_sum 122 = .ok (.if_icmp .ne 5, 3) := by decide +kernel
theorem V.dX17_sum_125 : decode cX17_sum 125 = .ok (.lload_n 2, 1) := by decide +kernel
theorem V.dX17_sum_126 : decode cX17_sum 126 = .ok (.lreturn, 1) := by decide +kernel
theorem V.dX17_sum_127 : decode cX17_sum 127 = .ok (.aload_n 0, 1) := by decide +kernel
theorem V.dX17_sum_128 : decode cX17_sum 128 = .ok (.getfield 65, 3) := by decide +kernel
theorem V.dX17_sum_131 : decode cX17_sum 131 = .ok (.getfield 871, 3) := by decide +kernel
theorem V.dX17_sum_134 : decode cX17_sum 134 = .ok (.iconst 2, 1) := by decide +kernel
theorem V.dX17_sum_135 : decode cX17_sum 135 = .ok (.if_icmp .ne 19, 3) := by decide +kernel
theorem V.dX17_sum_138 : decode cX17_sum 138 = .ok (.iload_n 1, 1) := by decide +kernel
theorem V.dX17_sum_139 : decode cX17_sum 139 = .ok (.aload_n 0, 1) := by decide +kernel
theorem V.dX17_sum_140 : decode cX17_sum 140 = .ok (.getfield 65, 3) := by decide +kernel
theorem V.dX17_sum_143 : decode cX17_sum 143 = .ok (.getfield 921, 3) := by decide +kernel
theorem V.dX17_sum_146 : decode cX17_sum 146 = .ok (.iload_n 1, 1) := by decide +kernel
theorem V.dX17_sum_147 : decode cX17_sum 147 = .ok (.invokestatic 888, 3) := by decide +kernel
theorem V.dX17_sum_150 : decode cX17_sum 150 = .ok (.invokestatic 882, 3) := by decide +kernel
theorem V.dX17_sum_153 : decode cX17_sum 153 = .ok (.lreturn, 1) := by decide +kernel
theorem V.dX17_sum_154 : decode cX17_sum 154 = .ok (.aload_n 0, 1) := by decide +kernel
theorem V.dX17_sum_155 : decode cX17_sum 155 = .ok (.getfield 61, 3) := by decide +kernel
theorem V.dX17_sum_158 : decode cX17_sum 158 = .ok (.getfield 871, 3) := by decide +kernel
theorem V.dX17_sum_161 : decode cX17_sum 161 = .ok (.iconst 1, 1) := by decide +kernel
theorem V.dX17_sum_162 : decode cX17_sum 162 = .ok (.if_icmp .ne 45, 3) := by decide +kernel
theorem V.dX17_sum_165 : decode cX17_sum 165 = .ok (.aload_n 0, 1) := by decide +kernel
theorem V.dX17_sum_166 : decode cX17_sum 166 = .ok (.getfield 65, 3) := by decide +kernel
theorem V.dX17_sum_169 : decode cX17_sum 169 = .ok (.getfield 871, 3) := by decide +kernel
theorem V.dX17_sum_172 : decode cX17_sum 172 = .ok (.iconst 1, 1) := by decide +kernel
theorem V.dX17_sum_173 : decode cX17_sum 173 = .ok (.if_icmp .ne 34, 3) := by decide +kernel
theorem V.dX17_sum_176 : decode cX17_sum 176 = .ok (.iload_n 1, 1) := by decide +kernel
theorem V.dX17_sum_177 : decode cX17_sum 177 = .ok (.aload_n 0, 1) := by decide +kernel
theorem V.dX17_sum_178 : decode cX17_sum 178 = .ok (.getfield 61, 3) := by decide +kernel
theorem V.dX17_sum_181 : decode cX17_sum 181 = .ok (.getfield 921, 3) := by decide +kernel
theorem V.dX17_sum_184 : decode cX17_sum 184 = .ok (.ifCond .eq 17, 3) := by decide +kernel
theorem V.dX17_sum_187 : decode cX17_sum 187 = .ok (.aload_n 0, 1) := by decide +kernel
theorem V.dX17_sum_188 : decode cX17_sum 188 = .ok (.getfield 65, 3) := by decide +kernel
theorem V.dX17_sum_191 : decode cX17_sum 191 = .ok (.getfield 921, 3) := by decide +kernel
theorem V.dX17_sum_194 : decode cX17_sum 194 = .ok (.ifCond .eq 7, 3) := by decide +kernel
theorem V.dX17_sum_197 : decode cX17_sum 197 = .ok (.iconst 1, 1) := by decide +kernel
theorem V.dX17_sum_198 : decode cX17_sum 198 = .ok (.goto 4, 3) := by decide +kernel
theorem V.dX17_sum_201 : decode cX17_sum 201 = .ok (.iconst 0, 1) := by decide +kernel
theorem V.dX17_sum_202 : decode cX17_sum 202 = .ok (.lconst 0, 1) := by decide +kernel
theorem V.dX17_sum_203 : decode cX17_sum 203 = .ok (.invokestatic 882, 3) := by decide +kernel
theorem V.dX17_sum_206 : decode cX17_sum 206 = .ok (.lreturn, 1) := by decide +kernel
theorem V.dX17_sum_207 : decode cX17_sum 207 = .ok (.aload_n 0, 1) := by decide +kernel
theorem V.dX17_sum_208 : decode cX17_sum 208 = .ok (.getfield 61, 3) := by decide +kernel
theorem V.dX17_sum_211 : decode cX17_sum 211 = .ok (.getfield 871, 3) := by decide +kernel
theorem V.dX17_sum_214 : decode cX17_sum 214 = .ok (.iconst 1, 1) := by decide +kernel
theorem V.dX17_sum_215 : decode cX17_sum 215 = .ok (.if_icmp .ne 26, 3) := by decide +kernel
theorem V.dX17_sum_218 : decode cX17_sum 218 = .ok (.iload_n 1, 1) := by decide +kernel
theorem V.dX17_sum_219 : decode cX17_sum 219 = .ok (.aload_n 0, 1) := by decide +kernel
theorem V.dX17_sum_220 : decode cX17_sum 220 = .ok (.getfield 65, 3) := by decide +kernel
theorem V.dX17_sum_223 : decode cX17_sum 223 = .ok (.getfield 921, 3) := by decide +kernel
theorem V.dX17_sum_226 : decode cX17_sum 226 = .ok (.lload 4, 2) := by decide +kernel
theorem V.dX17_sum_228 : decode cX17_sum 228 = .ok (.iload_n 1, 1) := by decide +kernel
theorem V.dX17_sum_229 : decode cX17_sum 229 = .ok (.invokestatic 865, 3) := by decide +kernel
theorem V.dX17_sum_232 : decode cX17_sum 232 = .ok (.ldc2_w 268, 3) := by decide +kernel
theorem V.dX17_sum_235 : decode cX17_sum 235 = .ok (.lxor, 1) := by decide +kernel
theorem V.dX17_sum_236 : decode cX17_sum 236 = .ok (.land, 1) := by decide +kernel
theorem V.dX17_sum_237 : decode cX17_sum 237 = .ok (.invokestatic 882, 3) := by decide +kernel
theorem V.dX17_sum_240 : decode cX17_sum 240 = .ok (.lreturn, 1) := by decide +kernel
theorem V.dX17_sum_241 : decode cX17_sum 241 = .ok (.aload_n 0, 1) := by decide +kernel
theorem V.dX17_sum_242 : decode cX17_sum 242 = .ok (.getfield 65, 3) := by decide +kernel
theorem V.dX17_sum_245 : decode cX17_sum 245 = .ok (.getfield 871, 3) := by decide +kernel
theorem V.dX17_sum_248 : decode cX17_sum 248 = .ok (.iconst 1, 1) := by decide +kernel
theorem V.dX17_sum_249 : decode cX17_sum 249 = .ok (.if_icmp .ne 7, 3) := by decide +kernel
theorem V.dX17_sum_252 : decode cX17_sum 252 = .ok (.lload_n 2, 1) := by decide +kernel
theorem V.dX17_sum_253 : decode cX17_sum 253 = .ok (.goto 63, 3) := by decide +kernel
theorem V.dX17_sum_256 : decode cX17_sum 256 = .ok (.iload_n 1, 1) := by decide +kernel
theorem V.dX17_sum_257 : decode cX17_sum 257 = .ok (.aload_n 0, 1) := by decide +kernel
theorem V.dX17_sum_258 : decode cX17_sum 258 = .ok (.getfield 61, 3) := by decide +kernel
theorem V.dX17_sum_261 : decode cX17_sum 261 = .ok (.getfield 913, 3) := by decide +kernel
theorem V.dX17_sum_264 : decode cX17_sum 264 = .ok (.aload_n 0, 1) := by decide +kernel
theorem V.dX17_sum_265 : decode cX17_sum 265 = .ok (.getfield 65, 3) := by decide +kernel
theorem V.dX17_sum_268 : decode cX17_sum 268 = .ok (.getfield 913, 3) := by decide +kernel
theorem V.dX17_sum_271 : decode cX17_sum 271 = .ok (.if_icmp .lt 10, 3) := by decide +kernel
theorem V.dX17_sum_274 : decode cX17_sum 274 = .ok (.aload_n 0, 1) := by decide +kernel
theorem V.dX17_sum_275 : decode cX17_sum 275 = .ok (.getfield 61, 3) := by decide +kernel
theorem V.dX17_sum_278 : decode cX17_sum 278 = .ok (.goto 7, 3) := by decide +kernel
theorem V.dX17_sum_281 : decode cX17_sum 281 = .ok (.aload_n 0, 1) := by decide +kernel
theorem V.dX17_sum_282 : decode cX17_sum 282 = .ok (.getfield 65, 3) := by decide +kernel
theorem V.dX17_sum_285 : decode cX17_sum 285 = .ok (.aload_n 0, 1) := by decide +kernel
theorem V.dX17_sum_286 : decode cX17_sum 286 = .ok (.getfield 61, 3) := by decide +kernel
theorem V.dX17_sum_289 : decode cX17_sum 289 = .ok (.getfield 913, 3) := by decide +kernel
theorem V.dX17_sum_292 : decode cX17_sum 292 = .ok (.aload_n 0, 1) := by decide +kernel
theorem V.dX17_sum_293 : decode cX17_sum 293 = .ok (.getfield 65, 3) := by decide +kernel
theorem V.dX17_sum_296 : decode cX17_sum 296 = .ok (.getfield 913, 3) := by decide +kernel
theorem V.dX17_sum_299 : decode cX17_sum 299 = .ok (.if_icmp .lt 10, 3) := by decide +kernel
theorem V.dX17_sum_302 : decode cX17_sum 302 = .ok (.aload_n 0, 1) := by decide +kernel
theorem V.dX17_sum_303 : decode cX17_sum 303 = .ok (.getfield 65, 3) := by decide +kernel
theorem V.dX17_sum_306 : decode cX17_sum 306 = .ok (.goto 7, 3) := by decide +kernel
theorem V.dX17_sum_309 : decode cX17_sum 309 = .ok (.aload_n 0, 1) := by decide +kernel
theorem V.dX17_sum_310 : decode cX17_sum 310 = .ok (.getfield 61, 3) := by decide +kernel
theorem V.dX17_sum_313 : decode cX17_sum 313 = .ok (.invokestatic 932, 3) := by decide +kernel
theorem V.dX17_sum_316 : decode cX17_sum 316 = .ok (.lreturn, 1) := by decide +kernel
theorem V.fpX17_921 {nm : String} : FP RX17 nm 921 19 0 (.boolean) := ⟨(RX19, TX19, 4), tyX19, rfl, rfl, in_X19, by decide, tyX19_ok, nmX19, rfl, Or.inl ⟨rfl, Or.inr ⟨_, q3017⟩⟩⟩
theorem V.mdX17_932 : MD RX17 932 yX17_sumOf cX17_sumOf 13 (some .long) 3 := ⟨Or.inl q4281, q377, q4283, by decide, by decide, by decide +kernel⟩
/-! ModuleEngineModel.sum(IJJZ)J -/
def V.Mdl_sum_p65  (σ : HS) (x1 : Int32) : Option (Int64 × HS) :=
  cl (Mdl_noneOf σ x1) fun r2 σ1 =>
  some (r2, σ1)
theorem V.gX17_sum_p65 {X : CX}  (σ : HS) (x1 : Int32) : G X RX17 "sum" cX17_sum 7 (some .long) 4 113 enJ 65 [(1, iv x1)] [] σ (Mdl_sum_p65 σ x1) := by
  unfold Mdl_sum_p65
  refine g_iload_n 1 0 dX17_sum_65 rfl rfl ?_
  refine g_callS (fc := fun sς => Mdl_noneOf sς x1) (as := [iv x1]) q4251 mdX17_910 (ctX17_noneOf x1) rfl (Nat.le_of_ble_eq_true rfl) (Nat.le_of_ble_eq_true rfl) (Nat.le_of_ble_eq_true rfl) pu_J dX17_sum_66 (fun r2 σ1 => ?_)
  exact g_lreturn rfl dX17_sum_69
def V.Mdl_sum_p313  (σ : HS) (s0 : Nat) (s1 : Nat) (s2 : Int32) : Option (Int64 × HS) :=
  cl (Mdl_sumOf σ s2 s1 s0) fun r2 σ1 =>
  some (r2, σ1)
theorem V.gX17_sum_p313 {X : CX}  (σ : HS) (s0 : Nat) (s1 : Nat) (s2 : Int32) : G X RX17 "sum" cX17_sum 7 (some .long) 4 113 enJ 313 [] [av s0, av s1, iv s2] σ (Mdl_sum_p313 σ s0 s1 s2) := by
  unfold Mdl_sum_p313
  refine g_callS (fc := fun sς => Mdl_sumOf sς s2 s1 s0) (as := [iv s2, av s1, av s0]) q4282 mdX17_932 (ctX17_sumOf s2 s1 s0) rfl (Nat.le_of_ble_eq_true rfl) (Nat.le_of_ble_eq_true rfl) (Nat.le_of_ble_eq_true rfl) pu_J dX17_sum_313 (fun r2 σ1 => ?_)
  exact g_lreturn rfl dX17_sum_316
def V.Mdl_sum_p285  (σ : HS) (x0 : Nat) (s0 : Nat) (s1 : Int32) : Option (Int64 × HS) :=
  ck (tg σ x0 = 18) <|
  ck (tg σ (gR σ x0 34) = 20) <|
  ck (tg σ x0 = 18) <|
  ck (tg σ (gR σ x0 35) = 20) <|
  if (gI σ (gR σ x0 34) 3) < (gI σ (gR σ x0 35) 3) then (
    ck (tg σ x0 = 18) <|
    Mdl_sum_p313 σ (gR σ x0 34) s0 s1)
  else (
    ck (tg σ x0 = 18) <|
    Mdl_sum_p313 σ (gR σ x0 35) s0 s1)
theorem V.gX17_sum_p285 {X : CX}  (σ : HS) (x0 : Nat) (s0 : Nat) (s1 : Int32) : G X RX17 "sum" cX17_sum 7 (some .long) 4 113 enJ 285 [(0, av x0)] [av s0, iv s1] σ (Mdl_sum_p285 σ x0 s0 s1) := by
  unfold Mdl_sum_p285
  refine g_aload_n 0 0 dX17_sum_285 rfl rfl ?_
  refine g_getR fdX17_61 dX17_sum_286 ?_
  refine g_getI fdX17_913 dX17_sum_289 ?_
  refine g_aload_n 0 0 dX17_sum_292 rfl rfl ?_
  refine g_getR fdX17_65 dX17_sum_293 ?_
  refine g_getI fdX17_913 dX17_sum_296 ?_
  refine g_icmp_lt 309 dX17_sum_299 (by decide) ?_ ?_
  · refine g_aload_n 0 0 dX17_sum_309 rfl rfl ?_
    refine g_getR fdX17_61 dX17_sum_310 ?_
    refine G.sub [] rfl ?_
    exact gX17_sum_p313 _ _ _ _
  · refine g_aload_n 0 0 dX17_sum_302 rfl rfl ?_
    refine g_getR fdX17_65 dX17_sum_303 ?_
    refine g_goto 313 dX17_sum_306 (by decide) ?_
    refine G.sub [] rfl ?_
    exact gX17_sum_p313 _ _ _ _
def V.Mdl_sum_p207  (σ : HS) (x0 : Nat) (x1 : Int32) (x2 : Int64) (x4 : Int64) : Option (Int64 × HS) :=
  ck (tg σ x0 = 18) <|
  ck (tg σ (gR σ x0 34) = 20) <|
  if (gI σ (gR σ x0 34) 1) = (1 : Int32) then (
    ck (tg σ x0 = 18) <|
    ck (tg σ (gR σ x0 35) = 20) <|
    cl (Mdl_signOf σ x1) fun r2 σ1 =>
    cl (Mdl_withSign σ1 x1 (gI σ (gR σ x0 35) 0) (x4 &&& (r2 ^^^ (-1 : Int64)))) fun r4 σ3 =>
    some (r4, σ3))
  else (
    ck (tg σ x0 = 18) <|
    ck (tg σ (gR σ x0 35) = 20) <|
    if (gI σ (gR σ x0 35) 1) = (1 : Int32) then (
      some (x2, σ))
    else (
      ck (tg σ x0 = 18) <|
      ck (tg σ (gR σ x0 34) = 20) <|
      ck (tg σ x0 = 18) <|
      ck (tg σ (gR σ x0 35) = 20) <|
      if (gI σ (gR σ x0 34) 3) < (gI σ (gR σ x0 35) 3) then (
        ck (tg σ x0 = 18) <|
        Mdl_sum_p285 σ x0 (gR σ x0 35) x1)
      else (
        ck (tg σ x0 = 18) <|
        Mdl_sum_p285 σ x0 (gR σ x0 34) x1)))
theorem V.gX17_sum_p207 {X : CX}  (σ : HS) (x0 : Nat) (x1 : Int32) (x2 : Int64) (x4 : Int64) : G X RX17 "sum" cX17_sum 7 (some .long) 4 113 enJ 207 [(0, av x0), (1, iv x1), (2, jv x2), (4, jv x4)] [] σ (Mdl_sum_p207 σ x0 x1 x2 x4) := by
  unfold Mdl_sum_p207
  refine g_aload_n 0 0 dX17_sum_207 rfl rfl ?_
  refine g_getR fdX17_61 dX17_sum_208 ?_
  refine g_getI fdX17_871 dX17_sum_211 ?_
  refine g_iconst (v := 1) dX17_sum_214 (by decide) ?_
  refine g_icmp_ne 241 dX17_sum_215 (by decide) ?_ ?_
  · refine g_aload_n 0 0 dX17_sum_241 rfl rfl ?_
    refine g_getR fdX17_65 dX17_sum_242 ?_
    refine g_getI fdX17_871 dX17_sum_245 ?_
    refine g_iconst (v := 1) dX17_sum_248 (by decide) ?_
    refine g_icmp_ne 256 dX17_sum_249 (by decide) ?_ ?_
    · refine g_iload_n 1 1 dX17_sum_256 rfl rfl ?_
      refine g_aload_n 0 0 dX17_sum_257 rfl rfl ?_
      refine g_getR fdX17_61 dX17_sum_258 ?_
      refine g_getI fdX17_913 dX17_sum_261 ?_
      refine g_aload_n 0 0 dX17_sum_264 rfl rfl ?_
      refine g_getR fdX17_65 dX17_sum_265 ?_
      refine g_getI fdX17_913 dX17_sum_268 ?_
      refine g_icmp_lt 281 dX17_sum_271 (by decide) ?_ ?_
      · refine g_aload_n 0 0 dX17_sum_281 rfl rfl ?_
        refine g_getR fdX17_65 dX17_sum_282 ?_
        refine G.sub [0] rfl ?_
        exact gX17_sum_p285 _ _ _ _
      · refine g_aload_n 0 0 dX17_sum_274 rfl rfl ?_
        refine g_getR fdX17_61 dX17_sum_275 ?_
        refine g_goto 285 dX17_sum_278 (by decide) ?_
        refine G.sub [0] rfl ?_
        exact gX17_sum_p285 _ _ _ _
    · refine g_lload_n 2 2 dX17_sum_252 rfl rfl ?_
      refine g_goto 316 dX17_sum_253 (by decide) ?_
      exact g_lreturn rfl dX17_sum_316
  · refine g_iload_n 1 1 dX17_sum_218 rfl rfl ?_
    refine g_aload_n 0 0 dX17_sum_219 rfl rfl ?_
    refine g_getR fdX17_65 dX17_sum_220 ?_
    refine g_getI fdX17_921 dX17_sum_223 ?_
    refine g_lload 3 dX17_sum_226 rfl ?_
    refine g_iload_n 1 1 dX17_sum_228 rfl rfl ?_
    refine g_callS (fc := fun sς => Mdl_signOf sς x1) (as := [iv x1]) q4207 mdX17_865 (ctX17_signOf x1) rfl (Nat.le_of_ble_eq_true rfl) (Nat.le_of_ble_eq_true rfl) (Nat.le_of_ble_eq_true rfl) pu_J dX17_sum_229 (fun r2 σ1 => ?_)
    refine g_ldc2 q3673 dX17_sum_232 ?_
    refine g_lxor dX17_sum_235 ?_
    refine g_land dX17_sum_236 ?_
    refine g_callS (fc := fun sς => Mdl_withSign sς x1 (gI σ (gR σ x0 35) 0) (x4 &&& (r2 ^^^ (-1 : Int64)))) (as := [iv x1, iv (gI σ (gR σ x0 35) 0), jv (x4 &&& (r2 ^^^ (-1 : Int64)))]) q4257 mdX17_882 (ctX17_withSign x1 (gI σ (gR σ x0 35) 0) (x4 &&& (r2 ^^^ (-1 : Int64)))) rfl (Nat.le_of_ble_eq_true rfl) (Nat.le_of_ble_eq_true rfl) (Nat.le_of_ble_eq_true rfl) pu_J dX17_sum_237 (fun r4 σ3 => ?_)
    exact g_lreturn rfl dX17_sum_240
def V.Mdl_sum_p202  (σ : HS) (s0 : Int32) (s1 : Int32) : Option (Int64 × HS) :=
  cl (Mdl_withSign σ s1 s0 (0 : Int64)) fun r2 σ1 =>
  some (r2, σ1)
theorem V.gX17_sum_p202 {X : CX}  (σ : HS) (s0 : Int32) (s1 : Int32) : G X RX17 "sum" cX17_sum 7 (some .long) 4 113 enJ 202 [] [iv s0, iv s1] σ (Mdl_sum_p202 σ s0 s1) := by
  unfold Mdl_sum_p202
  refine g_lconst (v := 0) dX17_sum_202 (by decide) ?_
  refine g_callS (fc := fun sς => Mdl_withSign sς s1 s0 (0 : Int64)) (as := [iv s1, iv s0, jv (0 : Int64)]) q4257 mdX17_882 (ctX17_withSign s1 s0 (0 : Int64)) rfl (Nat.le_of_ble_eq_true rfl) (Nat.le_of_ble_eq_true rfl) (Nat.le_of_ble_eq_true rfl) pu_J dX17_sum_203 (fun r2 σ1 => ?_)
  exact g_lreturn rfl dX17_sum_206
def V.Mdl_sum_p201  (σ : HS) (s0 : Int32) : Option (Int64 × HS) :=
  Mdl_sum_p202 σ (0 : Int32) s0
theorem V.gX17_sum_p201 {X : CX}  (σ : HS) (s0 : Int32) : G X RX17 "sum" cX17_sum 7 (some .long) 4 113 enJ 201 [] [iv s0] σ (Mdl_sum_p201 σ s0) := by
  unfold Mdl_sum_p201
  refine g_iconst (v := 0) dX17_sum_201 (by decide) ?_
  exact gX17_sum_p202 _ _ _
def V.Mdl_sum_p114  (σ : HS) (x0 : Nat) (x1 : Int32) (x2 : Int64) (x4 : Int64) : Option (Int64 × HS) :=
  ck (tg σ x0 = 18) <|
  ck (tg σ (gR σ x0 34) = 20) <|
  if (gI σ (gR σ x0 34) 1) = (2 : Int32) then (
    some (x2, σ))
  else (
    ck (tg σ x0 = 18) <|
    ck (tg σ (gR σ x0 35) = 20) <|
    if (gI σ (gR σ x0 35) 1) = (2 : Int32) then (
      ck (tg σ x0 = 18) <|
      ck (tg σ (gR σ x0 35) = 20) <|
      cl (Mdl_infinite σ x1) fun r2 σ1 =>
      cl (Mdl_withSign σ1 x1 (gI σ (gR σ x0 35) 0) r2) fun r4 σ3 =>
      some (r4, σ3))
    else (
      ck (tg σ x0 = 18) <|
      ck (tg σ (gR σ x0 34) = 20) <|
      if (gI σ (gR σ x0 34) 1) = (1 : Int32) then (
        ck (tg σ x0 = 18) <|
        ck (tg σ (gR σ x0 35) = 20) <|
        if (gI σ (gR σ x0 35) 1) = (1 : Int32) then (
          ck (tg σ x0 = 18) <|
          ck (tg σ (gR σ x0 34) = 20) <|
          if (gI σ (gR σ x0 34) 0) = 0 then (
            Mdl_sum_p201 σ x1)
          else (
            ck (tg σ x0 = 18) <|
            ck (tg σ (gR σ x0 35) = 20) <|
            if (gI σ (gR σ x0 35) 0) = 0 then (
              Mdl_sum_p201 σ x1)
            else (
              Mdl_sum_p202 σ (1 : Int32) x1)))
        else (
          Mdl_sum_p207 σ x0 x1 x2 x4))
      else (
        Mdl_sum_p207 σ x0 x1 x2 x4)))
theorem V.gX17_sum_p114 {X : CX}  (σ : HS) (x0 : Nat) (x1 : Int32) (x2 : Int64) (x4 : Int64) : G X RX17 "sum" cX17_sum 7 (some .long) 4 113 enJ 114 [(0, av x0), (1, iv x1), (2, jv x2), (4, jv x4)] [] σ (Mdl_sum_p114 σ x0 x1 x2 x4) := by
  unfold Mdl_sum_p114
  refine g_aload_n 0 0 dX17_sum_114 rfl rfl ?_
  refine g_getR fdX17_61 dX17_sum_115 ?_
  refine g_getI fdX17_871 dX17_sum_118 ?_
  refine g_iconst (v := 2) dX17_sum_121 (by decide) ?_
  refine g_icmp_ne 127 dX17_sum_122 (by decide) ?_ ?_
  · refine g_aload_n 0 0 dX17_sum_127 rfl rfl ?_
    refine g_getR fdX17_65 dX17_sum_128 ?_
    refine g_getI fdX17_871 dX17_sum_131 ?_
    refine g_iconst (v := 2) dX17_sum_134 (by decide) ?_
    refine g_icmp_ne 154 dX17_sum_135 (by decide) ?_ ?_
    · refine g_aload_n 0 0 dX17_sum_154 rfl rfl ?_
      refine g_getR fdX17_61 dX17_sum_155 ?_
      refine g_getI fdX17_871 dX17_sum_158 ?_
      refine g_iconst (v := 1) dX17_sum_161 (by decide) ?_
      refine g_icmp_ne 207 dX17_sum_162 (by decide) ?_ ?_
      · exact gX17_sum_p207 _ _ _ _ _
      · refine g_aload_n 0 0 dX17_sum_165 rfl rfl ?_
        refine g_getR fdX17_65 dX17_sum_166 ?_
        refine g_getI fdX17_871 dX17_sum_169 ?_
        refine g_iconst (v := 1) dX17_sum_172 (by decide) ?_
        refine g_icmp_ne 207 dX17_sum_173 (by decide) ?_ ?_
        · exact gX17_sum_p207 _ _ _ _ _
        · refine g_iload_n 1 1 dX17_sum_176 rfl rfl ?_
          refine g_aload_n 0 0 dX17_sum_177 rfl rfl ?_
          refine g_getR fdX17_61 dX17_sum_178 ?_
          refine g_getI fdX17_921 dX17_sum_181 ?_
          refine g_if_eq 201 dX17_sum_184 (by decide) ?_ ?_
          · refine G.sub [] rfl ?_
            exact gX17_sum_p201 _ _
          · refine g_aload_n 0 0 dX17_sum_187 rfl rfl ?_
            refine g_getR fdX17_65 dX17_sum_188 ?_
            refine g_getI fdX17_921 dX17_sum_191 ?_
            refine g_if_eq 201 dX17_sum_194 (by decide) ?_ ?_
            · refine G.sub [] rfl ?_
              exact gX17_sum_p201 _ _
            · refine g_iconst (v := 1) dX17_sum_197 (by decide) ?_
              refine g_goto 202 dX17_sum_198 (by decide) ?_
              refine G.sub [] rfl ?_
              exact gX17_sum_p202 _ _ _
    · refine g_iload_n 1 1 dX17_sum_138 rfl rfl ?_
      refine g_aload_n 0 0 dX17_sum_139 rfl rfl ?_
      refine g_getR fdX17_65 dX17_sum_140 ?_
      refine g_getI fdX17_921 dX17_sum_143 ?_
      refine g_iload_n 1 1 dX17_sum_146 rfl rfl ?_
      refine g_callS (fc := fun sς => Mdl_infinite sς x1) (as := [iv x1]) q4267 mdX17_888 (ctX17_infinite x1) rfl (Nat.le_of_ble_eq_true rfl) (Nat.le_of_ble_eq_true rfl) (Nat.le_of_ble_eq_true rfl) pu_J dX17_sum_147 (fun r2 σ1 => ?_)
      refine g_callS (fc := fun sς => Mdl_withSign sς x1 (gI σ (gR σ x0 35) 0) r2) (as := [iv x1, iv (gI σ (gR σ x0 35) 0), jv r2]) q4257 mdX17_882 (ctX17_withSign x1 (gI σ (gR σ x0 35) 0) r2) rfl (Nat.le_of_ble_eq_true rfl) (Nat.le_of_ble_eq_true rfl) (Nat.le_of_ble_eq_true rfl) pu_J dX17_sum_150 (fun r4 σ3 => ?_)
      exact g_lreturn rfl dX17_sum_153
  · refine g_lload_n 2 2 dX17_sum_125 rfl rfl ?_
    exact g_lreturn rfl dX17_sum_126
def V.Mdl_sum_p40  (σ : HS) (x0 : Nat) (x1 : Int32) (x2 : Int64) (x4 : Int64) (s0 : Int32) (s1 : Nat) : Option (Int64 × HS) :=
  ck (tg σ s1 = 20 ∧ zb s0) <| bn (sI σ s1 0 s0) fun σ1 =>
  ck (tg σ1 x0 = 18) <|
  ck (tg σ1 (gR σ1 x0 34) = 20) <|
  if (gI σ1 (gR σ1 x0 34) 1) = (3 : Int32) then (
    Mdl_sum_p65 σ1 x1)
  else (
    ck (tg σ1 x0 = 18) <|
    ck (tg σ1 (gR σ1 x0 35) = 20) <|
    if (gI σ1 (gR σ1 x0 35) 1) = (3 : Int32) then (
      Mdl_sum_p65 σ1 x1)
    else (
      ck (tg σ1 x0 = 18) <|
      ck (tg σ1 (gR σ1 x0 34) = 20) <|
      if (gI σ1 (gR σ1 x0 34) 1) = (2 : Int32) then (
        ck (tg σ1 x0 = 18) <|
        ck (tg σ1 (gR σ1 x0 35) = 20) <|
        if (gI σ1 (gR σ1 x0 35) 1) = (2 : Int32) then (
          ck (tg σ1 x0 = 18) <|
          ck (tg σ1 (gR σ1 x0 34) = 20) <|
          ck (tg σ1 x0 = 18) <|
          ck (tg σ1 (gR σ1 x0 35) = 20) <|
          if (gI σ1 (gR σ1 x0 34) 0) = (gI σ1 (gR σ1 x0 35) 0) then (
            Mdl_sum_p114 σ1 x0 x1 x2 x4)
          else (
            cl (Mdl_noneOf σ1 x1) fun r3 σ2 =>
            some (r3, σ2)))
        else (
          Mdl_sum_p114 σ1 x0 x1 x2 x4))
      else (
        Mdl_sum_p114 σ1 x0 x1 x2 x4)))
theorem V.gX17_sum_p40 {X : CX}  (σ : HS) (x0 : Nat) (x1 : Int32) (x2 : Int64) (x4 : Int64) (s0 : Int32) (s1 : Nat) : G X RX17 "sum" cX17_sum 7 (some .long) 4 113 enJ 40 [(0, av x0), (1, iv x1), (2, jv x2), (4, jv x4)] [iv s0, av s1] σ (Mdl_sum_p40 σ x0 x1 x2 x4 s0 s1) := by
  unfold Mdl_sum_p40
  refine g_putZc fpX17_921 dX17_sum_40 (fun σ1 => ?_)
  refine g_aload_n 0 0 dX17_sum_43 rfl rfl ?_
  refine g_getR fdX17_61 dX17_sum_44 ?_
  refine g_getI fdX17_871 dX17_sum_47 ?_
  refine g_iconst (v := 3) dX17_sum_50 (by decide) ?_
  refine g_icmp_eq 65 dX17_sum_51 (by decide) ?_ ?_
  · refine G.sub [1] rfl ?_
    exact gX17_sum_p65 _ _
  · refine g_aload_n 0 0 dX17_sum_54 rfl rfl ?_
    refine g_getR fdX17_65 dX17_sum_55 ?_
    refine g_getI fdX17_871 dX17_sum_58 ?_
    refine g_iconst (v := 3) dX17_sum_61 (by decide) ?_
    refine g_icmp_ne 70 dX17_sum_62 (by decide) ?_ ?_
    · refine g_aload_n 0 0 dX17_sum_70 rfl rfl ?_
      refine g_getR fdX17_61 dX17_sum_71 ?_
      refine g_getI fdX17_871 dX17_sum_74 ?_
      refine g_iconst (v := 2) dX17_sum_77 (by decide) ?_
      refine g_icmp_ne 114 dX17_sum_78 (by decide) ?_ ?_
      · exact gX17_sum_p114 _ _ _ _ _
      · refine g_aload_n 0 0 dX17_sum_81 rfl rfl ?_
        refine g_getR fdX17_65 dX17_sum_82 ?_
        refine g_getI fdX17_871 dX17_sum_85 ?_
        refine g_iconst (v := 2) dX17_sum_88 (by decide) ?_
        refine g_icmp_ne 114 dX17_sum_89 (by decide) ?_ ?_
        · exact gX17_sum_p114 _ _ _ _ _
        · refine g_aload_n 0 0 dX17_sum_92 rfl rfl ?_
          refine g_getR fdX17_61 dX17_sum_93 ?_
          refine g_getI fdX17_921 dX17_sum_96 ?_
          refine g_aload_n 0 0 dX17_sum_99 rfl rfl ?_
          refine g_getR fdX17_65 dX17_sum_100 ?_
          refine g_getI fdX17_921 dX17_sum_103 ?_
          refine g_icmp_eq 114 dX17_sum_106 (by decide) ?_ ?_
          · exact gX17_sum_p114 _ _ _ _ _
          · refine g_iload_n 1 1 dX17_sum_109 rfl rfl ?_
            refine g_callS (fc := fun sς => Mdl_noneOf sς x1) (as := [iv x1]) q4251 mdX17_910 (ctX17_noneOf x1) rfl (Nat.le_of_ble_eq_true rfl) (Nat.le_of_ble_eq_true rfl) (Nat.le_of_ble_eq_true rfl) pu_J dX17_sum_110 (fun r3 σ2 => ?_)
            exact g_lreturn rfl dX17_sum_113
    · refine G.sub [1] rfl ?_
      exact gX17_sum_p65 _ _
def V.Mdl_sum (σ : HS) (x0 : Nat) (x1 : Int32) (x2 : Int64) (x4 : Int64) (x6 : Int32) : Option (Int64 × HS) :=
  ck (tg σ x0 = 18) <|
  ck (tg σ (gR σ x0 34) = 20) <| cl (Rea_read σ (gR σ x0 34) x1 x2) fun _ σ1 =>
  ck (tg σ1 x0 = 18) <|
  ck (tg σ1 (gR σ1 x0 35) = 20) <| cl (Rea_read σ1 (gR σ1 x0 35) x1 x4) fun _ σ2 =>
  ck (tg σ2 x0 = 18) <|
  ck (tg σ2 x0 = 18) <|
  ck (tg σ2 (gR σ2 x0 35) = 20) <|
  if (gI σ2 (gR σ2 x0 35) 0) = x6 then (
    Mdl_sum_p40 σ2 x0 x1 x2 x4 (0 : Int32) (gR σ2 x0 35))
  else (
    Mdl_sum_p40 σ2 x0 x1 x2 x4 (1 : Int32) (gR σ2 x0 35))
theorem V.ctX17_sum (x0 : Nat) (x1 : Int32) (x2 : Int64) (x4 : Int64) (x6 : Int32) : Ct yX17_sum  cX17_sum 7 (some .long) 4 113 eJ [av x0, iv x1, jv x2, jv x4, iv x6] (fun σ => Mdl_sum σ x0 x1 x2 x4 x6) := by
  refine Ct.of (own := RX17) (nm := "sum") (desc := "(IJJZ)J") rfl (by decide) (Nat.le_of_ble_eq_true rfl) (by decide) (fun X σ => ?_)
  show G X RX17 "sum" cX17_sum 7 (some .long) 4 113 enJ 0 [(0, av x0), (1, iv x1), (2, jv x2), (4, jv x4), (6, iv x6)] [] σ (Mdl_sum σ x0 x1 x2 x4 x6)
  unfold Mdl_sum
  refine g_aload_n 0 0 dX17_sum_0 rfl rfl ?_
  refine g_getR fdX17_61 dX17_sum_1 ?_
  refine g_iload_n 1 1 dX17_sum_4 rfl rfl ?_
  refine g_lload_n 2 2 dX17_sum_5 rfl rfl ?_
  refine g_callV (fc := fun sς => Rea_read sς (gR σ x0 34) x1 x2) (ci := 19) (as := [iv x1, jv x2]) rfl rfl rfl q4200 q4201 mdX17_868 (ctX19_read (gR σ x0 34) x1 x2) rfl (Nat.le_of_ble_eq_true rfl) (Nat.le_of_ble_eq_true rfl) (Nat.le_of_ble_eq_true rfl) pu_V dX17_sum_6 (fun _ σ1 => ?_)
  refine g_aload_n 0 0 dX17_sum_9 rfl rfl ?_
  refine g_getR fdX17_65 dX17_sum_10 ?_
  refine g_iload_n 1 1 dX17_sum_13 rfl rfl ?_
  refine g_lload 3 dX17_sum_14 rfl ?_
  refine g_callV (fc := fun sς => Rea_read sς (gR σ1 x0 35) x1 x4) (ci := 19) (as := [iv x1, jv x4]) rfl rfl rfl q4200 q4201 mdX17_868 (ctX19_read (gR σ1 x0 35) x1 x4) rfl (Nat.le_of_ble_eq_true rfl) (Nat.le_of_ble_eq_true rfl) (Nat.le_of_ble_eq_true rfl) pu_V dX17_sum_16 (fun _ σ2 => ?_)
  refine g_aload_n 0 0 dX17_sum_19 rfl rfl ?_
  refine g_getR fdX17_65 dX17_sum_20 ?_
  refine g_aload_n 0 0 dX17_sum_23 rfl rfl ?_
  refine g_getR fdX17_65 dX17_sum_24 ?_
  refine g_getI fdX17_921 dX17_sum_27 ?_
  refine g_iload 4 dX17_sum_30 rfl ?_
  refine g_icmp_eq 39 dX17_sum_32 (by decide) ?_ ?_
  · refine g_iconst (v := 0) dX17_sum_39 (by decide) ?_
    refine G.sub [0, 1, 2, 3] rfl ?_
    exact gX17_sum_p40 _ _ _ _ _ _ _
  · refine g_iconst (v := 1) dX17_sum_35 (by decide) ?_
    refine g_goto 40 dX17_sum_36 (by decide) ?_
    refine G.sub [0, 1, 2, 3] rfl ?_
    exact gX17_sum_p40 _ _ _ _ _ _ _
theorem V.dX17_product_0 : decode cX17_product 0 = .ok (.aload_n 0, 1) := by decide +kernel
theorem V.dX17_product_1 : decode cX17_product 1 = .ok (.getfield 61, 3) := by decide +kernel
theorem V.dX17_product_4 : decode cX17_product 4 = .ok (.iload_n 1, 1) := by decide +kernel
theorem V.dX17_product_5 : decode cX17_product 5 = .ok (.lload_n 2, 1) := by decide +kernel
theorem V.dX17_product_6 : decode cX17_product 6 = .ok (.invokevirtual 868, 3) := by decide +kernel
theorem V.dX17_product_9 : decode cX17_product 9 = .ok (.aload_n 0, 1) := by decide +kernel
theorem V.dX17_product_10 : decode cX17_product 10 = .ok (.getfield 65, 3) := by decide +kernel
theorem V.dX17_product_13 : decode cX17_product 13 = .ok (.iload_n 1, 1) := by decide +kernel
theorem V.dX17_product_14 : decode cX17_product 14 = .ok (.lload 4, 2) := by decide +kernel
theorem V.dX17_product_16 : decode cX17_product 16 = .ok (.invokevirtual 868, 3) := by decide +kernel
theorem V.dX17_product_19 : decode cX17_product 19 = .ok (.aload_n 0, 1) := by decide +kernel
theorem V.dX17_product_20 : decode cX17_product 20 = .ok (.getfield 61, 3) := by decide +kernel
theorem V.dX17_product_23 : decode cX17_product 23 = .ok (.getfield 921, 3) := by decide +kernel
theorem V.dX17_product_26 : decode cX17_product 26 = .ok (.aload_n 0, 1) := by decide +kernel
theorem V.dX17_product_27 : decode cX17_product 27 = .ok (.getfield 65, 3) := by decide +kernel
theorem V.dX17_product_30 : decode cX17_product 30 = .ok (.getfield 921, 3) := by decide +kernel
theorem V.dX17_product_33 : decode cX17_product 33 = .ok (.if_icmp .eq 7, 3) := by decide +kernel
theorem V.dX17_product_36 : decode cX17_product 36 = .ok (.iconst 1, 1) := by decide +kernel
theorem V.dX17_product_37 : decode cX17_product 37 = .ok (.goto 4, 3) := by decide +kernel
theorem V.dX17_product_40 : decode cX17_product 40 = .ok (.iconst 0, 1) := by decide +kernel
theorem V.dX17_product_41 : decode cX17_product 41 = .ok (.istore 6, 2) := by decide +kernel
theorem V.dX17_product_43 : decode cX17_product 43 = .ok (.aload_n 0, 1) := by decide +kernel
theorem V.dX17_product_44 : decode cX17_product 44 = .ok (.getfield 61, 3) := by decide +kernel
theorem V.dX17_product_47 : decode cX17_product 47 = .ok (.getfield 871, 3) := by decide +kernel
theorem V.dX17_product_50 : decode cX17_product 50 = .ok (.iconst 3, 1) := by decide +kernel
theorem V.dX17_product_51 : decode cX17_product 51 = .ok (.if_icmp .eq 33, 3) := by decide +kernel
theorem V.dX17_product_54 : decode cX17_product 54 = .ok (.aload_n 0, 1) := by decide +kernel
theorem V.dX17_product_55 : decode cX17_product 55 = .ok (.getfield 65, 3) := by decide +kernel
theorem V.dX17_product_58 : decode cX17_product 58 = .ok (.getfield 871, 3) := by decide +kernel
theorem V.dX17_product_61 : decode cX17_product 61 = .ok (.iconst 3, 1) := by decide +kernel
theorem V.dX17_product_62 : decode cX17_product 62 = .ok (.if_icmp .eq 22, 3) := by decide +kernel
theorem V.dX17_product_65 : decode cX17_product 65 = .ok (.aload_n 0, 1) := by decide +kernel
theorem V.dX17_product_66 : decode cX17_product 66 = .ok (.getfield 61, 3) := by decide +kernel
theorem V.dX17_product_69 : decode cX17_product 69 = .ok (.getfield 871, 3) := by decide +kernel
theorem V.dX17_product_72 : decode cX17_product 72 = .ok (.aload_n 0, 1) := by decide +kernel
theorem V.dX17_product_73 : decode cX17_product 73 = .ok (.getfield 65, 3) := by decide +kernel
theorem V.dX17_product_76 : decode cX17_product 76 = .ok (.getfield 871, 3) := by decide +kernel
theorem V.dX17_product_79 : decode cX17_product 79 = .ok (.iadd, 1) := by decide +kernel
theorem V.dX17_product_80 : decode cX17_product 80 = .ok (.iconst 3, 1) := by decide +kernel
theorem V.dX17_product_81 : decode cX17_product 81 = .ok (.if_icmp .ne 8, 3) := by decide +kernel
theorem V.dX17_product_84 : decode cX17_product 84 = .ok (.iload_n 1, 1) := by decide +kernel
theorem V.dX17_product_85 : decode cX17_product 85 = .ok (.invokestatic 910, 3) := by decide +kernel
theorem V.dX17_product_88 : decode cX17_product 88 = .ok (.lreturn, 1) := by decide +kernel
theorem V.dX17_product_89 : decode cX17_product 89 = .ok (.aload_n 0, 1) := by decide +kernel
theorem V.dX17_product_90 : decode cX17_product 90 = .ok (.getfield 61, 3) := by decide +kernel
theorem V.dX17_product_93 : decode cX17_product 93 = .ok (.getfield 871, 3) := by decide +kernel
theorem V.dX17_product_96 : decode cX17_product 96 = .ok (.iconst 2, 1) := by decide +kernel
theorem V.dX17_product_97 : decode cX17_product 97 = .ok (.if_icmp .eq 14, 3) := by decide +kernel
theorem V.dX17_product_100 : decode cX17_product 100 = .ok (.aload_n 0, 1) := by decide +kernel
theorem V.dX17_product_101 : decode cX17_product 101 = .ok (.getfield 65, 3) := by decide +kernel
theorem V.dX17_product_104 : decode cX17_product 104 = .ok (.getfield 871, 3) := by decide +kernel
theorem V.dX17_product_107 : decode cX17_product 107 = .ok (.iconst 2, 1) := by decide +kernel
theorem V.dX17_product_108 : decode cX17_product 108 = .ok (.if_icmp .ne 14, 3) := by decide +kernel
theorem V.dX17_product_111 : decode cX17_product 111 = .ok (.iload_n 1, 1) := by decide +kernel
theorem V.dX17_product_112 : decode cX17_product 112 = .ok (.iload 6, 2) := by decide +kernel
theorem V.dX17_product_114 : decode cX17_product 114 = .ok (.iload_n 1, 1) := by decide +kernel
theorem V.dX17_product_115 : decode cX17_product 115 = .ok (.invokestatic 888, 3) := by decide +kernel
theorem V.dX17_product_118 : decode cX17_product 118 = .ok (.invokestatic 882, 3) := by decide +kernel
theorem V.dX17_product_121 : decode cX17_product 121 = .ok (.lreturn, 1) := by decide +kernel
theorem V.dX17_product_122 : decode cX17_product 122 = .ok (.aload_n 0, 1) := by decide +kernel
theorem V.dX17_product_123 : decode cX17_product 123 = .ok (.getfield 61, 3) := by decide +kernel
theorem V.dX17_product_126 : decode cX17_product 126 = .ok (.getfield 871, 3) := by decide +kernel
theorem V.dX17_product_129 : decode cX17_product 129 = .ok (.iconst 1, 1) := by decide +kernel
theorem V.dX17_product_130 : decode cX17_product 130 = .ok (.if_icmp .eq 14, 3) := by decide +kernel
theorem V.dX17_product_133 : decode cX17_product 133 = .ok (.aload_n 0, 1) := by decide +kernel
theorem V.dX17_product_134 : decode cX17_product 134 = .ok (.getfield 65, 3) := by decide +kernel
theorem V.dX17_product_137 : decode cX17_product 137 = .ok (.getfield 871, 3) := by decide +kernel
theorem V.dX17_product_140 : decode cX17_product 140 = .ok (.iconst 1, 1) := by decide +kernel
theorem V.dX17_product_141 : decode cX17_product 141 = .ok (.if_icmp .ne 11, 3) := by decide +kernel
theorem V.dX17_product_144 : decode cX17_product 144 = .ok (.iload_n 1, 1) := by decide +kernel
theorem V.dX17_product_145 : decode cX17_product 145 = .ok (.iload 6, 2) := by decide +kernel
theorem V.dX17_product_147 : decode cX17_product 147 = .ok (.lconst 0, 1) := by decide +kernel
theorem V.dX17_product_148 : decode cX17_product 148 = .ok (.invokestatic 882, 3) := by decide +kernel
theorem V.dX17_product_151 : decode cX17_product 151 = .ok (.lreturn, 1) := by decide +kernel
theorem V.dX17_product_152 : decode cX17_product 152 = .ok (.aload_n 0, 1) := by decide +kernel
theorem V.dX17_product_153 : decode cX17_product 153 = .ok (.getfield 61, 3) := by decide +kernel
theorem V.dX17_product_156 : decode cX17_product 156 = .ok (.getfield 916, 3) := by decide +kernel
theorem V.dX17_product_159 : decode cX17_product 159 = .ok (.bipush 27, 2) := by decide +kernel
theorem V.dX17_product_161 : decode cX17_product 161 = .ok (.lushr, 1) := by decide +kernel
theorem V.dX17_product_162 : decode cX17_product 162 = .ok (.lstore 7, 2) := by decide +kernel
theorem V.dX17_product_164 : decode cX17_product 164 = .ok (.aload_n 0, 1) := by decide +kernel
theorem V.dX17_product_165 : decode cX17_product 165 = .ok (.getfield 61, 3) := by decide +kernel
theorem V.dX17_product_168 : decode cX17_product 168 = .ok (.getfield 916, 3) := by decide +kernel
theorem V.dX17_product_171 : decode cX17_product 171 = .ok (.ldc2_w 936, 3) := by decide +kernel
theorem V.dX17_product_174 : decode cX17_product 174 = .ok (.land, 1) := by decide +kernel
theorem V.dX17_product_175 : decode cX17_product 175 = .ok (.lstore 9, 2) := by decide +kernel
theorem V.dX17_product_177 : decode cX17_product 177 = .ok (.aload_n 0, 1) := by decide +kernel
theorem V.dX17_product_178 : decode cX17_product 178 = .ok (.getfield 65, 3) := by decide +kernel
theorem V.dX17_product_181 : decode cX17_product 181 = .ok (.getfield 916, 3) := by decide +kernel
theorem V.dX17_product_184 : decode cX17_product 184 = .ok (.bipush 27, 2) := by decide +kernel
theorem V.dX17_product_186 : decode cX17_product 186 = .ok (.lushr, 1) := by decide +kernel
theorem V.dX17_product_187 : decode cX17_product 187 = .ok (.lstore 11, 2) := by decide +kernel
theorem V.dX17_product_189 : decode cX17_product 189 = .ok (.aload_n 0, 1) := by decide +kernel
theorem V.dX17_product_190 : decode cX17_product 190 = .ok (.getfield 65, 3) := by decide +kernel
theorem V.dX17_product_193 : decode cX17_product 193 = .ok (.getfield 916, 3) := by decide +kernel
theorem V.dX17_product_196 : decode cX17_product 196 = .ok (.ldc2_w 936, 3) := by decide +kernel
theorem V.dX17_product_199 : decode cX17_product 199 = .ok (.land, 1) := by decide +kernel
theorem V.dX17_product_200 : decode cX17_product 200 = .ok (.lstore 13, 2) := by decide +kernel
theorem V.dX17_product_202 : decode cX17_product 202 = .ok (.lload 7, 2) := by decide +kernel
theorem V.dX17_product_204 : decode cX17_product 204 = .ok (.lload 13, 2) := by decide +kernel
theorem V.dX17_product_206 : decode cX17_product 206 = .ok (.lmul, 1) := by decide +kernel
theorem V.dX17_product_207 : decode cX17_product 207 = .ok (.lload 9, 2) := by decide +kernel
theorem V.dX17_product_209 : decode cX17_product 209 = .ok (.lload 11, 2) := by decide +kernel
theorem V.dX17_product_211 : decode cX17_product 211 = .ok (.lmul, 1) := by decide +kernel
theorem V.dX17_product_212 : decode cX17_product 212 = .ok (.ladd, 1) := by decide +kernel
theorem V.dX17_product_213 : decode cX17_product 213 = .ok (.lstore 15, 2) := by decide +kernel
theorem V.dX17_product_215 : decode cX17_product 215 = .ok (.lload 9, 2) := by decide +kernel
theorem V.dX17_product_217 : decode cX17_product 217 = .ok (.lload 13, 2) := by decide +kernel
theorem V.dX17_product_219 : decode cX17_product 219 = .ok (.lmul, 1) := by decide +kernel
theorem V.dX17_product_220 : decode cX17_product 220 = .ok (.lload 15, 2) := by decide +kernel
theorem V.dX17_product_222 : decode cX17_product 222 = .ok (.bipush 27, 2) := by decide +kernel
theorem V.dX17_product_224 : decode cX17_product 224 = .ok (.lshl, 1) := by decide +kernel
theorem V.dX17_product_225 : decode cX17_product 225 = .ok (.ladd, 1) := by decide +kernel
theorem V.dX17_product_226 : decode cX17_product 226 = .ok (.lstore 17, 2) := by decide +kernel
theorem V.dX17_product_228 : decode cX17_product 228 = .ok (.lload 15, 2) := by decide +kernel
theorem V.dX17_product_230 : decode cX17_product 230 = .ok (.bipush 37, 2) := by decide +kernel
theorem V.dX17_product_232 : decode cX17_product 232 = .ok (.lushr, 1) := by decide +kernel
theorem V.dX17_product_233 : decode cX17_product 233 = .ok (.lstore 19, 2) := by decide +kernel
theorem V.dX17_product_235 : decode cX17_product 235 = .ok (.lload 17, 2) := by decide +kernel
theorem V.dX17_product_237 : decode cX17_product 237 = .ok (.lload 9, 2) := by decide +kernel
theorem V.dX17_product_239 : decode cX17_product 239 = .ok (.lload 13, 2) := by decide +kernel
theorem V.dX17_product_241 : decode cX17_product 241 = .ok (.lmul, 1) := by decide +kernel
theorem V.dX17_product_242 : decode cX17_product 242 = .ok (.invokestatic 827, 3) := by decide +kernel
theorem V.dX17_product_245 : decode cX17_product 245 = .ok (.ifCond .eq 10, 3) := by decide +kernel
theorem V.dX17_product_248 : decode cX17_product 248 = .ok (.lload 19, 2) := by decide +kernel
theorem V.dX17_product_250 : decode cX17_product 250 = .ok (.lconst 1, 1) := by decide +kernel
theorem V.dX17_product_251 : decode cX17_product 251 = .ok (.ladd, 1) := by decide +kernel
theorem V.dX17_product_252 : decode cX17_product 252 = .ok (.goto 5, 3) := by decide +kernel
theorem V.dX17_product_255 : decode cX17_product 255 = .ok (.lload 19, 2) := by decide +kernel
theorem V.dX17_product_257 : decode cX17_product 257 = .ok (.lstore 19, 2) := by decide +kernel
theorem V.dX17_product_259 : decode cX17_product 259 = .ok (.lload 17, 2) := by decide +kernel
theorem V.dX17_product_261 : decode cX17_product 261 = .ok (.lload 7, 2) := by decide +kernel
theorem V.dX17_product_263 : decode cX17_product 263 = .ok (.lload 11, 2) := by decide +kernel
theorem V.dX17_product_265 : decode cX17_product 265 = .ok (.lmul, 1) := by decide +kernel
theorem V.dX17_product_266 : decode cX17_product 266 = .ok (.bipush 54, 2) := by decide +kernel
theorem V.dX17_product_268 : decode cX17_product 268 = .ok (.lshl, 1) := by decide +kernel
theorem V.dX17_product_269 : decode cX17_product 269 = .ok (.ladd, 1) := by decide +kernel
theorem V.dX17_product_270 : decode cX17_product 270 = .ok (.lstore 21, 2) := by decide +kernel
theorem V.dX17_product_272 : decode cX17_product 272 = .ok (.lload 19, 2) := by decide +kernel
theorem V.dX17_product_274 : decode cX17_product 274 = .ok (.lload 7, 2) := by decide +kernel
theorem V.dX17_product_276 : decode cX17_product 276 = .ok (.lload 11, 2) := by decide +kernel
theorem V.dX17_product_278 : decode cX17_product 278 = .ok (.lmul, 1) := by decide +kernel
theorem V.dX17_product_279 : decode cX17_product 279 = .ok (.bipush 10, 2) := by decide +kernel
theorem V.dX17_product_281 : decode cX17_product 281 = .ok (.lushr, 1) := by decide +kernel
theorem V.dX17_product_282 : decode cX17_product 282 = .ok (.ladd, 1) := by decide +kernel
theorem V.dX17_product_283 : decode cX17_product 283 = .ok (.lstore 19, 2) := by decide +kernel
theorem V.dX17_product_285 : decode cX17_product 285 = .ok (.lload 21, 2) := by decide +kernel
theorem V.dX17_product_287 : decode cX17_product 287 = .ok (.lload 17, 2) := by decide +kernel
theorem V.dX17_product_289 : decode cX17_product 289 = .ok (.invokestatic 827, 3) := by decide +kernel
theorem V.dX17_product_292 : decode cX17_product 292 = .ok (.ifCond .eq 10, 3) := by decide +kernel
theorem V.dX17_product_295 : decode cX17_product 295 = .ok (.lload 19, 2) := by decide +kernel
theorem V.dX17_product_297 : decode cX17_product 297 = .ok (.lconst 1, 1) := by decide +kernel
theorem V.dX17_product_298 : decode cX17_product 298 = .ok (.ladd, 1) := by decide +kernel
theorem V.dX17_product_299 : decode cX17_product 299 = .ok (.goto 5, 3) := by decide +kernel
theorem V.dX17_product_302 : decode cX17_product 302 = .ok (.lload 19, 2) := by decide +kernel
theorem V.dX17_product_304 : decode cX17_product 304 = .ok (.lstore 19, 2) := by decide +kernel
theorem V.dX17_product_306 : decode cX17_product 306 = .ok (.iload_n 1, 1) := by decide +kernel
theorem V.dX17_product_307 : decode cX17_product 307 = .ok (.iload 6, 2) := by decide +kernel
theorem V.dX17_product_309 : decode cX17_product 309 = .ok (.lload 19, 2) := by decide +kernel
theorem V.dX17_product_311 : decode cX17_product 311 = .ok (.lload 21, 2) := by decide +kernel
theorem V.dX17_product_313 : decode cX17_product 313 = .ok (.aload_n 0, 1) := by decide +kernel
theorem V.dX17_product_314 : decode cX17_product 314 = .ok (.getfield 61, 3) := by decide +kernel
theorem V.dX17_product_317 : decode cX17_product 317 = .ok (.getfield 913, 3) := by decide +kernel
theorem V.dX17_product_320 : decode cX17_product 320 = .ok (.aload_n 0, 1) := by decide +kernel
theorem V.dX17_product_321 : decode cX17_product 321 = .ok (.getfield 65, 3) := by decide +kernel
theorem V.dX17_product_324 : decode cX17_product 324 = .ok (.getfield 913, 3) := by decide +kernel
theorem V.dX17_product_327 : decode cX17_product 327 = .ok (.iadd, 1) := by decide +kernel
theorem V.dX17_product_328 : decode cX17_product 328 = .ok (.iconst 0, 1) := by decide +kernel
theorem V.dX17_product_329 : decode cX17_product 329 = .ok (.invokestatic 924, 3) := by decide +kernel
theorem V.dX17_product_332 : decode cX17_product 332 = .ok (.lreturn, 1) := by decide +kernel
/-! ModuleEngineModel.product(IJJ)J -/
def V.Mdl_product_p84  (σ : HS) (x1 : Int32) : Option (Int64 × HS) :=
  cl (Mdl_noneOf σ x1) fun r2 σ1 =>
  some (r2, σ1)
theorem V.gX17_product_p84 {X : CX}  (σ : HS) (x1 : Int32) : G X RX17 "product" cX17_product 23 (some .long) 3 81 enJ 84 [(1, iv x1)] [] σ (Mdl_product_p84 σ x1) := by
  unfold Mdl_product_p84
  refine g_iload_n 1 0 dX17_product_84 rfl rfl ?_
  refine g_callS (fc := fun sς => Mdl_noneOf sς x1) (as := [iv x1]) q4251 mdX17_910 (ctX17_noneOf x1) rfl (Nat.le_of_ble_eq_true rfl) (Nat.le_of_ble_eq_true rfl) (Nat.le_of_ble_eq_true rfl) pu_J dX17_product_85 (fun r2 σ1 => ?_)
  exact g_lreturn rfl dX17_product_88
def V.Mdl_product_p111  (σ : HS) (x1 : Int32) (x6 : Int32) : Option (Int64 × HS) :=
  cl (Mdl_infinite σ x1) fun r2 σ1 =>
  cl (Mdl_withSign σ1 x1 x6 r2) fun r4 σ3 =>
  some (r4, σ3)
theorem V.gX17_product_p111 {X : CX}  (σ : HS) (x1 : Int32) (x6 : Int32) : G X RX17 "product" cX17_product 23 (some .long) 3 81 enJ 111 [(1, iv x1), (6, iv x6)] [] σ (Mdl_product_p111 σ x1 x6) := by
  unfold Mdl_product_p111
  refine g_iload_n 1 0 dX17_product_111 rfl rfl ?_
  refine g_iload 1 dX17_product_112 rfl ?_
  refine g_iload_n 1 0 dX17_product_114 rfl rfl ?_
  refine g_callS (fc := fun sς => Mdl_infinite sς x1) (as := [iv x1]) q4267 mdX17_888 (ctX17_infinite x1) rfl (Nat.le_of_ble_eq_true rfl) (Nat.le_of_ble_eq_true rfl) (Nat.le_of_ble_eq_true rfl) pu_J dX17_product_115 (fun r2 σ1 => ?_)
  refine g_callS (fc := fun sς => Mdl_withSign sς x1 x6 r2) (as := [iv x1, iv x6, jv r2]) q4257 mdX17_882 (ctX17_withSign x1 x6 r2) rfl (Nat.le_of_ble_eq_true rfl) (Nat.le_of_ble_eq_true rfl) (Nat.le_of_ble_eq_true rfl) pu_J dX17_product_118 (fun r4 σ3 => ?_)
  exact g_lreturn rfl dX17_product_121
def V.Mdl_product_p144  (σ : HS) (x1 : Int32) (x6 : Int32) : Option (Int64 × HS) :=
  cl (Mdl_withSign σ x1 x6 (0 : Int64)) fun r2 σ1 =>
  some (r2, σ1)
theorem V.gX17_product_p144 {X : CX}  (σ : HS) (x1 : Int32) (x6 : Int32) : G X RX17 "product" cX17_product 23 (some .long) 3 81 enJ 144 [(1, iv x1), (6, iv x6)] [] σ (Mdl_product_p144 σ x1 x6) := by
  unfold Mdl_product_p144
  refine g_iload_n 1 0 dX17_product_144 rfl rfl ?_
  refine g_iload 1 dX17_product_145 rfl ?_
  refine g_lconst (v := 0) dX17_product_147 (by decide) ?_
  refine g_callS (fc := fun sς => Mdl_withSign sς x1 x6 (0 : Int64)) (as := [iv x1, iv x6, jv (0 : Int64)]) q4257 mdX17_882 (ctX17_withSign x1 x6 (0 : Int64)) rfl (Nat.le_of_ble_eq_true rfl) (Nat.le_of_ble_eq_true rfl) (Nat.le_of_ble_eq_true rfl) pu_J dX17_product_148 (fun r2 σ1 => ?_)
  exact g_lreturn rfl dX17_product_151
def V.Mdl_product_p304  (σ : HS) (x0 : Nat) (x1 : Int32) (x6 : Int32) (x21 : Int64) (s0 : Int64) : Option (Int64 × HS) :=
  ck (tg σ x0 = 18) <|
  ck (tg σ (gR σ x0 34) = 20) <|
  ck (tg σ x0 = 18) <|
  ck (tg σ (gR σ x0 35) = 20) <|
  cl (Mdl_rounded σ x1 x6 s0 x21 ((gI σ (gR σ x0 34) 3) + (gI σ (gR σ x0 35) 3)) (0 : Int32)) fun r2 σ1 =>
  some (r2, σ1)
theorem V.gX17_product_p304 {X : CX}  (σ : HS) (x0 : Nat) (x1 : Int32) (x6 : Int32) (x21 : Int64) (s0 : Int64) : G X RX17 "product" cX17_product 23 (some .long) 3 81 enJ 304 [(0, av x0), (1, iv x1), (6, iv x6), (21, jv x21)] [jv s0] σ (Mdl_product_p304 σ x0 x1 x6 x21 s0) := by
  unfold Mdl_product_p304
  refine g_lstore dX17_product_304 (by decide) rfl ?_
  refine g_iload_n 1 2 dX17_product_306 rfl rfl ?_
  refine g_iload 3 dX17_product_307 rfl ?_
  refine g_lload 0 dX17_product_309 rfl ?_
  refine g_lload 4 dX17_product_311 rfl ?_
  refine g_aload_n 0 1 dX17_product_313 rfl rfl ?_
  refine g_getR fdX17_61 dX17_product_314 ?_
  refine g_getI fdX17_913 dX17_product_317 ?_
  refine g_aload_n 0 1 dX17_product_320 rfl rfl ?_
  refine g_getR fdX17_65 dX17_product_321 ?_
  refine g_getI fdX17_913 dX17_product_324 ?_
  refine g_iadd dX17_product_327 ?_
  refine g_iconst (v := 0) dX17_product_328 (by decide) ?_
  refine g_callS (fc := fun sς => Mdl_rounded sς x1 x6 s0 x21 ((gI σ (gR σ x0 34) 3) + (gI σ (gR σ x0 35) 3)) (0 : Int32)) (as := [iv x1, iv x6, jv s0, jv x21, iv ((gI σ (gR σ x0 34) 3) + (gI σ (gR σ x0 35) 3)), iv (0 : Int32)]) q4260 mdX17_924 (ctX17_rounded x1 x6 s0 x21 ((gI σ (gR σ x0 34) 3) + (gI σ (gR σ x0 35) 3)) (0 : Int32)) rfl (Nat.le_of_ble_eq_true rfl) (Nat.le_of_ble_eq_true rfl) (Nat.le_of_ble_eq_true rfl) pu_J dX17_product_329 (fun r2 σ1 => ?_)
  exact g_lreturn rfl dX17_product_332
def V.Mdl_product_p257  (σ : HS) (x0 : Nat) (x1 : Int32) (x6 : Int32) (x7 : Int64) (x11 : Int64) (x17 : Int64) (s0 : Int64) : Option (Int64 × HS) :=
  bn (x17 + (lshl (x7 * x11) (54 : Int32))) fun y1 =>
  bn (s0 + (lushr (x7 * x11) (10 : Int32))) fun y2 =>
  cl (Mdl_isBelow σ y1 x17) fun r4 σ3 =>
  if r4 = 0 then (
    Mdl_product_p304 σ3 x0 x1 x6 y1 y2)
  else (
    Mdl_product_p304 σ3 x0 x1 x6 y1 (y2 + (1 : Int64)))
theorem V.gX17_product_p257 {X : CX}  (σ : HS) (x0 : Nat) (x1 : Int32) (x6 : Int32) (x7 : Int64) (x11 : Int64) (x17 : Int64) (s0 : Int64) : G X RX17 "product" cX17_product 23 (some .long) 3 81 enJ 257 [(0, av x0), (1, iv x1), (6, iv x6), (7, jv x7), (11, jv x11), (17, jv x17)] [jv s0] σ (Mdl_product_p257 σ x0 x1 x6 x7 x11 x17 s0) := by
  unfold Mdl_product_p257
  refine g_lstore dX17_product_257 (by decide) rfl ?_
  refine g_lload 6 dX17_product_259 rfl ?_
  refine g_lload 4 dX17_product_261 rfl ?_
  refine g_lload 5 dX17_product_263 rfl ?_
  refine g_lmul dX17_product_265 ?_
  refine g_bipush (v := 54) dX17_product_266 (by decide) ?_
  refine g_lshl dX17_product_268 ?_
  refine g_ladd dX17_product_269 ?_
  refine g_nmJ (fun y1 => ?_)
  refine g_lstore dX17_product_270 (by decide) rfl ?_
  refine g_lload 1 dX17_product_272 rfl ?_
  refine g_lload 5 dX17_product_274 rfl ?_
  refine g_lload 6 dX17_product_276 rfl ?_
  refine g_lmul dX17_product_278 ?_
  refine g_bipush (v := 10) dX17_product_279 (by decide) ?_
  refine g_lushr dX17_product_281 ?_
  refine g_ladd dX17_product_282 ?_
  refine g_nmJ (fun y2 => ?_)
  refine g_lstore dX17_product_283 (by decide) rfl ?_
  refine g_lload 1 dX17_product_285 rfl ?_
  refine g_lload 7 dX17_product_287 rfl ?_
  refine g_callS (fc := fun sς => Mdl_isBelow sς y1 x17) (as := [jv y1, jv x17]) q4192 mdX17_827 (ctX17_isBelow y1 x17) rfl (Nat.le_of_ble_eq_true rfl) (Nat.le_of_ble_eq_true rfl) (Nat.le_of_ble_eq_true rfl) pu_I dX17_product_289 (fun r4 σ3 => ?_)
  refine g_if_eq 302 dX17_product_292 (by decide) ?_ ?_
  · refine g_lload 0 dX17_product_302 rfl ?_
    refine G.sub [2, 3, 4, 1] rfl ?_
    exact gX17_product_p304 _ _ _ _ _ _
  · refine g_lload 0 dX17_product_295 rfl ?_
    refine g_lconst (v := 1) dX17_product_297 (by decide) ?_
    refine g_ladd dX17_product_298 ?_
    refine g_goto 304 dX17_product_299 (by decide) ?_
    refine G.sub [2, 3, 4, 1] rfl ?_
    exact gX17_product_p304 _ _ _ _ _ _
def V.Mdl_product_p41  (σ : HS) (x0 : Nat) (x1 : Int32) (s0 : Int32) : Option (Int64 × HS) :=
  ck (tg σ x0 = 18) <|
  ck (tg σ (gR σ x0 34) = 20) <|
  if (gI σ (gR σ x0 34) 1) = (3 : Int32) then (
    Mdl_product_p84 σ x1)
  else (
    ck (tg σ x0 = 18) <|
    ck (tg σ (gR σ x0 35) = 20) <|
    if (gI σ (gR σ x0 35) 1) = (3 : Int32) then (
      Mdl_product_p84 σ x1)
    else (
      ck (tg σ x0 = 18) <|
      ck (tg σ (gR σ x0 34) = 20) <|
      ck (tg σ x0 = 18) <|
      ck (tg σ (gR σ x0 35) = 20) <|
      if ((gI σ (gR σ x0 34) 1) + (gI σ (gR σ x0 35) 1)) = (3 : Int32) then (
        Mdl_product_p84 σ x1)
      else (
        ck (tg σ x0 = 18) <|
        ck (tg σ (gR σ x0 34) = 20) <|
        if (gI σ (gR σ x0 34) 1) = (2 : Int32) then (
          Mdl_product_p111 σ x1 s0)
        else (
          ck (tg σ x0 = 18) <|
          ck (tg σ (gR σ x0 35) = 20) <|
          if (gI σ (gR σ x0 35) 1) = (2 : Int32) then (
            Mdl_product_p111 σ x1 s0)
          else (
            ck (tg σ x0 = 18) <|
            ck (tg σ (gR σ x0 34) = 20) <|
            if (gI σ (gR σ x0 34) 1) = (1 : Int32) then (
              Mdl_product_p144 σ x1 s0)
            else (
              ck (tg σ x0 = 18) <|
              ck (tg σ (gR σ x0 35) = 20) <|
              if (gI σ (gR σ x0 35) 1) = (1 : Int32) then (
                Mdl_product_p144 σ x1 s0)
              else (
                ck (tg σ x0 = 18) <|
                ck (tg σ (gR σ x0 34) = 20) <|
                bn (lushr (gJ σ (gR σ x0 34) 2) (27 : Int32)) fun y1 =>
                ck (tg σ x0 = 18) <|
                ck (tg σ (gR σ x0 34) = 20) <|
                bn ((gJ σ (gR σ x0 34) 2) &&& (134217727 : Int64)) fun y2 =>
                ck (tg σ x0 = 18) <|
                ck (tg σ (gR σ x0 35) = 20) <|
                bn (lushr (gJ σ (gR σ x0 35) 2) (27 : Int32)) fun y3 =>
                ck (tg σ x0 = 18) <|
                ck (tg σ (gR σ x0 35) = 20) <|
                bn ((gJ σ (gR σ x0 35) 2) &&& (134217727 : Int64)) fun y4 =>
                bn ((y1 * y4) + (y2 * y3)) fun y5 =>
                bn ((y2 * y4) + (lshl y5 (27 : Int32))) fun y6 =>
                bn (lushr y5 (37 : Int32)) fun y7 =>
                cl (Mdl_isBelow σ y6 (y2 * y4)) fun r9 σ8 =>
                if r9 = 0 then (
                  Mdl_product_p257 σ8 x0 x1 s0 y1 y3 y6 y7)
                else (
                  Mdl_product_p257 σ8 x0 x1 s0 y1 y3 y6 (y7 + (1 : Int64))))))))))
theorem V.gX17_product_p41 {X : CX}  (σ : HS) (x0 : Nat) (x1 : Int32) (s0 : Int32) : G X RX17 "product" cX17_product 23 (some .long) 3 81 enJ 41 [(0, av x0), (1, iv x1)] [iv s0] σ (Mdl_product_p41 σ x0 x1 s0) := by
  unfold Mdl_product_p41
  refine g_istore dX17_product_41 (by decide) rfl ?_
  refine g_aload_n 0 1 dX17_product_43 rfl rfl ?_
  refine g_getR fdX17_61 dX17_product_44 ?_
  refine g_getI fdX17_871 dX17_product_47 ?_
  refine g_iconst (v := 3) dX17_product_50 (by decide) ?_
  refine g_icmp_eq 84 dX17_product_51 (by decide) ?_ ?_
  · refine G.sub [2] rfl ?_
    exact gX17_product_p84 _ _
  · refine g_aload_n 0 1 dX17_product_54 rfl rfl ?_
    refine g_getR fdX17_65 dX17_product_55 ?_
    refine g_getI fdX17_871 dX17_product_58 ?_
    refine g_iconst (v := 3) dX17_product_61 (by decide) ?_
    refine g_icmp_eq 84 dX17_product_62 (by decide) ?_ ?_
    · refine G.sub [2] rfl ?_
      exact gX17_product_p84 _ _
    · refine g_aload_n 0 1 dX17_product_65 rfl rfl ?_
      refine g_getR fdX17_61 dX17_product_66 ?_
      refine g_getI fdX17_871 dX17_product_69 ?_
      refine g_aload_n 0 1 dX17_product_72 rfl rfl ?_
      refine g_getR fdX17_65 dX17_product_73 ?_
      refine g_getI fdX17_871 dX17_product_76 ?_
      refine g_iadd dX17_product_79 ?_
      refine g_iconst (v := 3) dX17_product_80 (by decide) ?_
      refine g_icmp_ne 89 dX17_product_81 (by decide) ?_ ?_
      · refine g_aload_n 0 1 dX17_product_89 rfl rfl ?_
        refine g_getR fdX17_61 dX17_product_90 ?_
        refine g_getI fdX17_871 dX17_product_93 ?_
        refine g_iconst (v := 2) dX17_product_96 (by decide) ?_
        refine g_icmp_eq 111 dX17_product_97 (by decide) ?_ ?_
        · refine G.sub [2, 0] rfl ?_
          exact gX17_product_p111 _ _ _
        · refine g_aload_n 0 1 dX17_product_100 rfl rfl ?_
          refine g_getR fdX17_65 dX17_product_101 ?_
          refine g_getI fdX17_871 dX17_product_104 ?_
          refine g_iconst (v := 2) dX17_product_107 (by decide) ?_
          refine g_icmp_ne 122 dX17_product_108 (by decide) ?_ ?_
          · refine g_aload_n 0 1 dX17_product_122 rfl rfl ?_
            refine g_getR fdX17_61 dX17_product_123 ?_
            refine g_getI fdX17_871 dX17_product_126 ?_
            refine g_iconst (v := 1) dX17_product_129 (by decide) ?_
            refine g_icmp_eq 144 dX17_product_130 (by decide) ?_ ?_
            · refine G.sub [2, 0] rfl ?_
              exact gX17_product_p144 _ _ _
            · refine g_aload_n 0 1 dX17_product_133 rfl rfl ?_
              refine g_getR fdX17_65 dX17_product_134 ?_
              refine g_getI fdX17_871 dX17_product_137 ?_
              refine g_iconst (v := 1) dX17_product_140 (by decide) ?_
              refine g_icmp_ne 152 dX17_product_141 (by decide) ?_ ?_
              · refine g_aload_n 0 1 dX17_product_152 rfl rfl ?_
                refine g_getR fdX17_61 dX17_product_153 ?_
                refine g_getJ fdX17_916 dX17_product_156 ?_
                refine g_bipush (v := 27) dX17_product_159 (by decide) ?_
                refine g_lushr dX17_product_161 ?_
                refine g_nmJ (fun y1 => ?_)
                refine g_lstore dX17_product_162 (by decide) rfl ?_
                refine g_aload_n 0 2 dX17_product_164 rfl rfl ?_
                refine g_getR fdX17_61 dX17_product_165 ?_
                refine g_getJ fdX17_916 dX17_product_168 ?_
                refine g_ldc2 q4288 dX17_product_171 ?_
                refine g_land dX17_product_174 ?_
                refine g_nmJ (fun y2 => ?_)
                refine g_lstore dX17_product_175 (by decide) rfl ?_
                refine g_aload_n 0 3 dX17_product_177 rfl rfl ?_
                refine g_getR fdX17_65 dX17_product_178 ?_
                refine g_getJ fdX17_916 dX17_product_181 ?_
                refine g_bipush (v := 27) dX17_product_184 (by decide) ?_
                refine g_lushr dX17_product_186 ?_
                refine g_nmJ (fun y3 => ?_)
                refine g_lstore dX17_product_187 (by decide) rfl ?_
                refine g_aload_n 0 4 dX17_product_189 rfl rfl ?_
                refine g_getR fdX17_65 dX17_product_190 ?_
                refine g_getJ fdX17_916 dX17_product_193 ?_
                refine g_ldc2 q4288 dX17_product_196 ?_
                refine g_land dX17_product_199 ?_
                refine g_nmJ (fun y4 => ?_)
                refine g_lstore dX17_product_200 (by decide) rfl ?_
                refine g_lload 3 dX17_product_202 rfl ?_
                refine g_lload 0 dX17_product_204 rfl ?_
                refine g_lmul dX17_product_206 ?_
                refine g_lload 2 dX17_product_207 rfl ?_
                refine g_lload 1 dX17_product_209 rfl ?_
                refine g_lmul dX17_product_211 ?_
                refine g_ladd dX17_product_212 ?_
                refine g_nmJ (fun y5 => ?_)
                refine g_lstore dX17_product_213 (by decide) rfl ?_
                refine g_lload 3 dX17_product_215 rfl ?_
                refine g_lload 1 dX17_product_217 rfl ?_
                refine g_lmul dX17_product_219 ?_
                refine g_lload 0 dX17_product_220 rfl ?_
                refine g_bipush (v := 27) dX17_product_222 (by decide) ?_
                refine g_lshl dX17_product_224 ?_
                refine g_ladd dX17_product_225 ?_
                refine g_nmJ (fun y6 => ?_)
                refine g_lstore dX17_product_226 (by decide) rfl ?_
                refine g_lload 1 dX17_product_228 rfl ?_
                refine g_bipush (v := 37) dX17_product_230 (by decide) ?_
                refine g_lushr dX17_product_232 ?_
                refine g_nmJ (fun y7 => ?_)
                refine g_lstore dX17_product_233 (by decide) rfl ?_
                refine g_lload 1 dX17_product_235 rfl ?_
                refine g_lload 5 dX17_product_237 rfl ?_
                refine g_lload 3 dX17_product_239 rfl ?_
                refine g_lmul dX17_product_241 ?_
                refine g_callS (fc := fun sς => Mdl_isBelow sς y6 (y2 * y4)) (as := [jv y6, jv (y2 * y4)]) q4192 mdX17_827 (ctX17_isBelow y6 (y2 * y4)) rfl (Nat.le_of_ble_eq_true rfl) (Nat.le_of_ble_eq_true rfl) (Nat.le_of_ble_eq_true rfl) pu_I dX17_product_242 (fun r9 σ8 => ?_)
                refine g_if_eq 255 dX17_product_245 (by decide) ?_ ?_
                · refine g_lload 0 dX17_product_255 rfl ?_
                  refine G.sub [8, 9, 7, 6, 4, 1] rfl ?_
                  exact gX17_product_p257 _ _ _ _ _ _ _ _
                · refine g_lload 0 dX17_product_248 rfl ?_
                  refine g_lconst (v := 1) dX17_product_250 (by decide) ?_
                  refine g_ladd dX17_product_251 ?_
                  refine g_goto 257 dX17_product_252 (by decide) ?_
                  refine G.sub [8, 9, 7, 6, 4, 1] rfl ?_
                  exact gX17_product_p257 _ _ _ _ _ _ _ _
              · refine G.sub [2, 0] rfl ?_
                exact gX17_product_p144 _ _ _
          · refine G.sub [2, 0] rfl ?_
            exact gX17_product_p111 _ _ _
      · refine G.sub [2] rfl ?_
        exact gX17_product_p84 _ _
def V.Mdl_product (σ : HS) (x0 : Nat) (x1 : Int32) (x2 : Int64) (x4 : Int64) : Option (Int64 × HS) :=
  ck (tg σ x0 = 18) <|
  ck (tg σ (gR σ x0 34) = 20) <| cl (Rea_read σ (gR σ x0 34) x1 x2) fun _ σ1 =>
  ck (tg σ1 x0 = 18) <|
  ck (tg σ1 (gR σ1 x0 35) = 20) <| cl (Rea_read σ1 (gR σ1 x0 35) x1 x4) fun _ σ2 =>
  ck (tg σ2 x0 = 18) <|
  ck (tg σ2 (gR σ2 x0 34) = 20) <|
  ck (tg σ2 x0 = 18) <|
  ck (tg σ2 (gR σ2 x0 35) = 20) <|
  if (gI σ2 (gR σ2 x0 34) 0) = (gI σ2 (gR σ2 x0 35) 0) then (
    Mdl_product_p41 σ2 x0 x1 (0 : Int32))
  else (
    Mdl_product_p41 σ2 x0 x1 (1 : Int32))
theorem V.ctX17_product (x0 : Nat) (x1 : Int32) (x2 : Int64) (x4 : Int64) : Ct yX17_product  cX17_product 23 (some .long) 3 81 eJ [av x0, iv x1, jv x2, jv x4] (fun σ => Mdl_product σ x0 x1 x2 x4) := by
  refine Ct.of (own := RX17) (nm := "product") (desc := "(IJJ)J") rfl (by decide) (Nat.le_of_ble_eq_true rfl) (by decide) (fun X σ => ?_)
  show G X RX17 "product" cX17_product 23 (some .long) 3 81 enJ 0 [(0, av x0), (1, iv x1), (2, jv x2), (4, jv x4)] [] σ (Mdl_product σ x0 x1 x2 x4)
  unfold Mdl_product
  refine g_aload_n 0 0 dX17_product_0 rfl rfl ?_
  refine g_getR fdX17_61 dX17_product_1 ?_
  refine g_iload_n 1 1 dX17_product_4 rfl rfl ?_
  refine g_lload_n 2 2 dX17_product_5 rfl rfl ?_
  refine g_callV (fc := fun sς => Rea_read sς (gR σ x0 34) x1 x2) (ci := 19) (as := [iv x1, jv x2]) rfl rfl rfl q4200 q4201 mdX17_868 (ctX19_read (gR σ x0 34) x1 x2) rfl (Nat.le_of_ble_eq_true rfl) (Nat.le_of_ble_eq_true rfl) (Nat.le_of_ble_eq_true rfl) pu_V dX17_product_6 (fun _ σ1 => ?_)
  refine g_aload_n 0 0 dX17_product_9 rfl rfl ?_
  refine g_getR fdX17_65 dX17_product_10 ?_
  refine g_iload_n 1 1 dX17_product_13 rfl rfl ?_
  refine g_lload 3 dX17_product_14 rfl ?_
  refine g_callV (fc := fun sς => Rea_read sς (gR σ1 x0 35) x1 x4) (ci := 19) (as := [iv x1, jv x4]) rfl rfl rfl q4200 q4201 mdX17_868 (ctX19_read (gR σ1 x0 35) x1 x4) rfl (Nat.le_of_ble_eq_true rfl) (Nat.le_of_ble_eq_true rfl) (Nat.le_of_ble_eq_true rfl) pu_V dX17_product_16 (fun _ σ2 => ?_)
  refine g_aload_n 0 0 dX17_product_19 rfl rfl ?_
  refine g_getR fdX17_61 dX17_product_20 ?_
  refine g_getI fdX17_921 dX17_product_23 ?_
  refine g_aload_n 0 0 dX17_product_26 rfl rfl ?_
  refine g_getR fdX17_65 dX17_product_27 ?_
  refine g_getI fdX17_921 dX17_product_30 ?_
  refine g_icmp_eq 40 dX17_product_33 (by decide) ?_ ?_
  · refine g_iconst (v := 0) dX17_product_40 (by decide) ?_
    refine G.sub [0, 1] rfl ?_
    exact gX17_product_p41 _ _ _ _
  · refine g_iconst (v := 1) dX17_product_36 (by decide) ?_
    refine g_goto 41 dX17_product_37 (by decide) ?_
    refine G.sub [0, 1] rfl ?_
    exact gX17_product_p41 _ _ _ _
theorem V.dX17_quotient_0 : decode cX17_quotient 0 = .ok (.aload_n 0, 1) := by decide +kernel
theorem V.dX17_quotient_1 : decode cX17_quotient 1 = .ok (.getfield 61, 3) := by decide +kernel
theorem V.dX17_quotient_4 : decode cX17_quotient 4 = .ok (.iload_n 1, 1) := by decide +kernel
theorem V.dX17_quotient_5 : decode cX17_quotient 5 = .ok (.lload_n 2, 1) := by decide +kernel
theorem V.dX17_quotient_6 : decode cX17_quotient 6 = .ok (.invokevirtual 868, 3) := by decide +kernel
theorem V.dX17_quotient_9 : decode cX17_quotient 9 = .ok (.aload_n 0, 1) := by decide +kernel
theorem V.dX17_quotient_10 : decode cX17_quotient 10 = .ok (.getfield 65, 3) := by decide +kernel
theorem V.dX17_quotient_13 : decode cX17_quotient 13 = .ok (.iload_n 1, 1) := by decide +kernel
theorem V.dX17_quotient_14 : decode cX17_quotient 14 = .ok (.lload 4, 2) := by decide +kernel
theorem V.dX17_quotient_16 : decode cX17_quotient 16 = .ok (.invokevirtual 868, 3) := by decide +kernel
theorem V.dX17_quotient_19 : decode cX17_quotient 19 = .ok (.aload_n 0, 1) := by decide +kernel
theorem V.dX17_quotient_20 : decode cX17_quotient 20 = .ok (.getfield 61, 3) := by decide +kernel
theorem V.dX17_quotient_23 : decode cX17_quotient 23 = .ok (.getfield 921, 3) := by decide +kernel
theorem V.dX17_quotient_26 : decode cX17_quotient 26 = .ok (.aload_n 0, 1) := by decide +kernel
theorem V.dX17_quotient_27 : decode cX17_quotient 27 = .ok (.getfield 65, 3) := by decide +kernel
theorem V.dX17_quotient_30 : decode cX17_quotient 30 = .ok (.getfield 921, 3) := by decide +kernel
theorem V.dX17_quotient_33 : decode cX17_quotient 33 = .ok (.if_icmp .eq 7, 3) := by decide +kernel
theorem V.dX17_quotient_36 : decode cX17_quotient 36 = .ok (.iconst 1, 1) := by decide +kernel
theorem V.dX17_quotient_37 : decode cX17_quotient 37 = .ok (.goto 4, 3) := by decide +kernel
theorem V.dX17_quotient_40 : decode cX17_quotient 40 = .ok (.iconst 0, 1) := by decide +kernel
theorem V.dX17_quotient_41 : decode cX17_quotient 41 = .ok (.istore 6, 2) := by decide +kernel
theorem V.dX17_quotient_43 : decode cX17_quotient 43 = .ok (.aload_n 0, 1) := by decide +kernel
theorem V.dX17_quotient_44 : decode cX17_quotient 44 = .ok (.getfield 61, 3) := by decide +kernel
theorem V.dX17_quotient_47 : decode cX17_quotient 47 = .ok (.getfield 871, 3) := by decide +kernel
theorem V.dX17_quotient_50 : decode cX17_quotient 50 = .ok (.iconst 3, 1) := by decide +kernel
theorem V.dX17_quotient_51 : decode cX17_quotient 51 = .ok (.if_icmp .eq 41, 3) := by decide +kernel
theorem V.dX17_quotient_54 : decode cX17_quotient 54 = .ok (.aload_n 0, 1) := by decide +kernel
theorem V.dX17_quotient_55 : decode cX17_quotient 55 = .ok (.getfield 65, 3) := by decide +kernel
theorem V.dX17_quotient_58 : decode cX17_quotient 58 = .ok (.getfield 871, 3) := by decide +kernel
theorem V.dX17_quotient_61 : decode cX17_quotient 61 = .ok (.iconst 3, 1) := by decide +kernel
theorem V.dX17_quotient_62 : decode cX17_quotient 62 = .ok (.if_icmp .eq 30, 3) := by decide +kernel
theorem V.dX17_quotient_65 : decode cX17_quotient 65 = .ok (.aload_n 0, 1) := by decide +kernel
theorem V.dX17_quotient_66 : decode cX17_quotient 66 = .ok (.getfield 61, 3) := by decide +kernel
theorem V.dX17_quotient_69 : decode cX17_quotient 69 = .ok (.getfield 871, 3) := by decide +kernel
theorem V.dX17_quotient_72 : decode cX17_quotient 72 = .ok (.aload_n 0, 1) := by decide +kernel
theorem V.dX17_quotient_73 : decode cX17_quotient 73 = .ok (.getfield 65, 3) := by decide +kernel
theorem V.dX17_quotient_76 : decode cX17_quotient 76 = .ok (.getfield 871, 3) := by decide +kernel
theorem V.dX17_quotient_79 : decode cX17_quotient 79 = .ok (.if_icmp .ne 18, 3) := by decide +kernel
theorem V.dX17_quotient_82 : decode cX17_quotient 82 = .ok (.aload_n 0, 1) := by decide +kernel
theorem V.dX17_quotient_83 : decode cX17_quotient 83 = .ok (.getfield 61, 3) := by decide +kernel
theorem V.dX17_quotient_86 : decode cX17_quotient 86 = .ok (.getfield 871, 3) := by decide +kernel
theorem V.dX17_quotient_89 : decode cX17_quotient 89 = .ok (.ifCond .le 8, 3) := by decide +kernel
theorem V.dX17_quotient_92 : decode cX17_quotient 92 = .ok (.iload_n 1, 1) := by decide +kernel
theorem V.dX17_quotient_93 : decode cX17_quotient 93 = .ok (.invokestatic 910, 3) := by decide +kernel
theorem V.dX17_quotient_96 : decode cX17_quotient 96 = .ok (.lreturn, 1) := by decide +kernel
theorem V.dX17_quotient_97 : decode cX17_quotient 97 = .ok (.aload_n 0, 1) := by decide +kernel
theorem V.dX17_quotient_98 : decode cX17_quotient 98 = .ok (.getfield 61, 3) := by decide +kernel
theorem V.dX17_quotient_101 : decode cX17_quotient 101 = .ok (.getfield 871, 3) := by decide +kernel
theorem V.dX17_quotient_104 : decode cX17_quotient 104 = .ok (.iconst 2, 1) := by decide +kernel
theorem V.dX17_quotient_105 : decode cX17_quotient 105 = .ok (.if_icmp .eq 14, 3) := by decide +kernel
theorem V.dX17_quotient_108 : decode cX17_quotient 108 = .ok (.aload_n 0, 1) := by decide +kernel
theorem V.dX17_quotient_109 : decode cX17_quotient 109 = .ok (.getfield 65, 3) := by decide +kernel
theorem V.dX17_quotient_112 : decode cX17_quotient 112 = .ok (.getfield 871, 3) := by decide +kernel
theorem V.dX17_quotient_115 : decode cX17_quotient 115 = .ok (.iconst 1, 1) := by decide +kernel
theorem V.dX17_quotient_116 : decode cX17_quotient 116 = .ok (.if_icmp .ne 14, 3) := by decide +kernel
theorem V.dX17_quotient_119 : decode cX17_quotient 119 = .ok (.iload_n 1, 1) := by decide +kernel
theorem V.dX17_quotient_120 : decode cX17_quotient 120 = .ok (.iload 6, 2) := by decide +kernel
theorem V.dX17_quotient_122 : decode cX17_quotient 122 = .ok (.iload_n 1, 1) := by decide +kernel
theorem V.dX17_quotient_123 : decode cX17_quotient 123 = .ok (.invokestatic 888, 3) := by decide +kernel
theorem V.dX17_quotient_126 : decode cX17_quotient 126 = .ok (.invokestatic 882, 3) := by decide +kernel
theorem V.dX17_quotient_129 : decode cX17_quotient 129 = .ok (.lreturn, 1) := by decide +kernel
theorem V.dX17_quotient_130 : decode cX17_quotient 130 = .ok (.aload_n 0, 1) := by decide +kernel
theorem V.dX17_quotient_131 : decode cX17_quotient 131 = .ok (.getfield 61, 3) := by decide +kernel
theorem V.dX17_quotient_134 : decode cX17_quotient 134 = .ok (.getfield 871, 3) := by decide +kernel
theorem V.dX17_quotient_137 : decode cX17_quotient 137 = .ok (.iconst 1, 1) := by decide +kernel
theorem V.dX17_quotient_138 : decode cX17_quotient 138 = .ok (.if_icmp .eq 14, 3) := by decide +kernel
theorem V.dX17_quotient_141 : decode cX17_quotient 141 = .ok (.aload_n 0, 1) := by decide +kernel
theorem V.dX17_quotient_142 : decode cX17_quotient 142 = .ok (.getfield 65, 3) := by decide +kernel
theorem V.dX17_quotient_145 : decode cX17_quotient 145 = .ok (.getfield 871, 3) := by decide +kernel
theorem V.dX17_quotient_148 : decode cX17_quotient 148 = .ok (.iconst 2, 1) := by decide +kernel
theorem V.dX17_quotient_149 : decode cX17_quotient 149 = .ok (.if_icmp .ne 11, 3) := by decide +kernel
theorem V.dX17_quotient_152 : decode cX17_quotient 152 = .ok (.iload_n 1, 1) := by decide +kernel
theorem V.dX17_quotient_153 : decode cX17_quotient 153 = .ok (.iload 6, 2) := by decide +kernel
theorem V.dX17_quotient_155 : decode cX17_quotient 155 = .ok (.lconst 0, 1) := by decide +kernel
theorem V.dX17_quotient_156 : decode cX17_quotient 156 = .ok (.invokestatic 882, 3) := by decide +kernel
theorem V.dX17_quotient_159 : decode cX17_quotient 159 = .ok (.lreturn, 1) := by decide +kernel
theorem V.dX17_quotient_160 : decode cX17_quotient 160 = .ok (.aload_n 0, 1) := by decide +kernel
theorem V.dX17_quotient_161 : decode cX17_quotient 161 = .ok (.getfield 61, 3) := by decide +kernel
theorem V.dX17_quotient_164 : decode cX17_quotient 164 = .ok (.getfield 916, 3) := by decide +kernel
theorem V.dX17_quotient_167 : decode cX17_quotient 167 = .ok (.lstore 7, 2) := by decide +kernel
theorem V.dX17_quotient_169 : decode cX17_quotient 169 = .ok (.aload_n 0, 1) := by decide +kernel
theorem V.dX17_quotient_170 : decode cX17_quotient 170 = .ok (.getfield 65, 3) := by decide +kernel
theorem V.dX17_quotient_173 : decode cX17_quotient 173 = .ok (.getfield 916, 3) := by decide +kernel
theorem V.dX17_quotient_176 : decode cX17_quotient 176 = .ok (.lstore 9, 2) := by decide +kernel
theorem V.dX17_quotient_178 : decode cX17_quotient 178 = .ok (.aload_n 0, 1) := by decide +kernel
theorem V.dX17_quotient_179 : decode cX17_quotient 179 = .ok (.getfield 61, 3) := by decide +kernel
theorem V.dX17_quotient_182 : decode cX17_quotient 182 = .ok (.getfield 913, 3) := by decide +kernel
theorem V.dX17_quotient_185 : decode cX17_quotient 185 = .ok (.aload_n 0, 1) := by decide +kernel
theorem V.dX17_quotient_186 : decode cX17_quotient 186 = .ok (.getfield 65, 3) := by decide +kernel
theorem V.dX17_quotient_189 : decode cX17_quotient 189 = .ok (.getfield 913, 3) := by decide +kernel
theorem V.dX17_quotient_192 : decode cX17_quotient 192 = .ok (.isub, 1) := by decide +kernel
theorem V.dX17_quotient_193 : decode cX17_quotient 193 = .ok (.istore 11, 2) := by decide +kernel
theorem V.dX17_quotient_195 : decode cX17_quotient 195 = .ok (.lload 7, 2) := by decide +kernel
theorem V.dX17_quotient_197 : decode cX17_quotient 197 = .ok (.ldc2_w 928, 3) := by decide +kernel
theorem V.dX17_quotient_200 : decode cX17_quotient 200 = .ok (.lcmp, 1) := by decide +kernel
theorem V.dX17_quotient_201 : decode cX17_quotient 201 = .ok (.ifCond .ge 15, 3) := by decide +kernel
theorem V.dX17_quotient_204 : decode cX17_quotient 204 = .ok (.iinc 11 (-1), 3) := by decide +kernel
theorem V.dX17_quotient_207 : decode cX17_quotient 207 = .ok (.lload 7, 2) := by decide +kernel
theorem V.dX17_quotient_209 : decode cX17_quotient 209 = .ok (.iconst 1, 1) := by decide +kernel
theorem V.dX17_quotient_210 : decode cX17_quotient 210 = .ok (.lshl, 1) := by decide +kernel
theorem V.dX17_quotient_211 : decode cX17_quotient 211 = .ok (.lstore 7, 2) := by decide +kernel
theorem V.dX17_quotient_213 : decode cX17_quotient 213 = .ok (.goto (-18), 3) := by decide +kernel
theorem V.dX17_quotient_216 : decode cX17_quotient 216 = .ok (.lload 9, 2) := by decide +kernel
theorem V.dX17_quotient_218 : decode cX17_quotient 218 = .ok (.ldc2_w 928, 3) := by decide +kernel
theorem V.dX17_quotient_221 : decode cX17_quotient 221 = .ok (.lcmp, 1) := by decide +kernel
theorem V.dX17_quotient_222 : decode cX17_quotient 222 = .ok (.ifCond .ge 15, 3) := by decide +kernel
theorem V.dX17_quotient_225 : decode cX17_quotient 225 = .ok (.iinc 11 1, 3) := by decide +kernel
theorem V.dX17_quotient_228 : decode cX17_quotient 228 = .ok (.lload 9, 2) := by decide +kernel
theorem V.dX17_quotient_230 : decode cX17_quotient 230 = .ok (.iconst 1, 1) := by decide +kernel
theorem V.dX17_quotient_231 : decode cX17_quotient 231 = .ok (.lshl, 1) := by decide +kernel
theorem V.dX17_quotient_232 : decode cX17_quotient 232 = .ok (.lstore 9, 2) := by decide +kernel
theorem V.dX17_quotient_234 : decode cX17_quotient 234 = .ok (.goto (-18), 3) := by decide +kernel
theorem V.dX17_quotient_237 : decode cX17_quotient 237 = .ok (.lconst 0, 1) := by decide +kernel
theorem V.dX17_quotient_238 : decode cX17_quotient 238 = .ok (.lstore 12, 2) := by decide +kernel
theorem V.dX17_quotient_240 : decode cX17_quotient 240 = .ok (.iconst 0, 1) := by decide +kernel
theorem V.dX17_quotient_241 : decode cX17_quotient 241 = .ok (.istore 14, 2) := by decide +kernel
theorem V.dX17_quotient_243 : decode cX17_quotient 243 = .ok (.iload 14, 2) := by decide +kernel
theorem V.dX17_quotient_245 : decode cX17_quotient 245 = .ok (.bipush 57, 2) := by decide +kernel
theorem V.dX17_quotient_247 : decode cX17_quotient 247 = .ok (.if_icmp .ge 42, 3) := by decide +kernel
theorem V.dX17_quotient_250 : decode cX17_quotient 250 = .ok (.lload 12, 2) := by decide +kernel
theorem V.dX17_quotient_252 : decode cX17_quotient 252 = .ok (.iconst 1, 1) := by decide +kernel
theorem V.dX17_quotient_253 : decode cX17_quotient 253 = .ok (.lshl, 1) := by decide +kernel
theorem V.dX17_quotient_254 : decode cX17_quotient 254 = .ok (.lstore 12, 2) := by decide +kernel
theorem V.dX17_quotient_256 : decode cX17_quotient 256 = .ok (.lload 7, 2) := by decide +kernel
theorem V.dX17_quotient_258 : decode cX17_quotient 258 = .ok (.lload 9, 2) := by decide +kernel
theorem V.dX17_quotient_260 : decode cX17_quotient 260 = .ok (.lcmp, 1) := by decide +kernel
theorem V.dX17_quotient_261 : decode cX17_quotient 261 = .ok (.ifCond .lt 16, 3) := by decide +kernel
theorem V.dX17_quotient_264 : decode cX17_quotient 264 = .ok (.lload 7, 2) := by decide +kernel
theorem V.dX17_quotient_266 : decode cX17_quotient 266 = .ok (.lload 9, 2) := by decide +kernel
theorem V.dX17_quotient_268 : decode cX17_quotient 268 = .ok (.lsub, 1) := by decide +kernel
theorem V.dX17_quotient_269 : decode cX17_quotient 269 = .ok (.lstore 7, 2) := by decide +kernel
theorem V.dX17_quotient_271 : decode cX17_quotient 271 = .ok (.lload 12, 2) := by decide +kernel
theorem V.dX17_quotient_273 : decode cX17_quotient 273 = .ok (.lconst 1, 1) := by decide +kernel
theorem V.dX17_quotient_274 : decode cX17_quotient 274 = .ok (.ladd, 1) := by decide +kernel
theorem V.dX17_quotient_275 : decode cX17_quotient 275 = .ok (.lstore 12, 2) := by decide +kernel
theorem V.dX17_quotient_277 : decode cX17_quotient 277 = .ok (.lload 7, 2) := by decide +kernel
theorem V.dX17_quotient_279 : decode cX17_quotient 279 = .ok (.iconst 1, 1) := by decide +kernel
theorem V.dX17_quotient_280 : decode cX17_quotient 280 = .ok (.lshl, 1) := by decide +kernel
theorem V.dX17_quotient_281 : decode cX17_quotient 281 = .ok (.lstore 7, 2) := by decide +kernel
theorem V.dX17_quotient_283 : decode cX17_quotient 283 = .ok (.iinc 14 1, 3) := by decide +kernel
theorem V.dX17_quotient_286 : decode cX17_quotient 286 = .ok (.goto (-43), 3) := by decide +kernel
theorem V.dX17_quotient_289 : decode cX17_quotient 289 = .ok (.iload_n 1, 1) := by decide +kernel
theorem V.dX17_quotient_290 : decode cX17_quotient 290 = .ok (.iload 6, 2) := by decide +kernel
theorem V.dX17_quotient_292 : decode cX17_quotient 292 = .ok (.lconst 0, 1) := by decide +kernel
theorem V.dX17_quotient_293 : decode cX17_quotient 293 = .ok (.lload 12, 2) := by decide +kernel
theorem V.dX17_quotient_295 : decode cX17_quotient 295 = .ok (.iload 11, 2) := by decide +kernel
theorem V.dX17_quotient_297 : decode cX17_quotient 297 = .ok (.bipush 56, 2) := by decide +kernel
theorem V.dX17_quotient_299 : decode cX17_quotient 299 = .ok (.isub, 1) := by decide +kernel
theorem V.dX17_quotient_300 : decode cX17_quotient 300 = .ok (.lload 7, 2) := by decide +kernel
theorem V.dX17_quotient_302 : decode cX17_quotient 302 = .ok (.lconst 0, 1) := by decide +kernel
theorem V.dX17_quotient_303 : decode cX17_quotient 303 = .ok (.lcmp, 1) := by decide +kernel
theorem V.dX17_quotient_304 : decode cX17_quotient 304 = .ok (.ifCond .eq 7, 3) := by decide +kernel
theorem V.dX17_quotient_307 : decode cX17_quotient 307 = .ok (.iconst 1, 1) := by decide +kernel
theorem V.dX17_quotient_308 : decode cX17_quotient 308 = .ok (.goto 4, 3) := by decide +kernel
theorem V.dX17_quotient_311 : decode cX17_quotient 311 = .ok (.iconst 0, 1) := by decide +kernel
theorem V.dX17_quotient_312 : decode cX17_quotient 312 = .ok (.invokestatic 924, 3) := by decide +kernel
theorem V.dX17_quotient_315 : decode cX17_quotient 315 = .ok (.lreturn, 1) := by decide +kernel
/-! ModuleEngineModel.quotient(IJJ)J -/
def V.Mdl_quotient_p92  (σ : HS) (x1 : Int32) : Option (Int64 × HS) :=
  cl (Mdl_noneOf σ x1) fun r2 σ1 =>
  some (r2, σ1)
theorem V.gX17_quotient_p92 {X : CX}  (σ : HS) (x1 : Int32) : G X RX17 "quotient" cX17_quotient 15 (some .long) 3 81 enJ 92 [(1, iv x1)] [] σ (Mdl_quotient_p92 σ x1) := by
  unfold Mdl_quotient_p92
  refine g_iload_n 1 0 dX17_quotient_92 rfl rfl ?_
  refine g_callS (fc := fun sς => Mdl_noneOf sς x1) (as := [iv x1]) q4251 mdX17_910 (ctX17_noneOf x1) rfl (Nat.le_of_ble_eq_true rfl) (Nat.le_of_ble_eq_true rfl) (Nat.le_of_ble_eq_true rfl) pu_J dX17_quotient_93 (fun r2 σ1 => ?_)
  exact g_lreturn rfl dX17_quotient_96
def V.Mdl_quotient_p119  (σ : HS) (x1 : Int32) (x6 : Int32) : Option (Int64 × HS) :=
  cl (Mdl_infinite σ x1) fun r2 σ1 =>
  cl (Mdl_withSign σ1 x1 x6 r2) fun r4 σ3 =>
  some (r4, σ3)
theorem V.gX17_quotient_p119 {X : CX}  (σ : HS) (x1 : Int32) (x6 : Int32) : G X RX17 "quotient" cX17_quotient 15 (some .long) 3 81 enJ 119 [(1, iv x1), (6, iv x6)] [] σ (Mdl_quotient_p119 σ x1 x6) := by
  unfold Mdl_quotient_p119
  refine g_iload_n 1 0 dX17_quotient_119 rfl rfl ?_
  refine g_iload 1 dX17_quotient_120 rfl ?_
  refine g_iload_n 1 0 dX17_quotient_122 rfl rfl ?_
  refine g_callS (fc := fun sς => Mdl_infinite sς x1) (as := [iv x1]) q4267 mdX17_888 (ctX17_infinite x1) rfl (Nat.le_of_ble_eq_true rfl) (Nat.le_of_ble_eq_true rfl) (Nat.le_of_ble_eq_true rfl) pu_J dX17_quotient_123 (fun r2 σ1 => ?_)
  refine g_callS (fc := fun sς => Mdl_withSign sς x1 x6 r2) (as := [iv x1, iv x6, jv r2]) q4257 mdX17_882 (ctX17_withSign x1 x6 r2) rfl (Nat.le_of_ble_eq_true rfl) (Nat.le_of_ble_eq_true rfl) (Nat.le_of_ble_eq_true rfl) pu_J dX17_quotient_126 (fun r4 σ3 => ?_)
  exact g_lreturn rfl dX17_quotient_129
def V.Mdl_quotient_p152  (σ : HS) (x1 : Int32) (x6 : Int32) : Option (Int64 × HS) :=
  cl (Mdl_withSign σ x1 x6 (0 : Int64)) fun r2 σ1 =>
  some (r2, σ1)
theorem V.gX17_quotient_p152 {X : CX}  (σ : HS) (x1 : Int32) (x6 : Int32) : G X RX17 "quotient" cX17_quotient 15 (some .long) 3 81 enJ 152 [(1, iv x1), (6, iv x6)] [] σ (Mdl_quotient_p152 σ x1 x6) := by
  unfold Mdl_quotient_p152
  refine g_iload_n 1 0 dX17_quotient_152 rfl rfl ?_
  refine g_iload 1 dX17_quotient_153 rfl ?_
  refine g_lconst (v := 0) dX17_quotient_155 (by decide) ?_
  refine g_callS (fc := fun sς => Mdl_withSign sς x1 x6 (0 : Int64)) (as := [iv x1, iv x6, jv (0 : Int64)]) q4257 mdX17_882 (ctX17_withSign x1 x6 (0 : Int64)) rfl (Nat.le_of_ble_eq_true rfl) (Nat.le_of_ble_eq_true rfl) (Nat.le_of_ble_eq_true rfl) pu_J dX17_quotient_156 (fun r2 σ1 => ?_)
  exact g_lreturn rfl dX17_quotient_159
def V.Mdl_quotient_p312  (σ : HS) (s0 : Int32) (s1 : Int32) (s2 : Int64) (s3 : Int64) (s4 : Int32) (s5 : Int32) : Option (Int64 × HS) :=
  cl (Mdl_rounded σ s5 s4 s3 s2 s1 s0) fun r2 σ1 =>
  some (r2, σ1)
theorem V.gX17_quotient_p312 {X : CX}  (σ : HS) (s0 : Int32) (s1 : Int32) (s2 : Int64) (s3 : Int64) (s4 : Int32) (s5 : Int32) : G X RX17 "quotient" cX17_quotient 15 (some .long) 3 81 enJ 312 [] [iv s0, iv s1, jv s2, jv s3, iv s4, iv s5] σ (Mdl_quotient_p312 σ s0 s1 s2 s3 s4 s5) := by
  unfold Mdl_quotient_p312
  refine g_callS (fc := fun sς => Mdl_rounded sς s5 s4 s3 s2 s1 s0) (as := [iv s5, iv s4, jv s3, jv s2, iv s1, iv s0]) q4260 mdX17_924 (ctX17_rounded s5 s4 s3 s2 s1 s0) rfl (Nat.le_of_ble_eq_true rfl) (Nat.le_of_ble_eq_true rfl) (Nat.le_of_ble_eq_true rfl) pu_J dX17_quotient_312 (fun r2 σ1 => ?_)
  exact g_lreturn rfl dX17_quotient_315
def V.Mdl_quotient_p277 (rec243 : HS → Int32 → Int32 → Int64 → Int64 → Int32 → Int64 → Int32 → Option (Int64 × HS)) (σ : HS) (x1 : Int32) (x6 : Int32) (x7 : Int64) (x9 : Int64) (x11 : Int32) (x12 : Int64) (x14 : Int32) : Option (Int64 × HS) :=
  bn (lshl x7 (1 : Int32)) fun y1 =>
  bn (x14 + (1 : Int32)) fun y2 =>
  rec243 σ x1 x6 y1 x9 x11 x12 y2
theorem V.gX17_quotient_p277 {X : CX} (rec243 : HS → Int32 → Int32 → Int64 → Int64 → Int32 → Int64 → Int32 → Option (Int64 × HS)) (hrec243 : ∀ (σ : HS) (x1 : Int32) (x6 : Int32) (x7 : Int64) (x9 : Int64) (x11 : Int32) (x12 : Int64) (x14 : Int32), G X RX17 "quotient" cX17_quotient 15 (some .long) 3 81 enJ 243 [(1, iv x1), (6, iv x6), (7, jv x7), (9, jv x9), (11, iv x11), (12, jv x12), (14, iv x14)] [] σ (rec243 σ x1 x6 x7 x9 x11 x12 x14)) (σ : HS) (x1 : Int32) (x6 : Int32) (x7 : Int64) (x9 : Int64) (x11 : Int32) (x12 : Int64) (x14 : Int32) : G X RX17 "quotient" cX17_quotient 15 (some .long) 3 81 enJ 277 [(1, iv x1), (6, iv x6), (7, jv x7), (9, jv x9), (11, iv x11), (12, jv x12), (14, iv x14)] [] σ (Mdl_quotient_p277 rec243 σ x1 x6 x7 x9 x11 x12 x14) := by
  unfold Mdl_quotient_p277
  refine g_lload 2 dX17_quotient_277 rfl ?_
  refine g_iconst (v := 1) dX17_quotient_279 (by decide) ?_
  refine g_lshl dX17_quotient_280 ?_
  refine g_nmJ (fun y1 => ?_)
  refine g_lstore dX17_quotient_281 (by decide) rfl ?_
  refine g_iincB (w := 1) 6 dX17_quotient_283 rfl (by decide) (by decide) (fun _ => rfl) (fun y2 => ?_)
  refine g_goto 243 dX17_quotient_286 (by decide) ?_
  refine G.sub [2, 3, 1, 4, 5, 6, 0] rfl ?_
  exact hrec243 _ _ _ _ _ _ _ _
def V.Mdl_quotient_p243  : Nat → HS → Int32 → Int32 → Int64 → Int64 → Int32 → Int64 → Int32 → Option (Int64 × HS)
  | 0, _, _, _, _, _, _, _, _ => none
  | n + 1, σ, x1, x6, x7, x9, x11, x12, x14 =>
    if (57 : Int32) ≤ x14 then (
      if x7 = (0 : Int64) then (
        Mdl_quotient_p312 σ (0 : Int32) (x11 - (56 : Int32)) x12 (0 : Int64) x6 x1)
      else (
        Mdl_quotient_p312 σ (1 : Int32) (x11 - (56 : Int32)) x12 (0 : Int64) x6 x1))
    else (
      bn (lshl x12 (1 : Int32)) fun y1 =>
      if x7 < x9 then (
        Mdl_quotient_p277 (Mdl_quotient_p243 n) σ x1 x6 x7 x9 x11 y1 x14)
      else (
        bn (x7 - x9) fun y2 =>
        bn (y1 + (1 : Int64)) fun y3 =>
        Mdl_quotient_p277 (Mdl_quotient_p243 n) σ x1 x6 y2 x9 x11 y3 x14))
theorem V.gX17_quotient_p243 {X : CX}  : ∀ (n : Nat) (σ : HS) (x1 : Int32) (x6 : Int32) (x7 : Int64) (x9 : Int64) (x11 : Int32) (x12 : Int64) (x14 : Int32), G X RX17 "quotient" cX17_quotient 15 (some .long) 3 81 enJ 243 [(1, iv x1), (6, iv x6), (7, jv x7), (9, jv x9), (11, iv x11), (12, jv x12), (14, iv x14)] [] σ (Mdl_quotient_p243 n σ x1 x6 x7 x9 x11 x12 x14)
  | 0, σ, x1, x6, x7, x9, x11, x12, x14 => by rw [Mdl_quotient_p243]; exact G.nul
  | n + 1, σ, x1, x6, x7, x9, x11, x12, x14 => by
    rw [Mdl_quotient_p243]
    refine g_iload 6 dX17_quotient_243 rfl ?_
    refine g_bipush (v := 57) dX17_quotient_245 (by decide) ?_
    refine g_icmp_ge 289 dX17_quotient_247 (by decide) ?_ ?_
    · refine g_iload_n 1 0 dX17_quotient_289 rfl rfl ?_
      refine g_iload 1 dX17_quotient_290 rfl ?_
      refine g_lconst (v := 0) dX17_quotient_292 (by decide) ?_
      refine g_lload 5 dX17_quotient_293 rfl ?_
      refine g_iload 4 dX17_quotient_295 rfl ?_
      refine g_bipush (v := 56) dX17_quotient_297 (by decide) ?_
      refine g_isub dX17_quotient_299 ?_
      refine g_lload 2 dX17_quotient_300 rfl ?_
      refine g_lconst (v := 0) dX17_quotient_302 (by decide) ?_
      refine g_lcmp_eq 311 dX17_quotient_303 dX17_quotient_304 (by decide) ?_ ?_
      · refine g_iconst (v := 0) dX17_quotient_311 (by decide) ?_
        refine G.sub [] rfl ?_
        exact gX17_quotient_p312 _ _ _ _ _ _ _
      · refine g_iconst (v := 1) dX17_quotient_307 (by decide) ?_
        refine g_goto 312 dX17_quotient_308 (by decide) ?_
        refine G.sub [] rfl ?_
        exact gX17_quotient_p312 _ _ _ _ _ _ _
    · refine g_lload 5 dX17_quotient_250 rfl ?_
      refine g_iconst (v := 1) dX17_quotient_252 (by decide) ?_
      refine g_lshl dX17_quotient_253 ?_
      refine g_nmJ (fun y1 => ?_)
      refine g_lstore dX17_quotient_254 (by decide) rfl ?_
      refine g_lload 3 dX17_quotient_256 rfl ?_
      refine g_lload 4 dX17_quotient_258 rfl ?_
      refine g_lcmp_lt 277 dX17_quotient_260 dX17_quotient_261 (by decide) ?_ ?_
      · refine G.sub [1, 2, 3, 4, 5, 0, 6] rfl ?_
        exact gX17_quotient_p277 (Mdl_quotient_p243 n) (gX17_quotient_p243 n) _ _ _ _ _ _ _ _
      · refine g_lload 3 dX17_quotient_264 rfl ?_
        refine g_lload 4 dX17_quotient_266 rfl ?_
        refine g_lsub dX17_quotient_268 ?_
        refine g_nmJ (fun y2 => ?_)
        refine g_lstore dX17_quotient_269 (by decide) rfl ?_
        refine g_lload 1 dX17_quotient_271 rfl ?_
        refine g_lconst (v := 1) dX17_quotient_273 (by decide) ?_
        refine g_ladd dX17_quotient_274 ?_
        refine g_nmJ (fun y3 => ?_)
        refine g_lstore dX17_quotient_275 (by decide) rfl ?_
        refine G.sub [2, 3, 1, 4, 5, 0, 6] rfl ?_
        exact gX17_quotient_p277 (Mdl_quotient_p243 n) (gX17_quotient_p243 n) _ _ _ _ _ _ _ _
def V.Mdl_quotient_p216  : Nat → HS → Int32 → Int32 → Int64 → Int64 → Int32 → Option (Int64 × HS)
  | 0, _, _, _, _, _, _ => none
  | n + 1, σ, x1, x6, x7, x9, x11 =>
    if (4503599627370496 : Int64) ≤ x9 then (
      Mdl_quotient_p243 FU σ x1 x6 x7 x9 x11 (0 : Int64) (0 : Int32))
    else (
      bn (x11 + (1 : Int32)) fun y1 =>
      bn (lshl x9 (1 : Int32)) fun y2 =>
      Mdl_quotient_p216 n σ x1 x6 x7 y2 y1)
theorem V.gX17_quotient_p216 {X : CX}  : ∀ (n : Nat) (σ : HS) (x1 : Int32) (x6 : Int32) (x7 : Int64) (x9 : Int64) (x11 : Int32), G X RX17 "quotient" cX17_quotient 15 (some .long) 3 81 enJ 216 [(1, iv x1), (6, iv x6), (7, jv x7), (9, jv x9), (11, iv x11)] [] σ (Mdl_quotient_p216 n σ x1 x6 x7 x9 x11)
  | 0, σ, x1, x6, x7, x9, x11 => by rw [Mdl_quotient_p216]; exact G.nul
  | n + 1, σ, x1, x6, x7, x9, x11 => by
    rw [Mdl_quotient_p216]
    refine g_lload 3 dX17_quotient_216 rfl ?_
    refine g_ldc2 q4275 dX17_quotient_218 ?_
    refine g_lcmp_ge 237 dX17_quotient_221 dX17_quotient_222 (by decide) ?_ ?_
    · refine g_lconst (v := 0) dX17_quotient_237 (by decide) ?_
      refine g_lstore dX17_quotient_238 (by decide) rfl ?_
      refine g_iconst (v := 0) dX17_quotient_240 (by decide) ?_
      refine g_istore dX17_quotient_241 (by decide) rfl ?_
      refine G.sub [2, 3, 4, 5, 6, 1, 0] rfl ?_
      exact gX17_quotient_p243 FU _ _ _ _ _ _ _ _
    · refine g_iincB (w := 1) 4 dX17_quotient_225 rfl (by decide) (by decide) (fun _ => rfl) (fun y1 => ?_)
      refine g_lload 4 dX17_quotient_228 rfl ?_
      refine g_iconst (v := 1) dX17_quotient_230 (by decide) ?_
      refine g_lshl dX17_quotient_231 ?_
      refine g_nmJ (fun y2 => ?_)
      refine g_lstore dX17_quotient_232 (by decide) rfl ?_
      refine g_goto 216 dX17_quotient_234 (by decide) ?_
      refine G.sub [2, 3, 4, 0, 1] rfl ?_
      exact gX17_quotient_p216 n _ _ _ _ _ _
def V.Mdl_quotient_p195  : Nat → HS → Int32 → Int32 → Int64 → Int64 → Int32 → Option (Int64 × HS)
  | 0, _, _, _, _, _, _ => none
  | n + 1, σ, x1, x6, x7, x9, x11 =>
    if (4503599627370496 : Int64) ≤ x7 then (
      Mdl_quotient_p216 FU σ x1 x6 x7 x9 x11)
    else (
      bn (x11 + (-1 : Int32)) fun y1 =>
      bn (lshl x7 (1 : Int32)) fun y2 =>
      Mdl_quotient_p195 n σ x1 x6 y2 x9 y1)
theorem V.gX17_quotient_p195 {X : CX}  : ∀ (n : Nat) (σ : HS) (x1 : Int32) (x6 : Int32) (x7 : Int64) (x9 : Int64) (x11 : Int32), G X RX17 "quotient" cX17_quotient 15 (some .long) 3 81 enJ 195 [(1, iv x1), (6, iv x6), (7, jv x7), (9, jv x9), (11, iv x11)] [] σ (Mdl_quotient_p195 n σ x1 x6 x7 x9 x11)
  | 0, σ, x1, x6, x7, x9, x11 => by rw [Mdl_quotient_p195]; exact G.nul
  | n + 1, σ, x1, x6, x7, x9, x11 => by
    rw [Mdl_quotient_p195]
    refine g_lload 2 dX17_quotient_195 rfl ?_
    refine g_ldc2 q4275 dX17_quotient_197 ?_
    refine g_lcmp_ge 216 dX17_quotient_200 dX17_quotient_201 (by decide) ?_ ?_
    · exact gX17_quotient_p216 FU _ _ _ _ _ _
    · refine g_iincB (w := (-1)) 4 dX17_quotient_204 rfl (by decide) (by decide) (fun _ => rfl) (fun y1 => ?_)
      refine g_lload 3 dX17_quotient_207 rfl ?_
      refine g_iconst (v := 1) dX17_quotient_209 (by decide) ?_
      refine g_lshl dX17_quotient_210 ?_
      refine g_nmJ (fun y2 => ?_)
      refine g_lstore dX17_quotient_211 (by decide) rfl ?_
      refine g_goto 195 dX17_quotient_213 (by decide) ?_
      refine G.sub [2, 3, 0, 4, 1] rfl ?_
      exact gX17_quotient_p195 n _ _ _ _ _ _
def V.Mdl_quotient_p97  (σ : HS) (x0 : Nat) (x1 : Int32) (x6 : Int32) : Option (Int64 × HS) :=
  ck (tg σ x0 = 18) <|
  ck (tg σ (gR σ x0 34) = 20) <|
  if (gI σ (gR σ x0 34) 1) = (2 : Int32) then (
    Mdl_quotient_p119 σ x1 x6)
  else (
    ck (tg σ x0 = 18) <|
    ck (tg σ (gR σ x0 35) = 20) <|
    if (gI σ (gR σ x0 35) 1) = (1 : Int32) then (
      Mdl_quotient_p119 σ x1 x6)
    else (
      ck (tg σ x0 = 18) <|
      ck (tg σ (gR σ x0 34) = 20) <|
      if (gI σ (gR σ x0 34) 1) = (1 : Int32) then (
        Mdl_quotient_p152 σ x1 x6)
      else (
        ck (tg σ x0 = 18) <|
        ck (tg σ (gR σ x0 35) = 20) <|
        if (gI σ (gR σ x0 35) 1) = (2 : Int32) then (
          Mdl_quotient_p152 σ x1 x6)
        else (
          ck (tg σ x0 = 18) <|
          ck (tg σ (gR σ x0 34) = 20) <|
          bn (gJ σ (gR σ x0 34) 2) fun y1 =>
          ck (tg σ x0 = 18) <|
          ck (tg σ (gR σ x0 35) = 20) <|
          bn (gJ σ (gR σ x0 35) 2) fun y2 =>
          ck (tg σ x0 = 18) <|
          ck (tg σ (gR σ x0 34) = 20) <|
          ck (tg σ x0 = 18) <|
          ck (tg σ (gR σ x0 35) = 20) <|
          bn ((gI σ (gR σ x0 34) 3) - (gI σ (gR σ x0 35) 3)) fun y3 =>
          Mdl_quotient_p195 FU σ x1 x6 y1 y2 y3))))
theorem V.gX17_quotient_p97 {X : CX}  (σ : HS) (x0 : Nat) (x1 : Int32) (x6 : Int32) : G X RX17 "quotient" cX17_quotient 15 (some .long) 3 81 enJ 97 [(0, av x0), (1, iv x1), (6, iv x6)] [] σ (Mdl_quotient_p97 σ x0 x1 x6) := by
  unfold Mdl_quotient_p97
  refine g_aload_n 0 0 dX17_quotient_97 rfl rfl ?_
  refine g_getR fdX17_61 dX17_quotient_98 ?_
  refine g_getI fdX17_871 dX17_quotient_101 ?_
  refine g_iconst (v := 2) dX17_quotient_104 (by decide) ?_
  refine g_icmp_eq 119 dX17_quotient_105 (by decide) ?_ ?_
  · refine G.sub [1, 2] rfl ?_
    exact gX17_quotient_p119 _ _ _
  · refine g_aload_n 0 0 dX17_quotient_108 rfl rfl ?_
    refine g_getR fdX17_65 dX17_quotient_109 ?_
    refine g_getI fdX17_871 dX17_quotient_112 ?_
    refine g_iconst (v := 1) dX17_quotient_115 (by decide) ?_
    refine g_icmp_ne 130 dX17_quotient_116 (by decide) ?_ ?_
    · refine g_aload_n 0 0 dX17_quotient_130 rfl rfl ?_
      refine g_getR fdX17_61 dX17_quotient_131 ?_
      refine g_getI fdX17_871 dX17_quotient_134 ?_
      refine g_iconst (v := 1) dX17_quotient_137 (by decide) ?_
      refine g_icmp_eq 152 dX17_quotient_138 (by decide) ?_ ?_
      · refine G.sub [1, 2] rfl ?_
        exact gX17_quotient_p152 _ _ _
      · refine g_aload_n 0 0 dX17_quotient_141 rfl rfl ?_
        refine g_getR fdX17_65 dX17_quotient_142 ?_
        refine g_getI fdX17_871 dX17_quotient_145 ?_
        refine g_iconst (v := 2) dX17_quotient_148 (by decide) ?_
        refine g_icmp_ne 160 dX17_quotient_149 (by decide) ?_ ?_
        · refine g_aload_n 0 0 dX17_quotient_160 rfl rfl ?_
          refine g_getR fdX17_61 dX17_quotient_161 ?_
          refine g_getJ fdX17_916 dX17_quotient_164 ?_
          refine g_nmJ (fun y1 => ?_)
          refine g_lstore dX17_quotient_167 (by decide) rfl ?_
          refine g_aload_n 0 1 dX17_quotient_169 rfl rfl ?_
          refine g_getR fdX17_65 dX17_quotient_170 ?_
          refine g_getJ fdX17_916 dX17_quotient_173 ?_
          refine g_nmJ (fun y2 => ?_)
          refine g_lstore dX17_quotient_176 (by decide) rfl ?_
          refine g_aload_n 0 2 dX17_quotient_178 rfl rfl ?_
          refine g_getR fdX17_61 dX17_quotient_179 ?_
          refine g_getI fdX17_913 dX17_quotient_182 ?_
          refine g_aload_n 0 2 dX17_quotient_185 rfl rfl ?_
          refine g_getR fdX17_65 dX17_quotient_186 ?_
          refine g_getI fdX17_913 dX17_quotient_189 ?_
          refine g_isub dX17_quotient_192 ?_
          refine g_nmI (fun y3 => ?_)
          refine g_istore dX17_quotient_193 (by decide) rfl ?_
          refine G.sub [4, 5, 2, 1, 0] rfl ?_
          exact gX17_quotient_p195 FU _ _ _ _ _ _
        · refine G.sub [1, 2] rfl ?_
          exact gX17_quotient_p152 _ _ _
    · refine G.sub [1, 2] rfl ?_
      exact gX17_quotient_p119 _ _ _
def V.Mdl_quotient_p41  (σ : HS) (x0 : Nat) (x1 : Int32) (s0 : Int32) : Option (Int64 × HS) :=
  ck (tg σ x0 = 18) <|
  ck (tg σ (gR σ x0 34) = 20) <|
  if (gI σ (gR σ x0 34) 1) = (3 : Int32) then (
    Mdl_quotient_p92 σ x1)
  else (
    ck (tg σ x0 = 18) <|
    ck (tg σ (gR σ x0 35) = 20) <|
    if (gI σ (gR σ x0 35) 1) = (3 : Int32) then (
      Mdl_quotient_p92 σ x1)
    else (
      ck (tg σ x0 = 18) <|
      ck (tg σ (gR σ x0 34) = 20) <|
      ck (tg σ x0 = 18) <|
      ck (tg σ (gR σ x0 35) = 20) <|
      if (gI σ (gR σ x0 34) 1) = (gI σ (gR σ x0 35) 1) then (
        ck (tg σ x0 = 18) <|
        ck (tg σ (gR σ x0 34) = 20) <|
        if (gI σ (gR σ x0 34) 1) ≤ 0 then (
          Mdl_quotient_p97 σ x0 x1 s0)
        else (
          Mdl_quotient_p92 σ x1))
      else (
        Mdl_quotient_p97 σ x0 x1 s0)))
theorem V.gX17_quotient_p41 {X : CX}  (σ : HS) (x0 : Nat) (x1 : Int32) (s0 : Int32) : G X RX17 "quotient" cX17_quotient 15 (some .long) 3 81 enJ 41 [(0, av x0), (1, iv x1)] [iv s0] σ (Mdl_quotient_p41 σ x0 x1 s0) := by
  unfold Mdl_quotient_p41
  refine g_istore dX17_quotient_41 (by decide) rfl ?_
  refine g_aload_n 0 1 dX17_quotient_43 rfl rfl ?_
  refine g_getR fdX17_61 dX17_quotient_44 ?_
  refine g_getI fdX17_871 dX17_quotient_47 ?_
  refine g_iconst (v := 3) dX17_quotient_50 (by decide) ?_
  refine g_icmp_eq 92 dX17_quotient_51 (by decide) ?_ ?_
  · refine G.sub [2] rfl ?_
    exact gX17_quotient_p92 _ _
  · refine g_aload_n 0 1 dX17_quotient_54 rfl rfl ?_
    refine g_getR fdX17_65 dX17_quotient_55 ?_
    refine g_getI fdX17_871 dX17_quotient_58 ?_
    refine g_iconst (v := 3) dX17_quotient_61 (by decide) ?_
    refine g_icmp_eq 92 dX17_quotient_62 (by decide) ?_ ?_
    · refine G.sub [2] rfl ?_
      exact gX17_quotient_p92 _ _
    · refine g_aload_n 0 1 dX17_quotient_65 rfl rfl ?_
      refine g_getR fdX17_61 dX17_quotient_66 ?_
      refine g_getI fdX17_871 dX17_quotient_69 ?_
      refine g_aload_n 0 1 dX17_quotient_72 rfl rfl ?_
      refine g_getR fdX17_65 dX17_quotient_73 ?_
      refine g_getI fdX17_871 dX17_quotient_76 ?_
      refine g_icmp_ne 97 dX17_quotient_79 (by decide) ?_ ?_
      · refine G.sub [1, 2, 0] rfl ?_
        exact gX17_quotient_p97 _ _ _ _
      · refine g_aload_n 0 1 dX17_quotient_82 rfl rfl ?_
        refine g_getR fdX17_61 dX17_quotient_83 ?_
        refine g_getI fdX17_871 dX17_quotient_86 ?_
        refine g_if_le 97 dX17_quotient_89 (by decide) ?_ ?_
        · refine G.sub [1, 2, 0] rfl ?_
          exact gX17_quotient_p97 _ _ _ _
        · refine G.sub [2] rfl ?_
          exact gX17_quotient_p92 _ _
def V.Mdl_quotient (σ : HS) (x0 : Nat) (x1 : Int32) (x2 : Int64) (x4 : Int64) : Option (Int64 × HS) :=
  ck (tg σ x0 = 18) <|
  ck (tg σ (gR σ x0 34) = 20) <| cl (Rea_read σ (gR σ x0 34) x1 x2) fun _ σ1 =>
  ck (tg σ1 x0 = 18) <|
  ck (tg σ1 (gR σ1 x0 35) = 20) <| cl (Rea_read σ1 (gR σ1 x0 35) x1 x4) fun _ σ2 =>
  ck (tg σ2 x0 = 18) <|
  ck (tg σ2 (gR σ2 x0 34) = 20) <|
  ck (tg σ2 x0 = 18) <|
  ck (tg σ2 (gR σ2 x0 35) = 20) <|
  if (gI σ2 (gR σ2 x0 34) 0) = (gI σ2 (gR σ2 x0 35) 0) then (
    Mdl_quotient_p41 σ2 x0 x1 (0 : Int32))
  else (
    Mdl_quotient_p41 σ2 x0 x1 (1 : Int32))
theorem V.ctX17_quotient (x0 : Nat) (x1 : Int32) (x2 : Int64) (x4 : Int64) : Ct yX17_quotient  cX17_quotient 15 (some .long) 3 81 eJ [av x0, iv x1, jv x2, jv x4] (fun σ => Mdl_quotient σ x0 x1 x2 x4) := by
  refine Ct.of (own := RX17) (nm := "quotient") (desc := "(IJJ)J") rfl (by decide) (Nat.le_of_ble_eq_true rfl) (by decide) (fun X σ => ?_)
  show G X RX17 "quotient" cX17_quotient 15 (some .long) 3 81 enJ 0 [(0, av x0), (1, iv x1), (2, jv x2), (4, jv x4)] [] σ (Mdl_quotient σ x0 x1 x2 x4)
  unfold Mdl_quotient
  refine g_aload_n 0 0 dX17_quotient_0 rfl rfl ?_
  refine g_getR fdX17_61 dX17_quotient_1 ?_
  refine g_iload_n 1 1 dX17_quotient_4 rfl rfl ?_
  refine g_lload_n 2 2 dX17_quotient_5 rfl rfl ?_
  refine g_callV (fc := fun sς => Rea_read sς (gR σ x0 34) x1 x2) (ci := 19) (as := [iv x1, jv x2]) rfl rfl rfl q4200 q4201 mdX17_868 (ctX19_read (gR σ x0 34) x1 x2) rfl (Nat.le_of_ble_eq_true rfl) (Nat.le_of_ble_eq_true rfl) (Nat.le_of_ble_eq_true rfl) pu_V dX17_quotient_6 (fun _ σ1 => ?_)
  refine g_aload_n 0 0 dX17_quotient_9 rfl rfl ?_
  refine g_getR fdX17_65 dX17_quotient_10 ?_
  refine g_iload_n 1 1 dX17_quotient_13 rfl rfl ?_
  refine g_lload 3 dX17_quotient_14 rfl ?_
  refine g_callV (fc := fun sς => Rea_read sς (gR σ1 x0 35) x1 x4) (ci := 19) (as := [iv x1, jv x4]) rfl rfl rfl q4200 q4201 mdX17_868 (ctX19_read (gR σ1 x0 35) x1 x4) rfl (Nat.le_of_ble_eq_true rfl) (Nat.le_of_ble_eq_true rfl) (Nat.le_of_ble_eq_true rfl) pu_V dX17_quotient_16 (fun _ σ2 => ?_)
  refine g_aload_n 0 0 dX17_quotient_19 rfl rfl ?_
  refine g_getR fdX17_61 dX17_quotient_20 ?_
  refine g_getI fdX17_921 dX17_quotient_23 ?_
  refine g_aload_n 0 0 dX17_quotient_26 rfl rfl ?_
  refine g_getR fdX17_65 dX17_quotient_27 ?_
  refine g_getI fdX17_921 dX17_quotient_30 ?_
  refine g_icmp_eq 40 dX17_quotient_33 (by decide) ?_ ?_
  · refine g_iconst (v := 0) dX17_quotient_40 (by decide) ?_
    refine G.sub [0, 1] rfl ?_
    exact gX17_quotient_p41 _ _ _ _
  · refine g_iconst (v := 1) dX17_quotient_36 (by decide) ?_
    refine g_goto 41 dX17_quotient_37 (by decide) ?_
    refine G.sub [0, 1] rfl ?_
    exact gX17_quotient_p41 _ _ _ _
theorem V.dX17_extreme_0 : decode cX17_extreme 0 = .ok (.aload_n 0, 1) := by decide +kernel
theorem V.dX17_extreme_1 : decode cX17_extreme 1 = .ok (.getfield 61, 3) := by decide +kernel
theorem V.dX17_extreme_4 : decode cX17_extreme 4 = .ok (.iload_n 1, 1) := by decide +kernel
theorem V.dX17_extreme_5 : decode cX17_extreme 5 = .ok (.lload_n 2, 1) := by decide +kernel
theorem V.dX17_extreme_6 : decode cX17_extreme 6 = .ok (.invokevirtual 868, 3) := by decide +kernel
theorem V.dX17_extreme_9 : decode cX17_extreme 9 = .ok (.aload_n 0, 1) := by decide +kernel
theorem V.dX17_extreme_10 : decode cX17_extreme 10 = .ok (.getfield 65, 3) := by decide +kernel
theorem V.dX17_extreme_13 : decode cX17_extreme 13 = .ok (.iload_n 1, 1) := by decide +kernel
theorem V.dX17_extreme_14 : decode cX17_extreme 14 = .ok (.lload 4, 2) := by decide +kernel
theorem V.dX17_extreme_16 : decode cX17_extreme 16 = .ok (.invokevirtual 868, 3) := by decide +kernel
theorem V.dX17_extreme_19 : decode cX17_extreme 19 = .ok (.aload_n 0, 1) := by decide +kernel
theorem V.dX17_extreme_20 : decode cX17_extreme 20 = .ok (.getfield 61, 3) := by decide +kernel
theorem V.dX17_extreme_23 : decode cX17_extreme 23 = .ok (.getfield 871, 3) := by decide +kernel
theorem V.dX17_extreme_26 : decode cX17_extreme 26 = .ok (.iconst 3, 1) := by decide +kernel
theorem V.dX17_extreme_27 : decode cX17_extreme 27 = .ok (.if_icmp .eq 14, 3) := by decide +kernel
theorem V.dX17_extreme_30 : decode cX17_extreme 30 = .ok (.aload_n 0, 1) := by decide +kernel
theorem V.dX17_extreme_31 : decode cX17_extreme 31 = .ok (.getfield 65, 3) := by decide +kernel
theorem V.dX17_extreme_34 : decode cX17_extreme 34 = .ok (.getfield 871, 3) := by decide +kernel
theorem V.dX17_extreme_37 : decode cX17_extreme 37 = .ok (.iconst 3, 1) := by decide +kernel
theorem V.dX17_extreme_38 : decode cX17_extreme 38 = .ok (.if_icmp .ne 8, 3) := by decide +kernel
theorem V.dX17_extreme_41 : decode cX17_extreme 41 = .ok (.iload_n 1, 1) := by decide +kernel
theorem V.dX17_extreme_42 : decode cX17_extreme 42 = .ok (.invokestatic 910, 3) := by decide +kernel
theorem V.dX17_extreme_45 : decode cX17_extreme 45 = .ok (.lreturn, 1) := by decide +kernel
theorem V.dX17_extreme_46 : decode cX17_extreme 46 = .ok (.aload_n 0, 1) := by decide +kernel
theorem V.dX17_extreme_47 : decode cX17_extreme 47 = .ok (.getfield 61, 3) := by decide +kernel
theorem V.dX17_extreme_50 : decode cX17_extreme 50 = .ok (.getfield 871, 3) := by decide +kernel
theorem V.dX17_extreme_53 : decode cX17_extreme 53 = .ok (.iconst 1, 1) := by decide +kernel
theorem V.dX17_extreme_54 : decode cX17_extreme 54 = .ok (.if_icmp .ne 78, 3) := by decide +kernel
theorem V.dX17_extreme_57 : decode cX17_extreme 57 = .ok (.aload_n 0, 1) := by decide +kernel
theorem V.dX17_extreme_58 : decode cX17_extreme 58 = .ok (.getfield 65, 3) := by decide +kernel
theorem V.dX17_extreme_61 : decode cX17_extreme 61 = .ok (.getfield 871, 3) := by decide +kernel
theorem V.dX17_extreme_64 : decode cX17_extreme 64 = .ok (.iconst 1, 1) := by decide +kernel
theorem V.dX17_extreme_65 : decode cX17_extreme 65 = .ok (.if_icmp .ne 67, 3) := by decide +kernel
theorem V.dX17_extreme_68 : decode cX17_extreme 68 = .ok (.iload_n 1, 1) := by decide +kernel
theorem V.dX17_extreme_69 : decode cX17_extreme 69 = .ok (.iload 6, 2) := by decide +kernel
theorem V.dX17_extreme_71 : decode cX17_extreme 71 = .ok (.ifCond .eq 31, 3) := by decide +kernel
theorem V.dX17_extreme_74 : decode cX17_extreme 74 = .ok (.aload_n 0, 1) := by decide +kernel
theorem V.dX17_extreme_75 : decode cX17_extreme 75 = .ok (.getfield 61, 3) := by decide +kernel
theorem V.dX17_extreme_78 : decode cX17_extreme 78 = .ok (.getfield 921, 3) := by decide +kernel
theorem V.dX17_extreme_81 : decode cX17_extreme 81 = .ok (.ifCond .ne 13, 3) := by decide +kernel
theorem V.dX17_extreme_84 : decode cX17_extreme 84 = .ok (.aload_n 0, 1) := by decide +kernel
theorem V.dX17_extreme_85 : decode cX17_extreme 85 = .ok (.getfield 65, 3) := by decide +kernel
theorem V.dX17_extreme_88 : decode cX17_extreme 88 = .ok (.getfield 921, 3) := by decide +kernel
theorem V.dX17_extreme_91 : decode cX17_extreme 91 = .ok (.ifCond .eq 7, 3) := by decide +kernel
theorem V.dX17_extreme_94 : decode cX17_extreme 94 = .ok (.iconst 1, 1) := by decide +kernel
theorem V.dX17_extreme_95 : decode cX17_extreme 95 = .ok (.goto 32, 3) := by decide +kernel
theorem V.dX17_extreme_98 : decode cX17_extreme 98 = .ok (.iconst 0, 1) := by decide +kernel
theorem V.dX17_extreme_99 : decode cX17_extreme 99 = .ok (.goto 28, 3) := by decide +kernel
theorem V.dX17_extreme_102 : decode cX17_extreme 102 = .ok (.aload_n 0, 1) := by decide +kernel
theorem V.dX17_extreme_103 : decode cX17_extreme 103 = .ok (.getfield 61, 3) := by decide +kernel
theorem V.dX17_extreme_106 : decode cX17_extreme 106 = .ok (.getfield 921, 3) := by decide +kernel
theorem V.dX17_extreme_109 : decode cX17_extreme 109 = .ok (.ifCond .eq 17, 3) := by decide +kernel
theorem V.dX17_extreme_112 : decode cX17_extreme 112 = .ok (.aload_n 0, 1) := by decide +kernel
theorem V.dX17_extreme_113 : decode cX17_extreme 113 = .ok (.getfield 65, 3) := by decide +kernel
theorem V.dX17_extreme_116 : decode cX17_extreme 116 = .ok (.getfield 921, 3) := by decide +kernel
theorem V.dX17_extreme_119 : decode cX17_extreme 119 = .ok (.ifCond .eq 7, 3) := by decide +kernel
theorem V.dX17_extreme_122 : decode cX17_extreme 122 = .ok (.iconst 1, 1) := by decide +kernel
theorem V.dX17_extreme_123 : decode cX17_extreme 123 = .ok (.goto 4, 3) := by decide +kernel
theorem V.dX17_extreme_126 : decode cX17_extreme 126 = .ok (.iconst 0, 1) := by decide +kernel
theorem V.dX17_extreme_127 : decode cX17_extreme 127 = .ok (.lconst 0, 1) := by decide +kernel
theorem V.dX17_extreme_128 : decode cX17_extreme 128 = .ok (.invokestatic 882, 3) := by decide +kernel
theorem V.dX17_extreme_131 : decode cX17_extreme 131 = .ok (.lreturn, 1) := by decide +kernel
theorem V.dX17_extreme_132 : decode cX17_extreme 132 = .ok (.iload_n 1, 1) := by decide +kernel
theorem V.dX17_extreme_133 : decode cX17_extreme 133 = .ok (.lload_n 2, 1) := by decide +kernel
theorem V.dX17_extreme_134 : decode cX17_extreme 134 = .ok (.invokestatic 874, 3) := by decide +kernel
theorem V.dX17_extreme_137 : decode cX17_extreme 137 = .ok (.iload_n 1, 1) := by decide +kernel
theorem V.dX17_extreme_138 : decode cX17_extreme 138 = .ok (.lload 4, 2) := by decide +kernel
theorem V.dX17_extreme_140 : decode cX17_extreme 140 = .ok (.invokestatic 874, 3) := by decide +kernel
theorem V.dX17_extreme_143 : decode cX17_extreme 143 = .ok (.lcmp, 1) := by decide +kernel
theorem V.dX17_extreme_144 : decode cX17_extreme 144 = .ok (.ifCond .ge 7, 3) := by decide +kernel
theorem V.dX17_extreme_147 : decode cX17_extreme 147 = .ok (.iconst 1, 1) := by decide +kernel
theorem V.dX17_extreme_148 : decode cX17_extreme 148 = .ok (.goto 4, 3) := by decide +kernel
theorem V.dX17_extreme_151 : decode cX17_extreme 151 = .ok (.iconst 0, 1) := by decide +kernel
theorem V.dX17_extreme_152 : decode cX17_extreme 152 = .ok (.iload 6, 2) := by decide +kernel
theorem V.dX17_extreme_154 : decode cX17_extreme 154 = .ok (.if_icmp .ne 7, 3) := by decide +kernel
theorem V.dX17_extreme_157 : decode cX17_extreme 157 = .ok (.lload_n 2, 1) := by decide +kernel
theorem V.dX17_extreme_158 : decode cX17_extreme 158 = .ok (.goto 5, 3) := by decide +kernel
theorem V.dX17_extreme_161 : decode cX17_extreme 161 = .ok (.lload 4, 2) := by decide +kernel
theorem V.dX17_extreme_163 : decode cX17_extreme 163 = .ok (.lreturn, 1) := by decide +kernel
/-! ModuleEngineModel.extreme(IJJZ)J -/
def V.Mdl_extreme_p41  (σ : HS) (x1 : Int32) : Option (Int64 × HS) :=
  cl (Mdl_noneOf σ x1) fun r2 σ1 =>
  some (r2, σ1)
theorem V.gX17_extreme_p41 {X : CX}  (σ : HS) (x1 : Int32) : G X RX17 "extreme" cX17_extreme 7 (some .long) 2 44 enJ 41 [(1, iv x1)] [] σ (Mdl_extreme_p41 σ x1) := by
  unfold Mdl_extreme_p41
  refine g_iload_n 1 0 dX17_extreme_41 rfl rfl ?_
  refine g_callS (fc := fun sς => Mdl_noneOf sς x1) (as := [iv x1]) q4251 mdX17_910 (ctX17_noneOf x1) rfl (Nat.le_of_ble_eq_true rfl) (Nat.le_of_ble_eq_true rfl) (Nat.le_of_ble_eq_true rfl) pu_J dX17_extreme_42 (fun r2 σ1 => ?_)
  exact g_lreturn rfl dX17_extreme_45
def V.Mdl_extreme_p152  (σ : HS) (x2 : Int64) (x4 : Int64) (x6 : Int32) (s0 : Int32) : Option (Int64 × HS) :=
  if s0 = x6 then (
    some (x2, σ))
  else (
    some (x4, σ))
theorem V.gX17_extreme_p152 {X : CX}  (σ : HS) (x2 : Int64) (x4 : Int64) (x6 : Int32) (s0 : Int32) : G X RX17 "extreme" cX17_extreme 7 (some .long) 2 44 enJ 152 [(2, jv x2), (4, jv x4), (6, iv x6)] [iv s0] σ (Mdl_extreme_p152 σ x2 x4 x6 s0) := by
  unfold Mdl_extreme_p152
  refine g_iload 2 dX17_extreme_152 rfl ?_
  refine g_icmp_ne 161 dX17_extreme_154 (by decide) ?_ ?_
  · refine g_lload 1 dX17_extreme_161 rfl ?_
    exact g_lreturn rfl dX17_extreme_163
  · refine g_lload_n 2 0 dX17_extreme_157 rfl rfl ?_
    refine g_goto 163 dX17_extreme_158 (by decide) ?_
    exact g_lreturn rfl dX17_extreme_163
def V.Mdl_extreme_p132  (σ : HS) (x1 : Int32) (x2 : Int64) (x4 : Int64) (x6 : Int32) : Option (Int64 × HS) :=
  cl (Mdl_order σ x1 x2) fun r2 σ1 =>
  cl (Mdl_order σ1 x1 x4) fun r4 σ3 =>
  if r4 ≤ r2 then (
    Mdl_extreme_p152 σ3 x2 x4 x6 (0 : Int32))
  else (
    Mdl_extreme_p152 σ3 x2 x4 x6 (1 : Int32))
theorem V.gX17_extreme_p132 {X : CX}  (σ : HS) (x1 : Int32) (x2 : Int64) (x4 : Int64) (x6 : Int32) : G X RX17 "extreme" cX17_extreme 7 (some .long) 2 44 enJ 132 [(1, iv x1), (2, jv x2), (4, jv x4), (6, iv x6)] [] σ (Mdl_extreme_p132 σ x1 x2 x4 x6) := by
  unfold Mdl_extreme_p132
  refine g_iload_n 1 0 dX17_extreme_132 rfl rfl ?_
  refine g_lload_n 2 1 dX17_extreme_133 rfl rfl ?_
  refine g_callS (fc := fun sς => Mdl_order sς x1 x2) (as := [iv x1, jv x2]) q4204 mdX17_874 (ctX17_order x1 x2) rfl (Nat.le_of_ble_eq_true rfl) (Nat.le_of_ble_eq_true rfl) (Nat.le_of_ble_eq_true rfl) pu_J dX17_extreme_134 (fun r2 σ1 => ?_)
  refine g_iload_n 1 0 dX17_extreme_137 rfl rfl ?_
  refine g_lload 2 dX17_extreme_138 rfl ?_
  refine g_callS (fc := fun sς => Mdl_order sς x1 x4) (as := [iv x1, jv x4]) q4204 mdX17_874 (ctX17_order x1 x4) rfl (Nat.le_of_ble_eq_true rfl) (Nat.le_of_ble_eq_true rfl) (Nat.le_of_ble_eq_true rfl) pu_J dX17_extreme_140 (fun r4 σ3 => ?_)
  refine g_lcmp_ge 151 dX17_extreme_143 dX17_extreme_144 (by decide) ?_ ?_
  · refine g_iconst (v := 0) dX17_extreme_151 (by decide) ?_
    refine G.sub [1, 2, 3] rfl ?_
    exact gX17_extreme_p152 _ _ _ _ _
  · refine g_iconst (v := 1) dX17_extreme_147 (by decide) ?_
    refine g_goto 152 dX17_extreme_148 (by decide) ?_
    refine G.sub [1, 2, 3] rfl ?_
    exact gX17_extreme_p152 _ _ _ _ _
def V.Mdl_extreme_p127  (σ : HS) (s0 : Int32) (s1 : Int32) : Option (Int64 × HS) :=
  cl (Mdl_withSign σ s1 s0 (0 : Int64)) fun r2 σ1 =>
  some (r2, σ1)
theorem V.gX17_extreme_p127 {X : CX}  (σ : HS) (s0 : Int32) (s1 : Int32) : G X RX17 "extreme" cX17_extreme 7 (some .long) 2 44 enJ 127 [] [iv s0, iv s1] σ (Mdl_extreme_p127 σ s0 s1) := by
  unfold Mdl_extreme_p127
  refine g_lconst (v := 0) dX17_extreme_127 (by decide) ?_
  refine g_callS (fc := fun sς => Mdl_withSign sς s1 s0 (0 : Int64)) (as := [iv s1, iv s0, jv (0 : Int64)]) q4257 mdX17_882 (ctX17_withSign s1 s0 (0 : Int64)) rfl (Nat.le_of_ble_eq_true rfl) (Nat.le_of_ble_eq_true rfl) (Nat.le_of_ble_eq_true rfl) pu_J dX17_extreme_128 (fun r2 σ1 => ?_)
  exact g_lreturn rfl dX17_extreme_131
def V.Mdl_extreme_p126  (σ : HS) (s0 : Int32) : Option (Int64 × HS) :=
  Mdl_extreme_p127 σ (0 : Int32) s0
theorem V.gX17_extreme_p126 {X : CX}  (σ : HS) (s0 : Int32) : G X RX17 "extreme" cX17_extreme 7 (some .long) 2 44 enJ 126 [] [iv s0] σ (Mdl_extreme_p126 σ s0) := by
  unfold Mdl_extreme_p126
  refine g_iconst (v := 0) dX17_extreme_126 (by decide) ?_
  exact gX17_extreme_p127 _ _ _
def V.Mdl_extreme_p94  (σ : HS) (s0 : Int32) : Option (Int64 × HS) :=
  Mdl_extreme_p127 σ (1 : Int32) s0
theorem V.gX17_extreme_p94 {X : CX}  (σ : HS) (s0 : Int32) : G X RX17 "extreme" cX17_extreme 7 (some .long) 2 44 enJ 94 [] [iv s0] σ (Mdl_extreme_p94 σ s0) := by
  unfold Mdl_extreme_p94
  refine g_iconst (v := 1) dX17_extreme_94 (by decide) ?_
  refine g_goto 127 dX17_extreme_95 (by decide) ?_
  exact gX17_extreme_p127 _ _ _
def V.Mdl_extreme (σ : HS) (x0 : Nat) (x1 : Int32) (x2 : Int64) (x4 : Int64) (x6 : Int32) : Option (Int64 × HS) :=
  ck (tg σ x0 = 18) <|
  ck (tg σ (gR σ x0 34) = 20) <| cl (Rea_read σ (gR σ x0 34) x1 x2) fun _ σ1 =>
  ck (tg σ1 x0 = 18) <|
  ck (tg σ1 (gR σ1 x0 35) = 20) <| cl (Rea_read σ1 (gR σ1 x0 35) x1 x4) fun _ σ2 =>
  ck (tg σ2 x0 = 18) <|
  ck (tg σ2 (gR σ2 x0 34) = 20) <|
  if (gI σ2 (gR σ2 x0 34) 1) = (3 : Int32) then (
    Mdl_extreme_p41 σ2 x1)
  else (
    ck (tg σ2 x0 = 18) <|
    ck (tg σ2 (gR σ2 x0 35) = 20) <|
    if (gI σ2 (gR σ2 x0 35) 1) = (3 : Int32) then (
      Mdl_extreme_p41 σ2 x1)
    else (
      ck (tg σ2 x0 = 18) <|
      ck (tg σ2 (gR σ2 x0 34) = 20) <|
      if (gI σ2 (gR σ2 x0 34) 1) = (1 : Int32) then (
        ck (tg σ2 x0 = 18) <|
        ck (tg σ2 (gR σ2 x0 35) = 20) <|
        if (gI σ2 (gR σ2 x0 35) 1) = (1 : Int32) then (
          if x6 = 0 then (
            ck (tg σ2 x0 = 18) <|
            ck (tg σ2 (gR σ2 x0 34) = 20) <|
            if (gI σ2 (gR σ2 x0 34) 0) = 0 then (
              Mdl_extreme_p126 σ2 x1)
            else (
              ck (tg σ2 x0 = 18) <|
              ck (tg σ2 (gR σ2 x0 35) = 20) <|
              if (gI σ2 (gR σ2 x0 35) 0) = 0 then (
                Mdl_extreme_p126 σ2 x1)
              else (
                Mdl_extreme_p127 σ2 (1 : Int32) x1)))
          else (
            ck (tg σ2 x0 = 18) <|
            ck (tg σ2 (gR σ2 x0 34) = 20) <|
            if (gI σ2 (gR σ2 x0 34) 0) = 0 then (
              ck (tg σ2 x0 = 18) <|
              ck (tg σ2 (gR σ2 x0 35) = 20) <|
              if (gI σ2 (gR σ2 x0 35) 0) = 0 then (
                Mdl_extreme_p127 σ2 (0 : Int32) x1)
              else (
                Mdl_extreme_p94 σ2 x1))
            else (
              Mdl_extreme_p94 σ2 x1)))
        else (
          Mdl_extreme_p132 σ2 x1 x2 x4 x6))
      else (
        Mdl_extreme_p132 σ2 x1 x2 x4 x6)))
theorem V.ctX17_extreme (x0 : Nat) (x1 : Int32) (x2 : Int64) (x4 : Int64) (x6 : Int32) : Ct yX17_extreme  cX17_extreme 7 (some .long) 2 44 eJ [av x0, iv x1, jv x2, jv x4, iv x6] (fun σ => Mdl_extreme σ x0 x1 x2 x4 x6) := by
  refine Ct.of (own := RX17) (nm := "extreme") (desc := "(IJJZ)J") rfl (by decide) (Nat.le_of_ble_eq_true rfl) (by decide) (fun X σ => ?_)
  show G X RX17 "extreme" cX17_extreme 7 (some .long) 2 44 enJ 0 [(0, av x0), (1, iv x1), (2, jv x2), (4, jv x4), (6, iv x6)] [] σ (Mdl_extreme σ x0 x1 x2 x4 x6)
  unfold Mdl_extreme
  refine g_aload_n 0 0 dX17_extreme_0 rfl rfl ?_
  refine g_getR fdX17_61 dX17_extreme_1 ?_
  refine g_iload_n 1 1 dX17_extreme_4 rfl rfl ?_
  refine g_lload_n 2 2 dX17_extreme_5 rfl rfl ?_
  refine g_callV (fc := fun sς => Rea_read sς (gR σ x0 34) x1 x2) (ci := 19) (as := [iv x1, jv x2]) rfl rfl rfl q4200 q4201 mdX17_868 (ctX19_read (gR σ x0 34) x1 x2) rfl (Nat.le_of_ble_eq_true rfl) (Nat.le_of_ble_eq_true rfl) (Nat.le_of_ble_eq_true rfl) pu_V dX17_extreme_6 (fun _ σ1 => ?_)
  refine g_aload_n 0 0 dX17_extreme_9 rfl rfl ?_
  refine g_getR fdX17_65 dX17_extreme_10 ?_
  refine g_iload_n 1 1 dX17_extreme_13 rfl rfl ?_
  refine g_lload 3 dX17_extreme_14 rfl ?_
  refine g_callV (fc := fun sς => Rea_read sς (gR σ1 x0 35) x1 x4) (ci := 19) (as := [iv x1, jv x4]) rfl rfl rfl q4200 q4201 mdX17_868 (ctX19_read (gR σ1 x0 35) x1 x4) rfl (Nat.le_of_ble_eq_true rfl) (Nat.le_of_ble_eq_true rfl) (Nat.le_of_ble_eq_true rfl) pu_V dX17_extreme_16 (fun _ σ2 => ?_)
  refine g_aload_n 0 0 dX17_extreme_19 rfl rfl ?_
  refine g_getR fdX17_61 dX17_extreme_20 ?_
  refine g_getI fdX17_871 dX17_extreme_23 ?_
  refine g_iconst (v := 3) dX17_extreme_26 (by decide) ?_
  refine g_icmp_eq 41 dX17_extreme_27 (by decide) ?_ ?_
  · refine G.sub [1] rfl ?_
    exact gX17_extreme_p41 _ _
  · refine g_aload_n 0 0 dX17_extreme_30 rfl rfl ?_
    refine g_getR fdX17_65 dX17_extreme_31 ?_
    refine g_getI fdX17_871 dX17_extreme_34 ?_
    refine g_iconst (v := 3) dX17_extreme_37 (by decide) ?_
    refine g_icmp_ne 46 dX17_extreme_38 (by decide) ?_ ?_
    · refine g_aload_n 0 0 dX17_extreme_46 rfl rfl ?_
      refine g_getR fdX17_61 dX17_extreme_47 ?_
      refine g_getI fdX17_871 dX17_extreme_50 ?_
      refine g_iconst (v := 1) dX17_extreme_53 (by decide) ?_
      refine g_icmp_ne 132 dX17_extreme_54 (by decide) ?_ ?_
      · refine G.sub [1, 2, 3, 4] rfl ?_
        exact gX17_extreme_p132 _ _ _ _ _
      · refine g_aload_n 0 0 dX17_extreme_57 rfl rfl ?_
        refine g_getR fdX17_65 dX17_extreme_58 ?_
        refine g_getI fdX17_871 dX17_extreme_61 ?_
        refine g_iconst (v := 1) dX17_extreme_64 (by decide) ?_
        refine g_icmp_ne 132 dX17_extreme_65 (by decide) ?_ ?_
        · refine G.sub [1, 2, 3, 4] rfl ?_
          exact gX17_extreme_p132 _ _ _ _ _
        · refine g_iload_n 1 1 dX17_extreme_68 rfl rfl ?_
          refine g_iload 4 dX17_extreme_69 rfl ?_
          refine g_if_eq 102 dX17_extreme_71 (by decide) ?_ ?_
          · refine g_aload_n 0 0 dX17_extreme_102 rfl rfl ?_
            refine g_getR fdX17_61 dX17_extreme_103 ?_
            refine g_getI fdX17_921 dX17_extreme_106 ?_
            refine g_if_eq 126 dX17_extreme_109 (by decide) ?_ ?_
            · refine G.sub [] rfl ?_
              exact gX17_extreme_p126 _ _
            · refine g_aload_n 0 0 dX17_extreme_112 rfl rfl ?_
              refine g_getR fdX17_65 dX17_extreme_113 ?_
              refine g_getI fdX17_921 dX17_extreme_116 ?_
              refine g_if_eq 126 dX17_extreme_119 (by decide) ?_ ?_
              · refine G.sub [] rfl ?_
                exact gX17_extreme_p126 _ _
              · refine g_iconst (v := 1) dX17_extreme_122 (by decide) ?_
                refine g_goto 127 dX17_extreme_123 (by decide) ?_
                refine G.sub [] rfl ?_
                exact gX17_extreme_p127 _ _ _
          · refine g_aload_n 0 0 dX17_extreme_74 rfl rfl ?_
            refine g_getR fdX17_61 dX17_extreme_75 ?_
            refine g_getI fdX17_921 dX17_extreme_78 ?_
            refine g_if_ne 94 dX17_extreme_81 (by decide) ?_ ?_
            · refine G.sub [] rfl ?_
              exact gX17_extreme_p94 _ _
            · refine g_aload_n 0 0 dX17_extreme_84 rfl rfl ?_
              refine g_getR fdX17_65 dX17_extreme_85 ?_
              refine g_getI fdX17_921 dX17_extreme_88 ?_
              refine g_if_eq 98 dX17_extreme_91 (by decide) ?_ ?_
              · refine g_iconst (v := 0) dX17_extreme_98 (by decide) ?_
                refine g_goto 127 dX17_extreme_99 (by decide) ?_
                refine G.sub [] rfl ?_
                exact gX17_extreme_p127 _ _ _
              · refine G.sub [] rfl ?_
                exact gX17_extreme_p94 _ _
    · refine G.sub [1] rfl ?_
      exact gX17_extreme_p41 _ _
theorem V.dX17_real_0 : decode cX17_real 0 = .ok (.iload_n 1, 1) := by decide +kernel
theorem V.dX17_real_1 : decode cX17_real 1 = .ok (.tableswitch 160 0 12 #[67, 78, 85, 85, 85, 85, 95, 102, 102, 122, 131, 140, 140], 67) := by decide +kernel
theorem V.dX17_real_68 : decode cX17_real 68 = .ok (.lload_n 3, 1) := by decide +kernel
theorem V.dX17_real_69 : decode cX17_real 69 = .ok (.iload_n 2, 1) := by decide +kernel
theorem V.dX17_real_70 : decode cX17_real 70 = .ok (.invokestatic 865, 3) := by decide +kernel
theorem V.dX17_real_73 : decode cX17_real 73 = .ok (.ldc2_w 268, 3) := by decide +kernel
theorem V.dX17_real_76 : decode cX17_real 76 = .ok (.lxor, 1) := by decide +kernel
theorem V.dX17_real_77 : decode cX17_real 77 = .ok (.land, 1) := by decide +kernel
theorem V.dX17_real_78 : decode cX17_real 78 = .ok (.lreturn, 1) := by decide +kernel
theorem V.dX17_real_79 : decode cX17_real 79 = .ok (.lload_n 3, 1) := by decide +kernel
theorem V.dX17_real_80 : decode cX17_real 80 = .ok (.iload_n 2, 1) := by decide +kernel
theorem V.dX17_real_81 : decode cX17_real 81 = .ok (.invokestatic 865, 3) := by decide +kernel
theorem V.dX17_real_84 : decode cX17_real 84 = .ok (.lxor, 1) := by decide +kernel
theorem V.dX17_real_85 : decode cX17_real 85 = .ok (.lreturn, 1) := by decide +kernel
theorem V.dX17_real_86 : decode cX17_real 86 = .ok (.aload_n 0, 1) := by decide +kernel
theorem V.dX17_real_87 : decode cX17_real 87 = .ok (.iload_n 1, 1) := by decide +kernel
theorem V.dX17_real_88 : decode cX17_real 88 = .ok (.iconst 2, 1) := by decide +kernel
theorem V.dX17_real_89 : decode cX17_real 89 = .ok (.isub, 1) := by decide +kernel
theorem V.dX17_real_90 : decode cX17_real 90 = .ok (.iload_n 2, 1) := by decide +kernel
theorem V.dX17_real_91 : decode cX17_real 91 = .ok (.lload_n 3, 1) := by decide +kernel
theorem V.dX17_real_92 : decode cX17_real 92 = .ok (.invokevirtual 891, 3) := by decide +kernel
theorem V.dX17_real_95 : decode cX17_real 95 = .ok (.lreturn, 1) := by decide +kernel
theorem V.dX17_real_96 : decode cX17_real 96 = .ok (.aload_n 0, 1) := by decide +kernel
theorem V.dX17_real_97 : decode cX17_real 97 = .ok (.iload_n 2, 1) := by decide +kernel
theorem V.dX17_real_98 : decode cX17_real 98 = .ok (.lload_n 3, 1) := by decide +kernel
theorem V.dX17_real_99 : decode cX17_real 99 = .ok (.invokevirtual 894, 3) := by decide +kernel
theorem V.dX17_real_102 : decode cX17_real 102 = .ok (.lreturn, 1) := by decide +kernel
theorem V.dX17_real_103 : decode cX17_real 103 = .ok (.aload_n 0, 1) := by decide +kernel
theorem V.dX17_real_104 : decode cX17_real 104 = .ok (.iload_n 2, 1) := by decide +kernel
theorem V.dX17_real_105 : decode cX17_real 105 = .ok (.lload_n 3, 1) := by decide +kernel
theorem V.dX17_real_106 : decode cX17_real 106 = .ok (.lload 5, 2) := by decide +kernel
theorem V.dX17_real_108 : decode cX17_real 108 = .ok (.iload_n 1, 1) := by decide +kernel
theorem V.dX17_real_109 : decode cX17_real 109 = .ok (.bipush 8, 2) := by decide +kernel
theorem V.dX17_real_111 : decode cX17_real 111 = .ok (.if_icmp .ne 7, 3) := by decide +kernel
theorem V.dX17_real_114 : decode cX17_real 114 = .ok (.iconst 1, 1) := by decide +kernel
theorem V.dX17_real_115 : decode cX17_real 115 = .ok (.goto 4, 3) := by decide +kernel
theorem V.dX17_real_118 : decode cX17_real 118 = .ok (.iconst 0, 1) := by decide +kernel
theorem V.dX17_real_119 : decode cX17_real 119 = .ok (.invokevirtual 897, 3) := by decide +kernel
theorem V.dX17_real_122 : decode cX17_real 122 = .ok (.lreturn, 1) := by decide +kernel
theorem V.dX17_real_123 : decode cX17_real 123 = .ok (.aload_n 0, 1) := by decide +kernel
theorem V.dX17_real_124 : decode cX17_real 124 = .ok (.iload_n 2, 1) := by decide +kernel
theorem V.dX17_real_125 : decode cX17_real 125 = .ok (.lload_n 3, 1) := by decide +kernel
theorem V.dX17_real_126 : decode cX17_real 126 = .ok (.lload 5, 2) := by decide +kernel
theorem V.dX17_real_128 : decode cX17_real 128 = .ok (.invokevirtual 901, 3) := by decide +kernel
theorem V.dX17_real_131 : decode cX17_real 131 = .ok (.lreturn, 1) := by decide +kernel
theorem V.dX17_real_132 : decode cX17_real 132 = .ok (.aload_n 0, 1) := by decide +kernel
theorem V.dX17_real_133 : decode cX17_real 133 = .ok (.iload_n 2, 1) := by decide +kernel
theorem V.dX17_real_134 : decode cX17_real 134 = .ok (.lload_n 3, 1) := by decide +kernel
theorem V.dX17_real_135 : decode cX17_real 135 = .ok (.lload 5, 2) := by decide +kernel
theorem V.dX17_real_137 : decode cX17_real 137 = .ok (.invokevirtual 904, 3) := by decide +kernel
theorem V.dX17_real_140 : decode cX17_real 140 = .ok (.lreturn, 1) := by decide +kernel
theorem V.dX17_real_141 : decode cX17_real 141 = .ok (.aload_n 0, 1) := by decide +kernel
theorem V.dX17_real_142 : decode cX17_real 142 = .ok (.iload_n 2, 1) := by decide +kernel
theorem V.dX17_real_143 : decode cX17_real 143 = .ok (.lload_n 3, 1) := by decide +kernel
theorem V.dX17_real_144 : decode cX17_real 144 = .ok (.lload 5, 2) := by decide +kernel
theorem V.dX17_real_146 : decode cX17_real 146 = .ok (.iload_n 1, 1) := by decide +kernel
theorem V.dX17_real_147 : decode cX17_real 147 = .ok (.bipush 11, 2) := by decide +kernel
theorem V.dX17_real_149 : decode cX17_real 149 = .ok (.if_icmp .ne 7, 3) := by decide +kernel
theorem V.dX17_real_152 : decode cX17_real 152 = .ok (.iconst 1, 1) := by decide +kernel
theorem V.dX17_real_153 : decode cX17_real 153 = .ok (.goto 4, 3) := by decide +kernel
theorem V.dX17_real_156 : decode cX17_real 156 = .ok (.iconst 0, 1) := by decide +kernel
theorem V.dX17_real_157 : decode cX17_real 157 = .ok (.invokevirtual 907, 3) := by decide +kernel
theorem V.dX17_real_160 : decode cX17_real 160 = .ok (.lreturn, 1) := by decide +kernel
theorem V.dX17_real_161 : decode cX17_real 161 = .ok (.lload_n 3, 1) := by decide +kernel
theorem V.dX17_real_162 : decode cX17_real 162 = .ok (.iload_n 2, 1) := by decide +kernel
theorem V.dX17_real_163 : decode cX17_real 163 = .ok (.invokestatic 865, 3) := by decide +kernel
theorem V.dX17_real_166 : decode cX17_real 166 = .ok (.ldc2_w 268, 3) := by decide +kernel
theorem V.dX17_real_169 : decode cX17_real 169 = .ok (.lxor, 1) := by decide +kernel
theorem V.dX17_real_170 : decode cX17_real 170 = .ok (.land, 1) := by decide +kernel
theorem V.dX17_real_171 : decode cX17_real 171 = .ok (.lload 5, 2) := by decide +kernel
theorem V.dX17_real_173 : decode cX17_real 173 = .ok (.iload_n 2, 1) := by decide +kernel
theorem V.dX17_real_174 : decode cX17_real 174 = .ok (.invokestatic 865, 3) := by decide +kernel
theorem V.dX17_real_177 : decode cX17_real 177 = .ok (.land, 1) := by decide +kernel
theorem V.dX17_real_178 : decode cX17_real 178 = .ok (.lor, 1) := by decide +kernel
theorem V.dX17_real_179 : decode cX17_real 179 = .ok (.lreturn, 1) := by decide +kernel
theorem V.mdX17_894 : MD RX17 894 yX17_root cX17_root 14 (some .long) 2 := ⟨Or.inl q4271, q377, q4274, by decide, by decide, by decide +kernel⟩
theorem V.mdX17_901 : MD RX17 901 yX17_product cX17_product 23 (some .long) 3 := ⟨Or.inl q4284, q377, q4287, by decide, by decide, by decide +kernel⟩
theorem V.mdX17_904 : MD RX17 904 yX17_quotient cX17_quotient 15 (some .long) 3 := ⟨Or.inl q4289, q377, q4292, by decide, by decide, by decide +kernel⟩
theorem V.mdX17_891 : MD RX17 891 yX17_wholeOf cX17_wholeOf 13 (some .long) 3 := ⟨Or.inl q4246, q377, q4249, by decide, by decide, by decide +kernel⟩
theorem V.mdX17_897 : MD RX17 897 yX17_sum cX17_sum 7 (some .long) 4 := ⟨Or.inl q4277, q377, q4280, by decide, by decide, by decide +kernel⟩
theorem V.mdX17_907 : MD RX17 907 yX17_extreme cX17_extreme 7 (some .long) 4 := ⟨Or.inl q4293, q377, q4296, by decide, by decide, by decide +kernel⟩
/-! ModuleEngineModel.real(IIJJ)J -/
def V.Mdl_real_p86  (σ : HS) (x0 : Nat) (x1 : Int32) (x2 : Int32) (x3 : Int64) : Option (Int64 × HS) :=
  ck (tg σ x0 = 18) <| cl (Mdl_wholeOf σ x0 (x1 - (2 : Int32)) x2 x3) fun r2 σ1 =>
  some (r2, σ1)
theorem V.gX17_real_p86 {X : CX}  (σ : HS) (x0 : Nat) (x1 : Int32) (x2 : Int32) (x3 : Int64) : G X RX17 "real" cX17_real 7 (some .long) 5 139 enJ 86 [(0, av x0), (1, iv x1), (2, iv x2), (3, jv x3)] [] σ (Mdl_real_p86 σ x0 x1 x2 x3) := by
  unfold Mdl_real_p86
  refine g_aload_n 0 0 dX17_real_86 rfl rfl ?_
  refine g_iload_n 1 1 dX17_real_87 rfl rfl ?_
  refine g_iconst (v := 2) dX17_real_88 (by decide) ?_
  refine g_isub dX17_real_89 ?_
  refine g_iload_n 2 2 dX17_real_90 rfl rfl ?_
  refine g_lload_n 3 3 dX17_real_91 rfl rfl ?_
  refine g_callV (fc := fun sς => Mdl_wholeOf sς x0 (x1 - (2 : Int32)) x2 x3) (ci := 17) (as := [iv (x1 - (2 : Int32)), iv x2, jv x3]) rfl rfl rfl q4248 qs335 mdX17_891 (ctX17_wholeOf x0 (x1 - (2 : Int32)) x2 x3) rfl (Nat.le_of_ble_eq_true rfl) (Nat.le_of_ble_eq_true rfl) (Nat.le_of_ble_eq_true rfl) pu_J dX17_real_92 (fun r2 σ1 => ?_)
  exact g_lreturn rfl dX17_real_95
def V.Mdl_real_p119  (σ : HS) (s0 : Int32) (s1 : Int64) (s2 : Int64) (s3 : Int32) (s4 : Nat) : Option (Int64 × HS) :=
  ck (tg σ s4 = 18) <| cl (Mdl_sum σ s4 s3 s2 s1 s0) fun r2 σ1 =>
  some (r2, σ1)
theorem V.gX17_real_p119 {X : CX}  (σ : HS) (s0 : Int32) (s1 : Int64) (s2 : Int64) (s3 : Int32) (s4 : Nat) : G X RX17 "real" cX17_real 7 (some .long) 5 139 enJ 119 [] [iv s0, jv s1, jv s2, iv s3, av s4] σ (Mdl_real_p119 σ s0 s1 s2 s3 s4) := by
  unfold Mdl_real_p119
  refine g_callV (fc := fun sς => Mdl_sum sς s4 s3 s2 s1 s0) (ci := 17) (as := [iv s3, jv s2, jv s1, iv s0]) rfl rfl rfl q4279 qs337 mdX17_897 (ctX17_sum s4 s3 s2 s1 s0) rfl (Nat.le_of_ble_eq_true rfl) (Nat.le_of_ble_eq_true rfl) (Nat.le_of_ble_eq_true rfl) pu_J dX17_real_119 (fun r2 σ1 => ?_)
  exact g_lreturn rfl dX17_real_122
def V.Mdl_real_p103  (σ : HS) (x0 : Nat) (x1 : Int32) (x2 : Int32) (x3 : Int64) (x5 : Int64) : Option (Int64 × HS) :=
  if x1 = (8 : Int32) then (
    Mdl_real_p119 σ (1 : Int32) x5 x3 x2 x0)
  else (
    Mdl_real_p119 σ (0 : Int32) x5 x3 x2 x0)
theorem V.gX17_real_p103 {X : CX}  (σ : HS) (x0 : Nat) (x1 : Int32) (x2 : Int32) (x3 : Int64) (x5 : Int64) : G X RX17 "real" cX17_real 7 (some .long) 5 139 enJ 103 [(0, av x0), (1, iv x1), (2, iv x2), (3, jv x3), (5, jv x5)] [] σ (Mdl_real_p103 σ x0 x1 x2 x3 x5) := by
  unfold Mdl_real_p103
  refine g_aload_n 0 0 dX17_real_103 rfl rfl ?_
  refine g_iload_n 2 2 dX17_real_104 rfl rfl ?_
  refine g_lload_n 3 3 dX17_real_105 rfl rfl ?_
  refine g_lload 4 dX17_real_106 rfl ?_
  refine g_iload_n 1 1 dX17_real_108 rfl rfl ?_
  refine g_bipush (v := 8) dX17_real_109 (by decide) ?_
  refine g_icmp_ne 118 dX17_real_111 (by decide) ?_ ?_
  · refine g_iconst (v := 0) dX17_real_118 (by decide) ?_
    refine G.sub [] rfl ?_
    exact gX17_real_p119 _ _ _ _ _ _
  · refine g_iconst (v := 1) dX17_real_114 (by decide) ?_
    refine g_goto 119 dX17_real_115 (by decide) ?_
    refine G.sub [] rfl ?_
    exact gX17_real_p119 _ _ _ _ _ _
def V.Mdl_real_p157  (σ : HS) (s0 : Int32) (s1 : Int64) (s2 : Int64) (s3 : Int32) (s4 : Nat) : Option (Int64 × HS) :=
  ck (tg σ s4 = 18) <| cl (Mdl_extreme σ s4 s3 s2 s1 s0) fun r2 σ1 =>
  some (r2, σ1)
theorem V.gX17_real_p157 {X : CX}  (σ : HS) (s0 : Int32) (s1 : Int64) (s2 : Int64) (s3 : Int32) (s4 : Nat) : G X RX17 "real" cX17_real 7 (some .long) 5 139 enJ 157 [] [iv s0, jv s1, jv s2, iv s3, av s4] σ (Mdl_real_p157 σ s0 s1 s2 s3 s4) := by
  unfold Mdl_real_p157
  refine g_callV (fc := fun sς => Mdl_extreme sς s4 s3 s2 s1 s0) (ci := 17) (as := [iv s3, jv s2, jv s1, iv s0]) rfl rfl rfl q4295 qs340 mdX17_907 (ctX17_extreme s4 s3 s2 s1 s0) rfl (Nat.le_of_ble_eq_true rfl) (Nat.le_of_ble_eq_true rfl) (Nat.le_of_ble_eq_true rfl) pu_J dX17_real_157 (fun r2 σ1 => ?_)
  exact g_lreturn rfl dX17_real_160
def V.Mdl_real_p141  (σ : HS) (x0 : Nat) (x1 : Int32) (x2 : Int32) (x3 : Int64) (x5 : Int64) : Option (Int64 × HS) :=
  if x1 = (11 : Int32) then (
    Mdl_real_p157 σ (1 : Int32) x5 x3 x2 x0)
  else (
    Mdl_real_p157 σ (0 : Int32) x5 x3 x2 x0)
theorem V.gX17_real_p141 {X : CX}  (σ : HS) (x0 : Nat) (x1 : Int32) (x2 : Int32) (x3 : Int64) (x5 : Int64) : G X RX17 "real" cX17_real 7 (some .long) 5 139 enJ 141 [(0, av x0), (1, iv x1), (2, iv x2), (3, jv x3), (5, jv x5)] [] σ (Mdl_real_p141 σ x0 x1 x2 x3 x5) := by
  unfold Mdl_real_p141
  refine g_aload_n 0 0 dX17_real_141 rfl rfl ?_
  refine g_iload_n 2 2 dX17_real_142 rfl rfl ?_
  refine g_lload_n 3 3 dX17_real_143 rfl rfl ?_
  refine g_lload 4 dX17_real_144 rfl ?_
  refine g_iload_n 1 1 dX17_real_146 rfl rfl ?_
  refine g_bipush (v := 11) dX17_real_147 (by decide) ?_
  refine g_icmp_ne 156 dX17_real_149 (by decide) ?_ ?_
  · refine g_iconst (v := 0) dX17_real_156 (by decide) ?_
    refine G.sub [] rfl ?_
    exact gX17_real_p157 _ _ _ _ _ _
  · refine g_iconst (v := 1) dX17_real_152 (by decide) ?_
    refine g_goto 157 dX17_real_153 (by decide) ?_
    refine G.sub [] rfl ?_
    exact gX17_real_p157 _ _ _ _ _ _
def V.Mdl_real (σ : HS) (x0 : Nat) (x1 : Int32) (x2 : Int32) (x3 : Int64) (x5 : Int64) : Option (Int64 × HS) :=
  swx x1 [
    (0, (
      cl (Mdl_signOf σ x2) fun r2 σ1 =>
      some (x3 &&& (r2 ^^^ (-1 : Int64)), σ1))),
    (1, (
      cl (Mdl_signOf σ x2) fun r4 σ3 =>
      some (x3 ^^^ r4, σ3))),
    (2, (
      Mdl_real_p86 σ x0 x1 x2 x3)),
    (3, (
      Mdl_real_p86 σ x0 x1 x2 x3)),
    (4, (
      Mdl_real_p86 σ x0 x1 x2 x3)),
    (5, (
      Mdl_real_p86 σ x0 x1 x2 x3)),
    (6, (
      ck (tg σ x0 = 18) <| cl (Mdl_root σ x0 x2 x3) fun r6 σ5 =>
      some (r6, σ5))),
    (7, (
      Mdl_real_p103 σ x0 x1 x2 x3 x5)),
    (8, (
      Mdl_real_p103 σ x0 x1 x2 x3 x5)),
    (9, (
      ck (tg σ x0 = 18) <| cl (Mdl_product σ x0 x2 x3 x5) fun r8 σ7 =>
      some (r8, σ7))),
    (10, (
      ck (tg σ x0 = 18) <| cl (Mdl_quotient σ x0 x2 x3 x5) fun r10 σ9 =>
      some (r10, σ9))),
    (11, (
      Mdl_real_p141 σ x0 x1 x2 x3 x5)),
    (12, (
      Mdl_real_p141 σ x0 x1 x2 x3 x5))
    ] (
    cl (Mdl_signOf σ x2) fun r12 σ11 =>
    cl (Mdl_signOf σ11 x2) fun r14 σ13 =>
    some ((x3 &&& (r12 ^^^ (-1 : Int64))) ||| (x5 &&& r14), σ13))
theorem V.ctX17_real (x0 : Nat) (x1 : Int32) (x2 : Int32) (x3 : Int64) (x5 : Int64) : Ct yX17_real  cX17_real 7 (some .long) 5 139 eJ [av x0, iv x1, iv x2, jv x3, jv x5] (fun σ => Mdl_real σ x0 x1 x2 x3 x5) := by
  refine Ct.of (own := RX17) (nm := "real") (desc := "(IIJJ)J") rfl (by decide) (Nat.le_of_ble_eq_true rfl) (by decide) (fun X σ => ?_)
  show G X RX17 "real" cX17_real 7 (some .long) 5 139 enJ 0 [(0, av x0), (1, iv x1), (2, iv x2), (3, jv x3), (5, jv x5)] [] σ (Mdl_real σ x0 x1 x2 x3 x5)
  unfold Mdl_real
  refine g_iload_n 1 1 dX17_real_0 rfl rfl ?_
  refine g_tsw dX17_real_1 (by decide +kernel) ?_
  refine g_case ex0 (t := 68) (by decide +kernel) ?_ (fun hx => ?_)
  · refine g_lload_n 3 3 dX17_real_68 rfl rfl ?_
    refine g_iload_n 2 2 dX17_real_69 rfl rfl ?_
    refine g_callS (fc := fun sς => Mdl_signOf sς x2) (as := [iv x2]) q4207 mdX17_865 (ctX17_signOf x2) rfl (Nat.le_of_ble_eq_true rfl) (Nat.le_of_ble_eq_true rfl) (Nat.le_of_ble_eq_true rfl) pu_J dX17_real_70 (fun r2 σ1 => ?_)
    refine g_ldc2 q3673 dX17_real_73 ?_
    refine g_lxor dX17_real_76 ?_
    refine g_land dX17_real_77 ?_
    exact g_lreturn rfl dX17_real_78
  refine g_case hx (t := 79) (by decide +kernel) ?_ (fun hx => ?_)
  · refine g_lload_n 3 3 dX17_real_79 rfl rfl ?_
    refine g_iload_n 2 2 dX17_real_80 rfl rfl ?_
    refine g_callS (fc := fun sς => Mdl_signOf sς x2) (as := [iv x2]) q4207 mdX17_865 (ctX17_signOf x2) rfl (Nat.le_of_ble_eq_true rfl) (Nat.le_of_ble_eq_true rfl) (Nat.le_of_ble_eq_true rfl) pu_J dX17_real_81 (fun r4 σ3 => ?_)
    refine g_lxor dX17_real_84 ?_
    exact g_lreturn rfl dX17_real_85
  refine g_case hx (t := 86) (by decide +kernel) ?_ (fun hx => ?_)
  · refine G.sub [0, 1, 2, 3] rfl ?_
    exact gX17_real_p86 _ _ _ _ _
  refine g_case hx (t := 86) (by decide +kernel) ?_ (fun hx => ?_)
  · refine G.sub [0, 1, 2, 3] rfl ?_
    exact gX17_real_p86 _ _ _ _ _
  refine g_case hx (t := 86) (by decide +kernel) ?_ (fun hx => ?_)
  · refine G.sub [0, 1, 2, 3] rfl ?_
    exact gX17_real_p86 _ _ _ _ _
  refine g_case hx (t := 86) (by decide +kernel) ?_ (fun hx => ?_)
  · refine G.sub [0, 1, 2, 3] rfl ?_
    exact gX17_real_p86 _ _ _ _ _
  refine g_case hx (t := 96) (by decide +kernel) ?_ (fun hx => ?_)
  · refine g_aload_n 0 0 dX17_real_96 rfl rfl ?_
    refine g_iload_n 2 2 dX17_real_97 rfl rfl ?_
    refine g_lload_n 3 3 dX17_real_98 rfl rfl ?_
    refine g_callV (fc := fun sς => Mdl_root sς x0 x2 x3) (ci := 17) (as := [iv x2, jv x3]) rfl rfl rfl q4273 qs336 mdX17_894 (ctX17_root x0 x2 x3) rfl (Nat.le_of_ble_eq_true rfl) (Nat.le_of_ble_eq_true rfl) (Nat.le_of_ble_eq_true rfl) pu_J dX17_real_99 (fun r6 σ5 => ?_)
    exact g_lreturn rfl dX17_real_102
  refine g_case hx (t := 103) (by decide +kernel) ?_ (fun hx => ?_)
  · exact gX17_real_p103 _ _ _ _ _ _
  refine g_case hx (t := 103) (by decide +kernel) ?_ (fun hx => ?_)
  · exact gX17_real_p103 _ _ _ _ _ _
  refine g_case hx (t := 123) (by decide +kernel) ?_ (fun hx => ?_)
  · refine g_aload_n 0 0 dX17_real_123 rfl rfl ?_
    refine g_iload_n 2 2 dX17_real_124 rfl rfl ?_
    refine g_lload_n 3 3 dX17_real_125 rfl rfl ?_
    refine g_lload 4 dX17_real_126 rfl ?_
    refine g_callV (fc := fun sς => Mdl_product sς x0 x2 x3 x5) (ci := 17) (as := [iv x2, jv x3, jv x5]) rfl rfl rfl q4286 qs338 mdX17_901 (ctX17_product x0 x2 x3 x5) rfl (Nat.le_of_ble_eq_true rfl) (Nat.le_of_ble_eq_true rfl) (Nat.le_of_ble_eq_true rfl) pu_J dX17_real_128 (fun r8 σ7 => ?_)
    exact g_lreturn rfl dX17_real_131
  refine g_case hx (t := 132) (by decide +kernel) ?_ (fun hx => ?_)
  · refine g_aload_n 0 0 dX17_real_132 rfl rfl ?_
    refine g_iload_n 2 2 dX17_real_133 rfl rfl ?_
    refine g_lload_n 3 3 dX17_real_134 rfl rfl ?_
    refine g_lload 4 dX17_real_135 rfl ?_
    refine g_callV (fc := fun sς => Mdl_quotient sς x0 x2 x3 x5) (ci := 17) (as := [iv x2, jv x3, jv x5]) rfl rfl rfl q4291 qs339 mdX17_904 (ctX17_quotient x0 x2 x3 x5) rfl (Nat.le_of_ble_eq_true rfl) (Nat.le_of_ble_eq_true rfl) (Nat.le_of_ble_eq_true rfl) pu_J dX17_real_137 (fun r10 σ9 => ?_)
    exact g_lreturn rfl dX17_real_140
  refine g_case hx (t := 141) (by decide +kernel) ?_ (fun hx => ?_)
  · exact gX17_real_p141 _ _ _ _ _ _
  refine g_case hx (t := 141) (by decide +kernel) ?_ (fun hx => ?_)
  · exact gX17_real_p141 _ _ _ _ _ _
  refine g_dflt (t := 161) (tswT_d (by decide +kernel) (by decide +kernel) hx) ?_
  refine g_lload_n 3 3 dX17_real_161 rfl rfl ?_
  refine g_iload_n 2 2 dX17_real_162 rfl rfl ?_
  refine g_callS (fc := fun sς => Mdl_signOf sς x2) (as := [iv x2]) q4207 mdX17_865 (ctX17_signOf x2) rfl (Nat.le_of_ble_eq_true rfl) (Nat.le_of_ble_eq_true rfl) (Nat.le_of_ble_eq_true rfl) pu_J dX17_real_163 (fun r12 σ11 => ?_)
  refine g_ldc2 q3673 dX17_real_166 ?_
  refine g_lxor dX17_real_169 ?_
  refine g_land dX17_real_170 ?_
  refine g_lload 4 dX17_real_171 rfl ?_
  refine g_iload_n 2 2 dX17_real_173 rfl rfl ?_
  refine g_callS (fc := fun sς => Mdl_signOf sς x2) (as := [iv x2]) q4207 mdX17_865 (ctX17_signOf x2) rfl (Nat.le_of_ble_eq_true rfl) (Nat.le_of_ble_eq_true rfl) (Nat.le_of_ble_eq_true rfl) pu_J dX17_real_174 (fun r14 σ13 => ?_)
  refine g_land dX17_real_177 ?_
  refine g_lor dX17_real_178 ?_
  exact g_lreturn rfl dX17_real_179
theorem V.dX17_towards_0 : decode cX17_towards 0 = .ok (.aload_n 0, 1) := by decide +kernel
theorem V.dX17_towards_1 : decode cX17_towards 1 = .ok (.getfield 61, 3) := by decide +kernel
theorem V.dX17_towards_4 : decode cX17_towards 4 = .ok (.iload_n 1, 1) := by decide +kernel
theorem V.dX17_towards_5 : decode cX17_towards 5 = .ok (.lload_n 2, 1) := by decide +kernel
theorem V.dX17_towards_6 : decode cX17_towards 6 = .ok (.invokevirtual 868, 3) := by decide +kernel
theorem V.dX17_towards_9 : decode cX17_towards 9 = .ok (.aload_n 0, 1) := by decide +kernel
theorem V.dX17_towards_10 : decode cX17_towards 10 = .ok (.getfield 61, 3) := by decide +kernel
theorem V.dX17_towards_13 : decode cX17_towards 13 = .ok (.getfield 871, 3) := by decide +kernel
theorem V.dX17_towards_16 : decode cX17_towards 16 = .ok (.iconst 3, 1) := by decide +kernel
theorem V.dX17_towards_17 : decode cX17_towards 17 = .ok (.if_icmp .ne 15, 3) := by decide +kernel
theorem V.dX17_towards_20 : decode cX17_towards 20 = .ok (.iload 6, 2) := by decide +kernel
theorem V.dX17_towards_22 : decode cX17_towards 22 = .ok (.ifCond .ne 8, 3) := by decide +kernel
theorem V.dX17_towards_25 : decode cX17_towards 25 = .ok (.aload_n 0, 1) := by decide +kernel
theorem V.dX17_towards_26 : decode cX17_towards 26 = .ok (.iconst 3, 1) := by decide +kernel
theorem V.dX17_towards_27 : decode cX17_towards 27 = .ok (.invokevirtual 847, 3) := by decide +kernel
theorem V.dX17_towards_30 : decode cX17_towards 30 = .ok (.lconst 0, 1) := by decide +kernel
theorem V.dX17_towards_31 : decode cX17_towards 31 = .ok (.lreturn, 1) := by decide +kernel
theorem V.dX17_towards_32 : decode cX17_towards 32 = .ok (.aload_n 0, 1) := by decide +kernel
theorem V.dX17_towards_33 : decode cX17_towards 33 = .ok (.getfield 61, 3) := by decide +kernel
theorem V.dX17_towards_36 : decode cX17_towards 36 = .ok (.getfield 913, 3) := by decide +kernel
theorem V.dX17_towards_39 : decode cX17_towards 39 = .ok (.istore 7, 2) := by decide +kernel
theorem V.dX17_towards_41 : decode cX17_towards 41 = .ok (.aload_n 0, 1) := by decide +kernel
theorem V.dX17_towards_42 : decode cX17_towards 42 = .ok (.getfield 61, 3) := by decide +kernel
theorem V.dX17_towards_45 : decode cX17_towards 45 = .ok (.getfield 871, 3) := by decide +kernel
theorem V.dX17_towards_48 : decode cX17_towards 48 = .ok (.iconst 2, 1) := by decide +kernel
theorem V.dX17_towards_49 : decode cX17_towards 49 = .ok (.if_icmp .eq 37, 3) := by decide +kernel
theorem V.dX17_towards_52 : decode cX17_towards 52 = .ok (.aload_n 0, 1) := by decide +kernel
theorem V.dX17_towards_53 : decode cX17_towards 53 = .ok (.getfield 61, 3) := by decide +kernel
theorem V.dX17_towards_56 : decode cX17_towards 56 = .ok (.getfield 871, 3) := by decide +kernel
theorem V.dX17_towards_59 : decode cX17_towards 59 = .ok (.ifCond .ne 31, 3) := by decide +kernel
theorem V.dX17_towards_62 : decode cX17_towards 62 = .ok (.iload 7, 2) := by decide +kernel
theorem V.dX17_towards_64 : decode cX17_towards 64 = .ok (.ifCond .le 26, 3) := by decide +kernel
theorem V.dX17_towards_67 : decode cX17_towards 67 = .ok (.lconst 0, 1) := by decide +kernel
theorem V.dX17_towards_68 : decode cX17_towards 68 = .ok (.aload_n 0, 1) := by decide +kernel
theorem V.dX17_towards_69 : decode cX17_towards 69 = .ok (.getfield 61, 3) := by decide +kernel
theorem V.dX17_towards_72 : decode cX17_towards 72 = .ok (.getfield 916, 3) := by decide +kernel
theorem V.dX17_towards_75 : decode cX17_towards 75 = .ok (.invokestatic 878, 3) := by decide +kernel
theorem V.dX17_towards_78 : decode cX17_towards 78 = .ok (.iload 7, 2) := by decide +kernel
theorem V.dX17_towards_80 : decode cX17_towards 80 = .ok (.iadd, 1) := by decide +kernel
theorem V.dX17_towards_81 : decode cX17_towards 81 = .ok (.bipush 64, 2) := by decide +kernel
theorem V.dX17_towards_83 : decode cX17_towards 83 = .ok (.if_icmp .le 7, 3) := by decide +kernel
theorem V.dX17_towards_86 : decode cX17_towards 86 = .ok (.iconst 1, 1) := by decide +kernel
theorem V.dX17_towards_87 : decode cX17_towards 87 = .ok (.goto 4, 3) := by decide +kernel
theorem V.dX17_towards_90 : decode cX17_towards 90 = .ok (.iconst 0, 1) := by decide +kernel
theorem V.dX17_towards_91 : decode cX17_towards 91 = .ok (.istore 8, 2) := by decide +kernel
theorem V.dX17_towards_93 : decode cX17_towards 93 = .ok (.aload_n 0, 1) := by decide +kernel
theorem V.dX17_towards_94 : decode cX17_towards 94 = .ok (.getfield 61, 3) := by decide +kernel
theorem V.dX17_towards_97 : decode cX17_towards 97 = .ok (.getfield 871, 3) := by decide +kernel
theorem V.dX17_towards_100 : decode cX17_towards 100 = .ok (.ifCond .ne 15, 3) := by decide +kernel
theorem V.dX17_towards_103 : decode cX17_towards 103 = .ok (.iload 8, 2) := by decide +kernel
theorem V.dX17_towards_105 : decode cX17_towards 105 = .ok (.ifCond .ne 10, 3) := by decide +kernel
theorem V.dX17_towards_108 : decode cX17_towards 108 = .ok (.iload 7, 2) := by decide +kernel
theorem V.dX17_towards_110 : decode cX17_towards 110 = .ok (.bipush (-63), 2) := by decide +kernel
theorem V.dX17_towards_112 : decode cX17_towards 112 = .ok (.if_icmp .ge 7, 3) := by decide +kernel
theorem V.dX17_towards_115 : decode cX17_towards 115 = .ok (.lconst 0, 1) := by decide +kernel
theorem V.dX17_towards_116 : decode cX17_towards 116 = .ok (.goto 32, 3) := by decide +kernel
theorem V.dX17_towards_119 : decode cX17_towards 119 = .ok (.iload 7, 2) := by decide +kernel
theorem V.dX17_towards_121 : decode cX17_towards 121 = .ok (.ifCond .ge 17, 3) := by decide +kernel
theorem V.dX17_towards_124 : decode cX17_towards 124 = .ok (.aload_n 0, 1) := by decide +kernel
theorem V.dX17_towards_125 : decode cX17_towards 125 = .ok (.getfield 61, 3) := by decide +kernel
theorem V.dX17_towards_128 : decode cX17_towards 128 = .ok (.getfield 916, 3) := by decide +kernel
theorem V.dX17_towards_131 : decode cX17_towards 131 = .ok (.iload 7, 2) := by decide +kernel
theorem V.dX17_towards_133 : decode cX17_towards 133 = .ok (.ineg, 1) := by decide +kernel
theorem V.dX17_towards_134 : decode cX17_towards 134 = .ok (.lushr, 1) := by decide +kernel
theorem V.dX17_towards_135 : decode cX17_towards 135 = .ok (.goto 13, 3) := by decide +kernel
theorem V.dX17_towards_138 : decode cX17_towards 138 = .ok (.aload_n 0, 1) := by decide +kernel
theorem V.dX17_towards_139 : decode cX17_towards 139 = .ok (.getfield 61, 3) := by decide +kernel
theorem V.dX17_towards_142 : decode cX17_towards 142 = .ok (.getfield 916, 3) := by decide +kernel
theorem V.dX17_towards_145 : decode cX17_towards 145 = .ok (.iload 7, 2) := by decide +kernel
theorem V.dX17_towards_147 : decode cX17_towards 147 = .ok (.lshl, 1) := by decide +kernel
theorem V.dX17_towards_148 : decode cX17_towards 148 = .ok (.lstore 9, 2) := by decide +kernel
theorem V.dX17_towards_150 : decode cX17_towards 150 = .ok (.lconst 1, 1) := by decide +kernel
theorem V.dX17_towards_151 : decode cX17_towards 151 = .ok (.iload 4, 2) := by decide +kernel
theorem V.dX17_towards_153 : decode cX17_towards 153 = .ok (.iconst 1, 1) := by decide +kernel
theorem V.dX17_towards_154 : decode cX17_towards 154 = .ok (.isub, 1) := by decide +kernel
theorem V.dX17_towards_155 : decode cX17_towards 155 = .ok (.lshl, 1) := by decide +kernel
theorem V.dX17_towards_156 : decode cX17_towards 156 = .ok (.lstore 11, 2) := by decide +kernel
theorem V.dX17_towards_158 : decode cX17_towards 158 = .ok (.iload 8, 2) := by decide +kernel
theorem V.dX17_towards_160 : decode cX17_towards 160 = .ok (.ifCond .ne 76, 3) := by decide +kernel
theorem V.dX17_towards_163 : decode cX17_towards 163 = .ok (.aload_n 0, 1) := by decide +kernel
theorem V.dX17_towards_164 : decode cX17_towards 164 = .ok (.getfield 61, 3) := by decide +kernel
theorem V.dX17_towards_167 : decode cX17_towards 167 = .ok (.getfield 921, 3) := by decide +kernel
theorem V.dX17_towards_170 : decode cX17_towards 170 = .ok (.ifCond .eq 31, 3) := by decide +kernel
theorem V.dX17_towards_173 : decode cX17_towards 173 = .ok (.iload 5, 2) := by decide +kernel
theorem V.dX17_towards_175 : decode cX17_towards 175 = .ok (.ifCond .eq 16, 3) := by decide +kernel
theorem V.dX17_towards_178 : decode cX17_towards 178 = .ok (.lload 11, 2) := by decide +kernel
theorem V.dX17_towards_180 : decode cX17_towards 180 = .ok (.lload 9, 2) := by decide +kernel
theorem V.dX17_towards_182 : decode cX17_towards 182 = .ok (.invokestatic 827, 3) := by decide +kernel
theorem V.dX17_towards_185 : decode cX17_towards 185 = .ok (.ifCond .eq 55, 3) := by decide +kernel
theorem V.dX17_towards_188 : decode cX17_towards 188 = .ok (.goto 48, 3) := by decide +kernel
theorem V.dX17_towards_191 : decode cX17_towards 191 = .ok (.lload 9, 2) := by decide +kernel
theorem V.dX17_towards_193 : decode cX17_towards 193 = .ok (.lconst 0, 1) := by decide +kernel
theorem V.dX17_towards_194 : decode cX17_towards 194 = .ok (.lcmp, 1) := by decide +kernel
theorem V.dX17_towards_195 : decode cX17_towards 195 = .ok (.ifCond .eq 45, 3) := by decide +kernel
theorem V.dX17_towards_198 : decode cX17_towards 198 = .ok (.goto 38, 3) := by decide +kernel
theorem V.dX17_towards_201 : decode cX17_towards 201 = .ok (.iload 5, 2) := by decide +kernel
theorem V.dX17_towards_203 : decode cX17_towards 203 = .ok (.ifCond .eq 16, 3) := by decide +kernel
theorem V.dX17_towards_206 : decode cX17_towards 206 = .ok (.lload 9, 2) := by decide +kernel
theorem V.dX17_towards_208 : decode cX17_towards 208 = .ok (.lload 11, 2) := by decide +kernel
theorem V.dX17_towards_210 : decode cX17_towards 210 = .ok (.invokestatic 827, 3) := by decide +kernel
theorem V.dX17_towards_213 : decode cX17_towards 213 = .ok (.ifCond .ne 27, 3) := by decide +kernel
theorem V.dX17_towards_216 : decode cX17_towards 216 = .ok (.goto 20, 3) := by decide +kernel
theorem V.dX17_towards_219 : decode cX17_towards 219 = .ok (.iload 4, 2) := by decide +kernel
theorem V.dX17_towards_221 : decode cX17_towards 221 = .ok (.bipush 32, 2) := by decide +kernel
theorem V.dX17_towards_223 : decode cX17_towards 223 = .ok (.if_icmp .ne 17, 3) := by decide +kernel
theorem V.dX17_towards_226 : decode cX17_towards 226 = .ok (.lload 9, 2) := by decide +kernel
theorem V.dX17_towards_228 : decode cX17_towards 228 = .ok (.bipush 32, 2) := by decide +kernel
theorem V.dX17_towards_230 : decode cX17_towards 230 = .ok (.lushr, 1) := by decide +kernel
theorem V.dX17_towards_231 : decode cX17_towards 231 = .ok (.lconst 0, 1) := by decide +kernel
theorem V.dX17_towards_232 : decode cX17_towards 232 = .ok (.lcmp, 1) := by decide +kernel
theorem V.dX17_towards_233 : decode cX17_towards 233 = .ok (.ifCond .eq 7, 3) := by decide +kernel
theorem V.dX17_towards_236 : decode cX17_towards 236 = .ok (.iconst 1, 1) := by decide +kernel
theorem V.dX17_towards_237 : decode cX17_towards 237 = .ok (.goto 4, 3) := by decide +kernel
theorem V.dX17_towards_240 : decode cX17_towards 240 = .ok (.iconst 0, 1) := by decide +kernel
theorem V.dX17_towards_241 : decode cX17_towards 241 = .ok (.istore 13, 2) := by decide +kernel
theorem V.dX17_towards_243 : decode cX17_towards 243 = .ok (.iload 13, 2) := by decide +kernel
theorem V.dX17_towards_245 : decode cX17_towards 245 = .ok (.ifCond .eq 13, 3) := by decide +kernel
theorem V.dX17_towards_248 : decode cX17_towards 248 = .ok (.iload 6, 2) := by decide +kernel
theorem V.dX17_towards_250 : decode cX17_towards 250 = .ok (.ifCond .ne 8, 3) := by decide +kernel
theorem V.dX17_towards_253 : decode cX17_towards 253 = .ok (.aload_n 0, 1) := by decide +kernel
theorem V.dX17_towards_254 : decode cX17_towards 254 = .ok (.iconst 2, 1) := by decide +kernel
theorem V.dX17_towards_255 : decode cX17_towards 255 = .ok (.invokevirtual 847, 3) := by decide +kernel
theorem V.dX17_towards_258 : decode cX17_towards 258 = .ok (.aload_n 0, 1) := by decide +kernel
theorem V.dX17_towards_259 : decode cX17_towards 259 = .ok (.getfield 61, 3) := by decide +kernel
theorem V.dX17_towards_262 : decode cX17_towards 262 = .ok (.getfield 921, 3) := by decide +kernel
theorem V.dX17_towards_265 : decode cX17_towards 265 = .ok (.ifCond .eq 9, 3) := by decide +kernel
theorem V.dX17_towards_268 : decode cX17_towards 268 = .ok (.lload 9, 2) := by decide +kernel
theorem V.dX17_towards_270 : decode cX17_towards 270 = .ok (.lneg, 1) := by decide +kernel
theorem V.dX17_towards_271 : decode cX17_towards 271 = .ok (.goto 5, 3) := by decide +kernel
theorem V.dX17_towards_274 : decode cX17_towards 274 = .ok (.lload 9, 2) := by decide +kernel
theorem V.dX17_towards_276 : decode cX17_towards 276 = .ok (.lstore 14, 2) := by decide +kernel
theorem V.dX17_towards_278 : decode cX17_towards 278 = .ok (.iload 13, 2) := by decide +kernel
theorem V.dX17_towards_280 : decode cX17_towards 280 = .ok (.ifCond .eq 45, 3) := by decide +kernel
theorem V.dX17_towards_283 : decode cX17_towards 283 = .ok (.aload_n 0, 1) := by decide +kernel
theorem V.dX17_towards_284 : decode cX17_towards 284 = .ok (.getfield 61, 3) := by decide +kernel
theorem V.dX17_towards_287 : decode cX17_towards 287 = .ok (.getfield 921, 3) := by decide +kernel
theorem V.dX17_towards_290 : decode cX17_towards 290 = .ok (.ifCond .eq 18, 3) := by decide +kernel
theorem V.dX17_towards_293 : decode cX17_towards 293 = .ok (.iload 5, 2) := by decide +kernel
theorem V.dX17_towards_295 : decode cX17_towards 295 = .ok (.ifCond .eq 9, 3) := by decide +kernel
theorem V.dX17_towards_298 : decode cX17_towards 298 = .ok (.lload 11, 2) := by decide +kernel
theorem V.dX17_towards_300 : decode cX17_towards 300 = .ok (.lneg, 1) := by decide +kernel
theorem V.dX17_towards_301 : decode cX17_towards 301 = .ok (.goto 22, 3) := by decide +kernel
theorem V.dX17_towards_304 : decode cX17_towards 304 = .ok (.lconst 0, 1) := by decide +kernel
theorem V.dX17_towards_305 : decode cX17_towards 305 = .ok (.goto 18, 3) := by decide +kernel
theorem V.dX17_towards_308 : decode cX17_towards 308 = .ok (.iload 5, 2) := by decide +kernel
theorem V.dX17_towards_310 : decode cX17_towards 310 = .ok (.ifCond .eq 10, 3) := by decide +kernel
theorem V.dX17_towards_313 : decode cX17_towards 313 = .ok (.lload 11, 2) := by decide +kernel
theorem V.dX17_towards_315 : decode cX17_towards 315 = .ok (.lconst 1, 1) := by decide +kernel
theorem V.dX17_towards_316 : decode cX17_towards 316 = .ok (.lsub, 1) := by decide +kernel
theorem V.dX17_towards_317 : decode cX17_towards 317 = .ok (.goto 6, 3) := by decide +kernel
theorem V.dX17_towards_320 : decode cX17_towards 320 = .ok (.ldc2_w 268, 3) := by decide +kernel
theorem V.dX17_towards_323 : decode cX17_towards 323 = .ok (.lstore 14, 2) := by decide +kernel
theorem V.dX17_towards_325 : decode cX17_towards 325 = .ok (.iload 4, 2) := by decide +kernel
theorem V.dX17_towards_327 : decode cX17_towards 327 = .ok (.bipush 32, 2) := by decide +kernel
theorem V.dX17_towards_329 : decode cX17_towards 329 = .ok (.if_icmp .ne 12, 3) := by decide +kernel
theorem V.dX17_towards_332 : decode cX17_towards 332 = .ok (.lload 14, 2) := by decide +kernel
theorem V.dX17_towards_334 : decode cX17_towards 334 = .ok (.ldc2_w 513, 3) := by decide +kernel
theorem V.dX17_towards_337 : decode cX17_towards 337 = .ok (.land, 1) := by decide +kernel
theorem V.dX17_towards_338 : decode cX17_towards 338 = .ok (.goto 5, 3) := by decide +kernel
theorem V.dX17_towards_341 : decode cX17_towards 341 = .ok (.lload 14, 2) := by decide +kernel
theorem V.dX17_towards_343 : decode cX17_towards 343 = .ok (.lreturn, 1) := by decide +kernel
/-! ModuleEngineModel.towards(IJIZZ)J -/
def V.Mdl_towards_p325  (σ : HS) (x4 : Int32) (x14 : Int64) : Option (Int64 × HS) :=
  if x4 = (32 : Int32) then (
    some (x14 &&& (4294967295 : Int64), σ))
  else (
    some (x14, σ))
theorem V.gX17_towards_p325 {X : CX}  (σ : HS) (x4 : Int32) (x14 : Int64) : G X RX17 "towards" cX17_towards 16 (some .long) 1 28 enJ 325 [(4, iv x4), (14, jv x14)] [] σ (Mdl_towards_p325 σ x4 x14) := by
  unfold Mdl_towards_p325
  refine g_iload 0 dX17_towards_325 rfl ?_
  refine g_bipush (v := 32) dX17_towards_327 (by decide) ?_
  refine g_icmp_ne 341 dX17_towards_329 (by decide) ?_ ?_
  · refine g_lload 1 dX17_towards_341 rfl ?_
    exact g_lreturn rfl dX17_towards_343
  · refine g_lload 1 dX17_towards_332 rfl ?_
    refine g_ldc2 q3756 dX17_towards_334 ?_
    refine g_land dX17_towards_337 ?_
    refine g_goto 343 dX17_towards_338 (by decide) ?_
    exact g_lreturn rfl dX17_towards_343
def V.Mdl_towards_p323  (σ : HS) (x4 : Int32) (s0 : Int64) : Option (Int64 × HS) :=
  Mdl_towards_p325 σ x4 s0
theorem V.gX17_towards_p323 {X : CX}  (σ : HS) (x4 : Int32) (s0 : Int64) : G X RX17 "towards" cX17_towards 16 (some .long) 1 28 enJ 323 [(4, iv x4)] [jv s0] σ (Mdl_towards_p323 σ x4 s0) := by
  unfold Mdl_towards_p323
  refine g_lstore dX17_towards_323 (by decide) rfl ?_
  refine G.sub [1, 0] rfl ?_
  exact gX17_towards_p325 _ _ _
def V.Mdl_towards_p276  (σ : HS) (x0 : Nat) (x4 : Int32) (x5 : Int32) (x11 : Int64) (x13 : Int32) (s0 : Int64) : Option (Int64 × HS) :=
  if x13 = 0 then (
    Mdl_towards_p325 σ x4 s0)
  else (
    ck (tg σ x0 = 18) <|
    ck (tg σ (gR σ x0 34) = 20) <|
    if (gI σ (gR σ x0 34) 0) = 0 then (
      if x5 = 0 then (
        Mdl_towards_p323 σ x4 (-1 : Int64))
      else (
        Mdl_towards_p323 σ x4 (x11 - (1 : Int64))))
    else (
      if x5 = 0 then (
        Mdl_towards_p323 σ x4 (0 : Int64))
      else (
        Mdl_towards_p323 σ x4 (-x11))))
theorem V.gX17_towards_p276 {X : CX}  (σ : HS) (x0 : Nat) (x4 : Int32) (x5 : Int32) (x11 : Int64) (x13 : Int32) (s0 : Int64) : G X RX17 "towards" cX17_towards 16 (some .long) 1 28 enJ 276 [(0, av x0), (4, iv x4), (5, iv x5), (11, jv x11), (13, iv x13)] [jv s0] σ (Mdl_towards_p276 σ x0 x4 x5 x11 x13 s0) := by
  unfold Mdl_towards_p276
  refine g_lstore dX17_towards_276 (by decide) rfl ?_
  refine g_iload 5 dX17_towards_278 rfl ?_
  refine g_if_eq 325 dX17_towards_280 (by decide) ?_ ?_
  · refine G.sub [2, 0] rfl ?_
    exact gX17_towards_p325 _ _ _
  · refine g_aload_n 0 1 dX17_towards_283 rfl rfl ?_
    refine g_getR fdX17_61 dX17_towards_284 ?_
    refine g_getI fdX17_921 dX17_towards_287 ?_
    refine g_if_eq 308 dX17_towards_290 (by decide) ?_ ?_
    · refine g_iload 3 dX17_towards_308 rfl ?_
      refine g_if_eq 320 dX17_towards_310 (by decide) ?_ ?_
      · refine g_ldc2 q3673 dX17_towards_320 ?_
        refine G.sub [2] rfl ?_
        exact gX17_towards_p323 _ _ _
      · refine g_lload 4 dX17_towards_313 rfl ?_
        refine g_lconst (v := 1) dX17_towards_315 (by decide) ?_
        refine g_lsub dX17_towards_316 ?_
        refine g_goto 323 dX17_towards_317 (by decide) ?_
        refine G.sub [2] rfl ?_
        exact gX17_towards_p323 _ _ _
    · refine g_iload 3 dX17_towards_293 rfl ?_
      refine g_if_eq 304 dX17_towards_295 (by decide) ?_ ?_
      · refine g_lconst (v := 0) dX17_towards_304 (by decide) ?_
        refine g_goto 323 dX17_towards_305 (by decide) ?_
        refine G.sub [2] rfl ?_
        exact gX17_towards_p323 _ _ _
      · refine g_lload 4 dX17_towards_298 rfl ?_
        refine g_lneg dX17_towards_300 ?_
        refine g_goto 323 dX17_towards_301 (by decide) ?_
        refine G.sub [2] rfl ?_
        exact gX17_towards_p323 _ _ _
def V.Mdl_towards_p258  (σ : HS) (x0 : Nat) (x4 : Int32) (x5 : Int32) (x9 : Int64) (x11 : Int64) (x13 : Int32) : Option (Int64 × HS) :=
  ck (tg σ x0 = 18) <|
  ck (tg σ (gR σ x0 34) = 20) <|
  if (gI σ (gR σ x0 34) 0) = 0 then (
    Mdl_towards_p276 σ x0 x4 x5 x11 x13 x9)
  else (
    Mdl_towards_p276 σ x0 x4 x5 x11 x13 (-x9))
theorem V.gX17_towards_p258 {X : CX}  (σ : HS) (x0 : Nat) (x4 : Int32) (x5 : Int32) (x9 : Int64) (x11 : Int64) (x13 : Int32) : G X RX17 "towards" cX17_towards 16 (some .long) 1 28 enJ 258 [(0, av x0), (4, iv x4), (5, iv x5), (9, jv x9), (11, jv x11), (13, iv x13)] [] σ (Mdl_towards_p258 σ x0 x4 x5 x9 x11 x13) := by
  unfold Mdl_towards_p258
  refine g_aload_n 0 0 dX17_towards_258 rfl rfl ?_
  refine g_getR fdX17_61 dX17_towards_259 ?_
  refine g_getI fdX17_921 dX17_towards_262 ?_
  refine g_if_eq 274 dX17_towards_265 (by decide) ?_ ?_
  · refine g_lload 3 dX17_towards_274 rfl ?_
    refine G.sub [0, 1, 2, 4, 5] rfl ?_
    exact gX17_towards_p276 _ _ _ _ _ _ _
  · refine g_lload 3 dX17_towards_268 rfl ?_
    refine g_lneg dX17_towards_270 ?_
    refine g_goto 276 dX17_towards_271 (by decide) ?_
    refine G.sub [0, 1, 2, 4, 5] rfl ?_
    exact gX17_towards_p276 _ _ _ _ _ _ _
def V.Mdl_towards_p241  (σ : HS) (x0 : Nat) (x4 : Int32) (x5 : Int32) (x6 : Int32) (x9 : Int64) (x11 : Int64) (s0 : Int32) : Option (Int64 × HS) :=
  if s0 = 0 then (
    Mdl_towards_p258 σ x0 x4 x5 x9 x11 s0)
  else (
    if x6 = 0 then (
      ck (tg σ x0 = 18) <| cl (Mdl_traps σ x0 (2 : Int32)) fun _ σ1 =>
      Mdl_towards_p258 σ1 x0 x4 x5 x9 x11 s0)
    else (
      Mdl_towards_p258 σ x0 x4 x5 x9 x11 s0))
theorem V.gX17_towards_p241 {X : CX}  (σ : HS) (x0 : Nat) (x4 : Int32) (x5 : Int32) (x6 : Int32) (x9 : Int64) (x11 : Int64) (s0 : Int32) : G X RX17 "towards" cX17_towards 16 (some .long) 1 28 enJ 241 [(0, av x0), (4, iv x4), (5, iv x5), (6, iv x6), (9, jv x9), (11, jv x11)] [iv s0] σ (Mdl_towards_p241 σ x0 x4 x5 x6 x9 x11 s0) := by
  unfold Mdl_towards_p241
  refine g_istore dX17_towards_241 (by decide) rfl ?_
  refine g_iload 0 dX17_towards_243 rfl ?_
  refine g_if_eq 258 dX17_towards_245 (by decide) ?_ ?_
  · refine G.sub [1, 2, 3, 5, 6, 0] rfl ?_
    exact gX17_towards_p258 _ _ _ _ _ _ _
  · refine g_iload 4 dX17_towards_248 rfl ?_
    refine g_if_ne 258 dX17_towards_250 (by decide) ?_ ?_
    · refine G.sub [1, 2, 3, 5, 6, 0] rfl ?_
      exact gX17_towards_p258 _ _ _ _ _ _ _
    · refine g_aload_n 0 1 dX17_towards_253 rfl rfl ?_
      refine g_iconst (v := 2) dX17_towards_254 (by decide) ?_
      refine g_callV (fc := fun sς => Mdl_traps sς x0 (2 : Int32)) (ci := 17) (as := [iv (2 : Int32)]) rfl rfl rfl q4226 qs332 mdX17_847 (ctX17_traps x0 (2 : Int32)) rfl (Nat.le_of_ble_eq_true rfl) (Nat.le_of_ble_eq_true rfl) (Nat.le_of_ble_eq_true rfl) pu_V dX17_towards_255 (fun _ σ1 => ?_)
      refine G.sub [1, 2, 3, 5, 6, 0] rfl ?_
      exact gX17_towards_p258 _ _ _ _ _ _ _
def V.Mdl_towards_p236  (σ : HS) (x0 : Nat) (x4 : Int32) (x5 : Int32) (x6 : Int32) (x9 : Int64) (x11 : Int64) : Option (Int64 × HS) :=
  Mdl_towards_p241 σ x0 x4 x5 x6 x9 x11 (1 : Int32)
theorem V.gX17_towards_p236 {X : CX}  (σ : HS) (x0 : Nat) (x4 : Int32) (x5 : Int32) (x6 : Int32) (x9 : Int64) (x11 : Int64) : G X RX17 "towards" cX17_towards 16 (some .long) 1 28 enJ 236 [(0, av x0), (4, iv x4), (5, iv x5), (6, iv x6), (9, jv x9), (11, jv x11)] [] σ (Mdl_towards_p236 σ x0 x4 x5 x6 x9 x11) := by
  unfold Mdl_towards_p236
  refine g_iconst (v := 1) dX17_towards_236 (by decide) ?_
  refine g_goto 241 dX17_towards_237 (by decide) ?_
  exact gX17_towards_p241 _ _ _ _ _ _ _ _
def V.Mdl_towards_p240  (σ : HS) (x0 : Nat) (x4 : Int32) (x5 : Int32) (x6 : Int32) (x9 : Int64) (x11 : Int64) : Option (Int64 × HS) :=
  Mdl_towards_p241 σ x0 x4 x5 x6 x9 x11 (0 : Int32)
theorem V.gX17_towards_p240 {X : CX}  (σ : HS) (x0 : Nat) (x4 : Int32) (x5 : Int32) (x6 : Int32) (x9 : Int64) (x11 : Int64) : G X RX17 "towards" cX17_towards 16 (some .long) 1 28 enJ 240 [(0, av x0), (4, iv x4), (5, iv x5), (6, iv x6), (9, jv x9), (11, jv x11)] [] σ (Mdl_towards_p240 σ x0 x4 x5 x6 x9 x11) := by
  unfold Mdl_towards_p240
  refine g_iconst (v := 0) dX17_towards_240 (by decide) ?_
  exact gX17_towards_p241 _ _ _ _ _ _ _ _
def V.Mdl_towards_p148  (σ : HS) (x0 : Nat) (x4 : Int32) (x5 : Int32) (x6 : Int32) (x8 : Int32) (s0 : Int64) : Option (Int64 × HS) :=
  bn (lshl (1 : Int64) (x4 - (1 : Int32))) fun y1 =>
  if x8 = 0 then (
    ck (tg σ x0 = 18) <|
    ck (tg σ (gR σ x0 34) = 20) <|
    if (gI σ (gR σ x0 34) 0) = 0 then (
      if x5 = 0 then (
        if x4 = (32 : Int32) then (
          if (lushr s0 (32 : Int32)) = (0 : Int64) then (
            Mdl_towards_p240 σ x0 x4 x5 x6 s0 y1)
          else (
            Mdl_towards_p236 σ x0 x4 x5 x6 s0 y1))
        else (
          Mdl_towards_p240 σ x0 x4 x5 x6 s0 y1))
      else (
        cl (Mdl_isBelow σ s0 y1) fun r3 σ2 =>
        if r3 = 0 then (
          Mdl_towards_p236 σ2 x0 x4 x5 x6 s0 y1)
        else (
          Mdl_towards_p240 σ2 x0 x4 x5 x6 s0 y1)))
    else (
      if x5 = 0 then (
        if s0 = (0 : Int64) then (
          Mdl_towards_p240 σ x0 x4 x5 x6 s0 y1)
        else (
          Mdl_towards_p236 σ x0 x4 x5 x6 s0 y1))
      else (
        cl (Mdl_isBelow σ y1 s0) fun r5 σ4 =>
        if r5 = 0 then (
          Mdl_towards_p240 σ4 x0 x4 x5 x6 s0 y1)
        else (
          Mdl_towards_p236 σ4 x0 x4 x5 x6 s0 y1))))
  else (
    Mdl_towards_p236 σ x0 x4 x5 x6 s0 y1)
theorem V.gX17_towards_p148 {X : CX}  (σ : HS) (x0 : Nat) (x4 : Int32) (x5 : Int32) (x6 : Int32) (x8 : Int32) (s0 : Int64) : G X RX17 "towards" cX17_towards 16 (some .long) 1 28 enJ 148 [(0, av x0), (4, iv x4), (5, iv x5), (6, iv x6), (8, iv x8)] [jv s0] σ (Mdl_towards_p148 σ x0 x4 x5 x6 x8 s0) := by
  unfold Mdl_towards_p148
  refine g_lstore dX17_towards_148 (by decide) rfl ?_
  refine g_lconst (v := 1) dX17_towards_150 (by decide) ?_
  refine g_iload 2 dX17_towards_151 rfl ?_
  refine g_iconst (v := 1) dX17_towards_153 (by decide) ?_
  refine g_isub dX17_towards_154 ?_
  refine g_lshl dX17_towards_155 ?_
  refine g_nmJ (fun y1 => ?_)
  refine g_lstore dX17_towards_156 (by decide) rfl ?_
  refine g_iload 6 dX17_towards_158 rfl ?_
  refine g_if_ne 236 dX17_towards_160 (by decide) ?_ ?_
  · refine G.sub [2, 3, 4, 5, 1, 0] rfl ?_
    exact gX17_towards_p236 _ _ _ _ _ _ _
  · refine g_aload_n 0 2 dX17_towards_163 rfl rfl ?_
    refine g_getR fdX17_61 dX17_towards_164 ?_
    refine g_getI fdX17_921 dX17_towards_167 ?_
    refine g_if_eq 201 dX17_towards_170 (by decide) ?_ ?_
    · refine g_iload 4 dX17_towards_201 rfl ?_
      refine g_if_eq 219 dX17_towards_203 (by decide) ?_ ?_
      · refine g_iload 3 dX17_towards_219 rfl ?_
        refine g_bipush (v := 32) dX17_towards_221 (by decide) ?_
        refine g_icmp_ne 240 dX17_towards_223 (by decide) ?_ ?_
        · refine G.sub [2, 3, 4, 5, 1, 0] rfl ?_
          exact gX17_towards_p240 _ _ _ _ _ _ _
        · refine g_lload 1 dX17_towards_226 rfl ?_
          refine g_bipush (v := 32) dX17_towards_228 (by decide) ?_
          refine g_lushr dX17_towards_230 ?_
          refine g_lconst (v := 0) dX17_towards_231 (by decide) ?_
          refine g_lcmp_eq 240 dX17_towards_232 dX17_towards_233 (by decide) ?_ ?_
          · refine G.sub [2, 3, 4, 5, 1, 0] rfl ?_
            exact gX17_towards_p240 _ _ _ _ _ _ _
          · refine G.sub [2, 3, 4, 5, 1, 0] rfl ?_
            exact gX17_towards_p236 _ _ _ _ _ _ _
      · refine g_lload 1 dX17_towards_206 rfl ?_
        refine g_lload 0 dX17_towards_208 rfl ?_
        refine g_callS (fc := fun sς => Mdl_isBelow sς s0 y1) (as := [jv s0, jv y1]) q4192 mdX17_827 (ctX17_isBelow s0 y1) rfl (Nat.le_of_ble_eq_true rfl) (Nat.le_of_ble_eq_true rfl) (Nat.le_of_ble_eq_true rfl) pu_I dX17_towards_210 (fun r3 σ2 => ?_)
        refine g_if_ne 240 dX17_towards_213 (by decide) ?_ ?_
        · refine G.sub [2, 3, 4, 5, 1, 0] rfl ?_
          exact gX17_towards_p240 _ _ _ _ _ _ _
        · refine g_goto 236 dX17_towards_216 (by decide) ?_
          refine G.sub [2, 3, 4, 5, 1, 0] rfl ?_
          exact gX17_towards_p236 _ _ _ _ _ _ _
    · refine g_iload 4 dX17_towards_173 rfl ?_
      refine g_if_eq 191 dX17_towards_175 (by decide) ?_ ?_
      · refine g_lload 1 dX17_towards_191 rfl ?_
        refine g_lconst (v := 0) dX17_towards_193 (by decide) ?_
        refine g_lcmp_eq 240 dX17_towards_194 dX17_towards_195 (by decide) ?_ ?_
        · refine G.sub [2, 3, 4, 5, 1, 0] rfl ?_
          exact gX17_towards_p240 _ _ _ _ _ _ _
        · refine g_goto 236 dX17_towards_198 (by decide) ?_
          refine G.sub [2, 3, 4, 5, 1, 0] rfl ?_
          exact gX17_towards_p236 _ _ _ _ _ _ _
      · refine g_lload 0 dX17_towards_178 rfl ?_
        refine g_lload 1 dX17_towards_180 rfl ?_
        refine g_callS (fc := fun sς => Mdl_isBelow sς y1 s0) (as := [jv y1, jv s0]) q4192 mdX17_827 (ctX17_isBelow y1 s0) rfl (Nat.le_of_ble_eq_true rfl) (Nat.le_of_ble_eq_true rfl) (Nat.le_of_ble_eq_true rfl) pu_I dX17_towards_182 (fun r5 σ4 => ?_)
        refine g_if_eq 240 dX17_towards_185 (by decide) ?_ ?_
        · refine G.sub [2, 3, 4, 5, 1, 0] rfl ?_
          exact gX17_towards_p240 _ _ _ _ _ _ _
        · refine g_goto 236 dX17_towards_188 (by decide) ?_
          refine G.sub [2, 3, 4, 5, 1, 0] rfl ?_
          exact gX17_towards_p236 _ _ _ _ _ _ _
def V.Mdl_towards_p115  (σ : HS) (x0 : Nat) (x4 : Int32) (x5 : Int32) (x6 : Int32) (x8 : Int32) : Option (Int64 × HS) :=
  Mdl_towards_p148 σ x0 x4 x5 x6 x8 (0 : Int64)
theorem V.gX17_towards_p115 {X : CX}  (σ : HS) (x0 : Nat) (x4 : Int32) (x5 : Int32) (x6 : Int32) (x8 : Int32) : G X RX17 "towards" cX17_towards 16 (some .long) 1 28 enJ 115 [(0, av x0), (4, iv x4), (5, iv x5), (6, iv x6), (8, iv x8)] [] σ (Mdl_towards_p115 σ x0 x4 x5 x6 x8) := by
  unfold Mdl_towards_p115
  refine g_lconst (v := 0) dX17_towards_115 (by decide) ?_
  refine g_goto 148 dX17_towards_116 (by decide) ?_
  exact gX17_towards_p148 _ _ _ _ _ _ _
def V.Mdl_towards_p91  (σ : HS) (x0 : Nat) (x4 : Int32) (x5 : Int32) (x6 : Int32) (x7 : Int32) (s0 : Int32) : Option (Int64 × HS) :=
  ck (tg σ x0 = 18) <|
  ck (tg σ (gR σ x0 34) = 20) <|
  if (gI σ (gR σ x0 34) 1) = 0 then (
    if s0 = 0 then (
      if (-63 : Int32) ≤ x7 then (
        if 0 ≤ x7 then (
          ck (tg σ x0 = 18) <|
          ck (tg σ (gR σ x0 34) = 20) <|
          Mdl_towards_p148 σ x0 x4 x5 x6 s0 (lshl (gJ σ (gR σ x0 34) 2) x7))
        else (
          ck (tg σ x0 = 18) <|
          ck (tg σ (gR σ x0 34) = 20) <|
          Mdl_towards_p148 σ x0 x4 x5 x6 s0 (lushr (gJ σ (gR σ x0 34) 2) (-x7))))
      else (
        Mdl_towards_p115 σ x0 x4 x5 x6 s0))
    else (
      Mdl_towards_p115 σ x0 x4 x5 x6 s0))
  else (
    Mdl_towards_p115 σ x0 x4 x5 x6 s0)
theorem V.gX17_towards_p91 {X : CX}  (σ : HS) (x0 : Nat) (x4 : Int32) (x5 : Int32) (x6 : Int32) (x7 : Int32) (s0 : Int32) : G X RX17 "towards" cX17_towards 16 (some .long) 1 28 enJ 91 [(0, av x0), (4, iv x4), (5, iv x5), (6, iv x6), (7, iv x7)] [iv s0] σ (Mdl_towards_p91 σ x0 x4 x5 x6 x7 s0) := by
  unfold Mdl_towards_p91
  refine g_istore dX17_towards_91 (by decide) rfl ?_
  refine g_aload_n 0 1 dX17_towards_93 rfl rfl ?_
  refine g_getR fdX17_61 dX17_towards_94 ?_
  refine g_getI fdX17_871 dX17_towards_97 ?_
  refine g_if_ne 115 dX17_towards_100 (by decide) ?_ ?_
  · refine G.sub [1, 2, 3, 4, 0] rfl ?_
    exact gX17_towards_p115 _ _ _ _ _ _
  · refine g_iload 0 dX17_towards_103 rfl ?_
    refine g_if_ne 115 dX17_towards_105 (by decide) ?_ ?_
    · refine G.sub [1, 2, 3, 4, 0] rfl ?_
      exact gX17_towards_p115 _ _ _ _ _ _
    · refine g_iload 5 dX17_towards_108 rfl ?_
      refine g_bipush (v := (-63)) dX17_towards_110 (by decide) ?_
      refine g_icmp_ge 119 dX17_towards_112 (by decide) ?_ ?_
      · refine g_iload 5 dX17_towards_119 rfl ?_
        refine g_if_ge 138 dX17_towards_121 (by decide) ?_ ?_
        · refine g_aload_n 0 1 dX17_towards_138 rfl rfl ?_
          refine g_getR fdX17_61 dX17_towards_139 ?_
          refine g_getJ fdX17_916 dX17_towards_142 ?_
          refine g_iload 5 dX17_towards_145 rfl ?_
          refine g_lshl dX17_towards_147 ?_
          refine G.sub [1, 2, 3, 4, 0] rfl ?_
          exact gX17_towards_p148 _ _ _ _ _ _ _
        · refine g_aload_n 0 1 dX17_towards_124 rfl rfl ?_
          refine g_getR fdX17_61 dX17_towards_125 ?_
          refine g_getJ fdX17_916 dX17_towards_128 ?_
          refine g_iload 5 dX17_towards_131 rfl ?_
          refine g_ineg dX17_towards_133 ?_
          refine g_lushr dX17_towards_134 ?_
          refine g_goto 148 dX17_towards_135 (by decide) ?_
          refine G.sub [1, 2, 3, 4, 0] rfl ?_
          exact gX17_towards_p148 _ _ _ _ _ _ _
      · refine G.sub [1, 2, 3, 4, 0] rfl ?_
        exact gX17_towards_p115 _ _ _ _ _ _
def V.Mdl_towards_p86  (σ : HS) (x0 : Nat) (x4 : Int32) (x5 : Int32) (x6 : Int32) (x7 : Int32) : Option (Int64 × HS) :=
  Mdl_towards_p91 σ x0 x4 x5 x6 x7 (1 : Int32)
theorem V.gX17_towards_p86 {X : CX}  (σ : HS) (x0 : Nat) (x4 : Int32) (x5 : Int32) (x6 : Int32) (x7 : Int32) : G X RX17 "towards" cX17_towards 16 (some .long) 1 28 enJ 86 [(0, av x0), (4, iv x4), (5, iv x5), (6, iv x6), (7, iv x7)] [] σ (Mdl_towards_p86 σ x0 x4 x5 x6 x7) := by
  unfold Mdl_towards_p86
  refine g_iconst (v := 1) dX17_towards_86 (by decide) ?_
  refine g_goto 91 dX17_towards_87 (by decide) ?_
  exact gX17_towards_p91 _ _ _ _ _ _ _
def V.Mdl_towards_p90  (σ : HS) (x0 : Nat) (x4 : Int32) (x5 : Int32) (x6 : Int32) (x7 : Int32) : Option (Int64 × HS) :=
  Mdl_towards_p91 σ x0 x4 x5 x6 x7 (0 : Int32)
theorem V.gX17_towards_p90 {X : CX}  (σ : HS) (x0 : Nat) (x4 : Int32) (x5 : Int32) (x6 : Int32) (x7 : Int32) : G X RX17 "towards" cX17_towards 16 (some .long) 1 28 enJ 90 [(0, av x0), (4, iv x4), (5, iv x5), (6, iv x6), (7, iv x7)] [] σ (Mdl_towards_p90 σ x0 x4 x5 x6 x7) := by
  unfold Mdl_towards_p90
  refine g_iconst (v := 0) dX17_towards_90 (by decide) ?_
  exact gX17_towards_p91 _ _ _ _ _ _ _
def V.Mdl_towards (σ : HS) (x0 : Nat) (x1 : Int32) (x2 : Int64) (x4 : Int32) (x5 : Int32) (x6 : Int32) : Option (Int64 × HS) :=
  ck (tg σ x0 = 18) <|
  ck (tg σ (gR σ x0 34) = 20) <| cl (Rea_read σ (gR σ x0 34) x1 x2) fun _ σ1 =>
  ck (tg σ1 x0 = 18) <|
  ck (tg σ1 (gR σ1 x0 34) = 20) <|
  if (gI σ1 (gR σ1 x0 34) 1) = (3 : Int32) then (
    if x6 = 0 then (
      ck (tg σ1 x0 = 18) <| cl (Mdl_traps σ1 x0 (3 : Int32)) fun _ σ5 =>
      some ((0 : Int64), σ5))
    else (
      some ((0 : Int64), σ1)))
  else (
    ck (tg σ1 x0 = 18) <|
    ck (tg σ1 (gR σ1 x0 34) = 20) <|
    bn (gI σ1 (gR σ1 x0 34) 3) fun y2 =>
    ck (tg σ1 x0 = 18) <|
    ck (tg σ1 (gR σ1 x0 34) = 20) <|
    if (gI σ1 (gR σ1 x0 34) 1) = (2 : Int32) then (
      Mdl_towards_p86 σ1 x0 x4 x5 x6 y2)
    else (
      ck (tg σ1 x0 = 18) <|
      ck (tg σ1 (gR σ1 x0 34) = 20) <|
      if (gI σ1 (gR σ1 x0 34) 1) = 0 then (
        if y2 ≤ 0 then (
          Mdl_towards_p90 σ1 x0 x4 x5 x6 y2)
        else (
          ck (tg σ1 x0 = 18) <|
          ck (tg σ1 (gR σ1 x0 34) = 20) <|
          cl (Mdl_length σ1 (0 : Int64) (gJ σ1 (gR σ1 x0 34) 2)) fun r4 σ3 =>
          if (r4 + y2) ≤ (64 : Int32) then (
            Mdl_towards_p90 σ3 x0 x4 x5 x6 y2)
          else (
            Mdl_towards_p86 σ3 x0 x4 x5 x6 y2)))
      else (
        Mdl_towards_p90 σ1 x0 x4 x5 x6 y2)))
theorem V.ctX17_towards (x0 : Nat) (x1 : Int32) (x2 : Int64) (x4 : Int32) (x5 : Int32) (x6 : Int32) : Ct yX17_towards  cX17_towards 16 (some .long) 1 28 eJ [av x0, iv x1, jv x2, iv x4, iv x5, iv x6] (fun σ => Mdl_towards σ x0 x1 x2 x4 x5 x6) := by
  refine Ct.of (own := RX17) (nm := "towards") (desc := "(IJIZZ)J") rfl (by decide) (Nat.le_of_ble_eq_true rfl) (by decide) (fun X σ => ?_)
  show G X RX17 "towards" cX17_towards 16 (some .long) 1 28 enJ 0 [(0, av x0), (1, iv x1), (2, jv x2), (4, iv x4), (5, iv x5), (6, iv x6)] [] σ (Mdl_towards σ x0 x1 x2 x4 x5 x6)
  unfold Mdl_towards
  refine g_aload_n 0 0 dX17_towards_0 rfl rfl ?_
  refine g_getR fdX17_61 dX17_towards_1 ?_
  refine g_iload_n 1 1 dX17_towards_4 rfl rfl ?_
  refine g_lload_n 2 2 dX17_towards_5 rfl rfl ?_
  refine g_callV (fc := fun sς => Rea_read sς (gR σ x0 34) x1 x2) (ci := 19) (as := [iv x1, jv x2]) rfl rfl rfl q4200 q4201 mdX17_868 (ctX19_read (gR σ x0 34) x1 x2) rfl (Nat.le_of_ble_eq_true rfl) (Nat.le_of_ble_eq_true rfl) (Nat.le_of_ble_eq_true rfl) pu_V dX17_towards_6 (fun _ σ1 => ?_)
  refine g_aload_n 0 0 dX17_towards_9 rfl rfl ?_
  refine g_getR fdX17_61 dX17_towards_10 ?_
  refine g_getI fdX17_871 dX17_towards_13 ?_
  refine g_iconst (v := 3) dX17_towards_16 (by decide) ?_
  refine g_icmp_ne 32 dX17_towards_17 (by decide) ?_ ?_
  · refine g_aload_n 0 0 dX17_towards_32 rfl rfl ?_
    refine g_getR fdX17_61 dX17_towards_33 ?_
    refine g_getI fdX17_913 dX17_towards_36 ?_
    refine g_nmI (fun y2 => ?_)
    refine g_istore dX17_towards_39 (by decide) rfl ?_
    refine g_aload_n 0 1 dX17_towards_41 rfl rfl ?_
    refine g_getR fdX17_61 dX17_towards_42 ?_
    refine g_getI fdX17_871 dX17_towards_45 ?_
    refine g_iconst (v := 2) dX17_towards_48 (by decide) ?_
    refine g_icmp_eq 86 dX17_towards_49 (by decide) ?_ ?_
    · refine G.sub [1, 4, 5, 6, 0] rfl ?_
      exact gX17_towards_p86 _ _ _ _ _ _
    · refine g_aload_n 0 1 dX17_towards_52 rfl rfl ?_
      refine g_getR fdX17_61 dX17_towards_53 ?_
      refine g_getI fdX17_871 dX17_towards_56 ?_
      refine g_if_ne 90 dX17_towards_59 (by decide) ?_ ?_
      · refine G.sub [1, 4, 5, 6, 0] rfl ?_
        exact gX17_towards_p90 _ _ _ _ _ _
      · refine g_iload 0 dX17_towards_62 rfl ?_
        refine g_if_le 90 dX17_towards_64 (by decide) ?_ ?_
        · refine G.sub [1, 4, 5, 6, 0] rfl ?_
          exact gX17_towards_p90 _ _ _ _ _ _
        · refine g_lconst (v := 0) dX17_towards_67 (by decide) ?_
          refine g_aload_n 0 1 dX17_towards_68 rfl rfl ?_
          refine g_getR fdX17_61 dX17_towards_69 ?_
          refine g_getJ fdX17_916 dX17_towards_72 ?_
          refine g_callS (fc := fun sς => Mdl_length sς (0 : Int64) (gJ σ1 (gR σ1 x0 34) 2)) (as := [jv (0 : Int64), jv (gJ σ1 (gR σ1 x0 34) 2)]) q4263 mdX17_878 (ctX17_length (0 : Int64) (gJ σ1 (gR σ1 x0 34) 2)) rfl (Nat.le_of_ble_eq_true rfl) (Nat.le_of_ble_eq_true rfl) (Nat.le_of_ble_eq_true rfl) pu_I dX17_towards_75 (fun r4 σ3 => ?_)
          refine g_iload 0 dX17_towards_78 rfl ?_
          refine g_iadd dX17_towards_80 ?_
          refine g_bipush (v := 64) dX17_towards_81 (by decide) ?_
          refine g_icmp_le 90 dX17_towards_83 (by decide) ?_ ?_
          · refine G.sub [1, 4, 5, 6, 0] rfl ?_
            exact gX17_towards_p90 _ _ _ _ _ _
          · refine G.sub [1, 4, 5, 6, 0] rfl ?_
            exact gX17_towards_p86 _ _ _ _ _ _
  · refine g_iload 5 dX17_towards_20 rfl ?_
    refine g_if_ne 30 dX17_towards_22 (by decide) ?_ ?_
    · refine g_lconst (v := 0) dX17_towards_30 (by decide) ?_
      exact g_lreturn rfl dX17_towards_31
    · refine g_aload_n 0 0 dX17_towards_25 rfl rfl ?_
      refine g_iconst (v := 3) dX17_towards_26 (by decide) ?_
      refine g_callV (fc := fun sς => Mdl_traps sς x0 (3 : Int32)) (ci := 17) (as := [iv (3 : Int32)]) rfl rfl rfl q4226 qs332 mdX17_847 (ctX17_traps x0 (3 : Int32)) rfl (Nat.le_of_ble_eq_true rfl) (Nat.le_of_ble_eq_true rfl) (Nat.le_of_ble_eq_true rfl) pu_V dX17_towards_27 (fun _ σ5 => ?_)
      refine g_lconst (v := 0) dX17_towards_30 (by decide) ?_
      exact g_lreturn rfl dX17_towards_31
theorem V.dX17_ofWhole_0 : decode cX17_ofWhole 0 = .ok (.lload_n 1, 1) := by decide +kernel
theorem V.dX17_ofWhole_1 : decode cX17_ofWhole 1 = .ok (.lconst 0, 1) := by decide +kernel
theorem V.dX17_ofWhole_2 : decode cX17_ofWhole 2 = .ok (.lcmp, 1) := by decide +kernel
theorem V.dX17_ofWhole_3 : decode cX17_ofWhole 3 = .ok (.ifCond .ne 7, 3) := by decide +kernel
theorem V.dX17_ofWhole_6 : decode cX17_ofWhole 6 = .ok (.lconst 0, 1) := by decide +kernel
theorem V.dX17_ofWhole_7 : decode cX17_ofWhole 7 = .ok (.goto 12, 3) := by decide +kernel
theorem V.dX17_ofWhole_10 : decode cX17_ofWhole 10 = .ok (.iload_n 0, 1) := by decide +kernel
theorem V.dX17_ofWhole_11 : decode cX17_ofWhole 11 = .ok (.iload_n 3, 1) := by decide +kernel
theorem V.dX17_ofWhole_12 : decode cX17_ofWhole 12 = .ok (.lconst 0, 1) := by decide +kernel
theorem V.dX17_ofWhole_13 : decode cX17_ofWhole 13 = .ok (.lload_n 1, 1) := by decide +kernel
theorem V.dX17_ofWhole_14 : decode cX17_ofWhole 14 = .ok (.iconst 0, 1) := by decide +kernel
theorem V.dX17_ofWhole_15 : decode cX17_ofWhole 15 = .ok (.iconst 0, 1) := by decide +kernel
theorem V.dX17_ofWhole_16 : decode cX17_ofWhole 16 = .ok (.invokestatic 924, 3) := by decide +kernel
theorem V.dX17_ofWhole_19 : decode cX17_ofWhole 19 = .ok (.lreturn, 1) := by decide +kernel
/-! ModuleEngineModel.ofWhole(IJZ)J -/
def V.Mdl_ofWhole (σ : HS) (x0 : Int32) (x1 : Int64) (x3 : Int32) : Option (Int64 × HS) :=
  if x1 = (0 : Int64) then (
    some ((0 : Int64), σ))
  else (
    cl (Mdl_rounded σ x0 x3 (0 : Int64) x1 (0 : Int32) (0 : Int32)) fun r2 σ1 =>
    some (r2, σ1))
theorem V.ctX17_ofWhole (x0 : Int32) (x1 : Int64) (x3 : Int32) : Ct yX17_ofWhole  cX17_ofWhole 4 (some .long) 3 81 eJ [iv x0, jv x1, iv x3] (fun σ => Mdl_ofWhole σ x0 x1 x3) := by
  refine Ct.of (own := RX17) (nm := "ofWhole") (desc := "(IJZ)J") rfl (by decide) (Nat.le_of_ble_eq_true rfl) (by decide) (fun X σ => ?_)
  show G X RX17 "ofWhole" cX17_ofWhole 4 (some .long) 3 81 enJ 0 [(0, iv x0), (1, jv x1), (3, iv x3)] [] σ (Mdl_ofWhole σ x0 x1 x3)
  unfold Mdl_ofWhole
  refine g_lload_n 1 1 dX17_ofWhole_0 rfl rfl ?_
  refine g_lconst (v := 0) dX17_ofWhole_1 (by decide) ?_
  refine g_lcmp_ne 10 dX17_ofWhole_2 dX17_ofWhole_3 (by decide) ?_ ?_
  · refine g_iload_n 0 0 dX17_ofWhole_10 rfl rfl ?_
    refine g_iload_n 3 2 dX17_ofWhole_11 rfl rfl ?_
    refine g_lconst (v := 0) dX17_ofWhole_12 (by decide) ?_
    refine g_lload_n 1 1 dX17_ofWhole_13 rfl rfl ?_
    refine g_iconst (v := 0) dX17_ofWhole_14 (by decide) ?_
    refine g_iconst (v := 0) dX17_ofWhole_15 (by decide) ?_
    refine g_callS (fc := fun sς => Mdl_rounded sς x0 x3 (0 : Int64) x1 (0 : Int32) (0 : Int32)) (as := [iv x0, iv x3, jv (0 : Int64), jv x1, iv (0 : Int32), iv (0 : Int32)]) q4260 mdX17_924 (ctX17_rounded x0 x3 (0 : Int64) x1 (0 : Int32) (0 : Int32)) rfl (Nat.le_of_ble_eq_true rfl) (Nat.le_of_ble_eq_true rfl) (Nat.le_of_ble_eq_true rfl) pu_J dX17_ofWhole_16 (fun r2 σ1 => ?_)
    exact g_lreturn rfl dX17_ofWhole_19
  · refine g_lconst (v := 0) dX17_ofWhole_6 (by decide) ?_
    refine g_goto 19 dX17_ofWhole_7 (by decide) ?_
    exact g_lreturn rfl dX17_ofWhole_19
theorem V.dX17_moved_0 : decode cX17_moved 0 = .ok (.aload_n 0, 1) := by decide +kernel
theorem V.dX17_moved_1 : decode cX17_moved 1 = .ok (.getfield 61, 3) := by decide +kernel
theorem V.dX17_moved_4 : decode cX17_moved 4 = .ok (.iload_n 2, 1) := by decide +kernel
theorem V.dX17_moved_5 : decode cX17_moved 5 = .ok (.lload_n 3, 1) := by decide +kernel
theorem V.dX17_moved_6 : decode cX17_moved 6 = .ok (.invokevirtual 868, 3) := by decide +kernel
theorem V.dX17_moved_9 : decode cX17_moved 9 = .ok (.aload_n 0, 1) := by decide +kernel
theorem V.dX17_moved_10 : decode cX17_moved 10 = .ok (.getfield 61, 3) := by decide +kernel
theorem V.dX17_moved_13 : decode cX17_moved 13 = .ok (.getfield 871, 3) := by decide +kernel
theorem V.dX17_moved_16 : decode cX17_moved 16 = .ok (.iconst 3, 1) := by decide +kernel
theorem V.dX17_moved_17 : decode cX17_moved 17 = .ok (.if_icmp .ne 8, 3) := by decide +kernel
theorem V.dX17_moved_20 : decode cX17_moved 20 = .ok (.iload_n 1, 1) := by decide +kernel
theorem V.dX17_moved_21 : decode cX17_moved 21 = .ok (.invokestatic 910, 3) := by decide +kernel
theorem V.dX17_moved_24 : decode cX17_moved 24 = .ok (.lreturn, 1) := by decide +kernel
theorem V.dX17_moved_25 : decode cX17_moved 25 = .ok (.aload_n 0, 1) := by decide +kernel
theorem V.dX17_moved_26 : decode cX17_moved 26 = .ok (.getfield 61, 3) := by decide +kernel
theorem V.dX17_moved_29 : decode cX17_moved 29 = .ok (.getfield 871, 3) := by decide +kernel
theorem V.dX17_moved_32 : decode cX17_moved 32 = .ok (.ifCond .le 34, 3) := by decide +kernel
theorem V.dX17_moved_35 : decode cX17_moved 35 = .ok (.iload_n 1, 1) := by decide +kernel
theorem V.dX17_moved_36 : decode cX17_moved 36 = .ok (.aload_n 0, 1) := by decide +kernel
theorem V.dX17_moved_37 : decode cX17_moved 37 = .ok (.getfield 61, 3) := by decide +kernel
theorem V.dX17_moved_40 : decode cX17_moved 40 = .ok (.getfield 921, 3) := by decide +kernel
theorem V.dX17_moved_43 : decode cX17_moved 43 = .ok (.aload_n 0, 1) := by decide +kernel
theorem V.dX17_moved_44 : decode cX17_moved 44 = .ok (.getfield 61, 3) := by decide +kernel
theorem V.dX17_moved_47 : decode cX17_moved 47 = .ok (.getfield 871, 3) := by decide +kernel
theorem V.dX17_moved_50 : decode cX17_moved 50 = .ok (.iconst 2, 1) := by decide +kernel
theorem V.dX17_moved_51 : decode cX17_moved 51 = .ok (.if_icmp .ne 10, 3) := by decide +kernel
theorem V.dX17_moved_54 : decode cX17_moved 54 = .ok (.iload_n 1, 1) := by decide +kernel
theorem V.dX17_moved_55 : decode cX17_moved 55 = .ok (.invokestatic 888, 3) := by decide +kernel
theorem V.dX17_moved_58 : decode cX17_moved 58 = .ok (.goto 4, 3) := by decide +kernel
theorem V.dX17_moved_61 : decode cX17_moved 61 = .ok (.lconst 0, 1) := by decide +kernel
theorem V.dX17_moved_62 : decode cX17_moved 62 = .ok (.invokestatic 882, 3) := by decide +kernel
theorem V.dX17_moved_65 : decode cX17_moved 65 = .ok (.lreturn, 1) := by decide +kernel
theorem V.dX17_moved_66 : decode cX17_moved 66 = .ok (.iload_n 1, 1) := by decide +kernel
theorem V.dX17_moved_67 : decode cX17_moved 67 = .ok (.aload_n 0, 1) := by decide +kernel
theorem V.dX17_moved_68 : decode cX17_moved 68 = .ok (.getfield 61, 3) := by decide +kernel
theorem V.dX17_moved_71 : decode cX17_moved 71 = .ok (.getfield 921, 3) := by decide +kernel
theorem V.dX17_moved_74 : decode cX17_moved 74 = .ok (.lconst 0, 1) := by decide +kernel
theorem V.dX17_moved_75 : decode cX17_moved 75 = .ok (.aload_n 0, 1) := by decide +kernel
theorem V.dX17_moved_76 : decode cX17_moved 76 = .ok (.getfield 61, 3) := by decide +kernel
theorem V.dX17_moved_79 : decode cX17_moved 79 = .ok (.getfield 916, 3) := by decide +kernel
theorem V.dX17_moved_82 : decode cX17_moved 82 = .ok (.aload_n 0, 1) := by decide +kernel
theorem V.dX17_moved_83 : decode cX17_moved 83 = .ok (.getfield 61, 3) := by decide +kernel
theorem V.dX17_moved_86 : decode cX17_moved 86 = .ok (.getfield 913, 3) := by decide +kernel
theorem V.dX17_moved_89 : decode cX17_moved 89 = .ok (.iconst 0, 1) := by decide +kernel
theorem V.dX17_moved_90 : decode cX17_moved 90 = .ok (.invokestatic 924, 3) := by decide +kernel
theorem V.dX17_moved_93 : decode cX17_moved 93 = .ok (.lreturn, 1) := by decide +kernel
/-! ModuleEngineModel.moved(IIJ)J -/
def V.Mdl_moved_p62  (σ : HS) (s0 : Int64) (s1 : Int32) (s2 : Int32) : Option (Int64 × HS) :=
  cl (Mdl_withSign σ s2 s1 s0) fun r2 σ1 =>
  some (r2, σ1)
theorem V.gX17_moved_p62 {X : CX}  (σ : HS) (s0 : Int64) (s1 : Int32) (s2 : Int32) : G X RX17 "moved" cX17_moved 5 (some .long) 3 81 enJ 62 [] [jv s0, iv s1, iv s2] σ (Mdl_moved_p62 σ s0 s1 s2) := by
  unfold Mdl_moved_p62
  refine g_callS (fc := fun sς => Mdl_withSign sς s2 s1 s0) (as := [iv s2, iv s1, jv s0]) q4257 mdX17_882 (ctX17_withSign s2 s1 s0) rfl (Nat.le_of_ble_eq_true rfl) (Nat.le_of_ble_eq_true rfl) (Nat.le_of_ble_eq_true rfl) pu_J dX17_moved_62 (fun r2 σ1 => ?_)
  exact g_lreturn rfl dX17_moved_65
def V.Mdl_moved (σ : HS) (x0 : Nat) (x1 : Int32) (x2 : Int32) (x3 : Int64) : Option (Int64 × HS) :=
  ck (tg σ x0 = 18) <|
  ck (tg σ (gR σ x0 34) = 20) <| cl (Rea_read σ (gR σ x0 34) x2 x3) fun _ σ1 =>
  ck (tg σ1 x0 = 18) <|
  ck (tg σ1 (gR σ1 x0 34) = 20) <|
  if (gI σ1 (gR σ1 x0 34) 1) = (3 : Int32) then (
    cl (Mdl_noneOf σ1 x1) fun r7 σ6 =>
    some (r7, σ6))
  else (
    ck (tg σ1 x0 = 18) <|
    ck (tg σ1 (gR σ1 x0 34) = 20) <|
    if (gI σ1 (gR σ1 x0 34) 1) ≤ 0 then (
      ck (tg σ1 x0 = 18) <|
      ck (tg σ1 (gR σ1 x0 34) = 20) <|
      ck (tg σ1 x0 = 18) <|
      ck (tg σ1 (gR σ1 x0 34) = 20) <|
      ck (tg σ1 x0 = 18) <|
      ck (tg σ1 (gR σ1 x0 34) = 20) <|
      cl (Mdl_rounded σ1 x1 (gI σ1 (gR σ1 x0 34) 0) (0 : Int64) (gJ σ1 (gR σ1 x0 34) 2) (gI σ1 (gR σ1 x0 34) 3) (0 : Int32)) fun r3 σ2 =>
      some (r3, σ2))
    else (
      ck (tg σ1 x0 = 18) <|
      ck (tg σ1 (gR σ1 x0 34) = 20) <|
      ck (tg σ1 x0 = 18) <|
      ck (tg σ1 (gR σ1 x0 34) = 20) <|
      if (gI σ1 (gR σ1 x0 34) 1) = (2 : Int32) then (
        cl (Mdl_infinite σ1 x1) fun r5 σ4 =>
        Mdl_moved_p62 σ4 r5 (gI σ1 (gR σ1 x0 34) 0) x1)
      else (
        Mdl_moved_p62 σ1 (0 : Int64) (gI σ1 (gR σ1 x0 34) 0) x1)))
theorem V.ctX17_moved (x0 : Nat) (x1 : Int32) (x2 : Int32) (x3 : Int64) : Ct yX17_moved  cX17_moved 5 (some .long) 3 81 eJ [av x0, iv x1, iv x2, jv x3] (fun σ => Mdl_moved σ x0 x1 x2 x3) := by
  refine Ct.of (own := RX17) (nm := "moved") (desc := "(IIJ)J") rfl (by decide) (Nat.le_of_ble_eq_true rfl) (by decide) (fun X σ => ?_)
  show G X RX17 "moved" cX17_moved 5 (some .long) 3 81 enJ 0 [(0, av x0), (1, iv x1), (2, iv x2), (3, jv x3)] [] σ (Mdl_moved σ x0 x1 x2 x3)
  unfold Mdl_moved
  refine g_aload_n 0 0 dX17_moved_0 rfl rfl ?_
  refine g_getR fdX17_61 dX17_moved_1 ?_
  refine g_iload_n 2 2 dX17_moved_4 rfl rfl ?_
  refine g_lload_n 3 3 dX17_moved_5 rfl rfl ?_
  refine g_callV (fc := fun sς => Rea_read sς (gR σ x0 34) x2 x3) (ci := 19) (as := [iv x2, jv x3]) rfl rfl rfl q4200 q4201 mdX17_868 (ctX19_read (gR σ x0 34) x2 x3) rfl (Nat.le_of_ble_eq_true rfl) (Nat.le_of_ble_eq_true rfl) (Nat.le_of_ble_eq_true rfl) pu_V dX17_moved_6 (fun _ σ1 => ?_)
  refine g_aload_n 0 0 dX17_moved_9 rfl rfl ?_
  refine g_getR fdX17_61 dX17_moved_10 ?_
  refine g_getI fdX17_871 dX17_moved_13 ?_
  refine g_iconst (v := 3) dX17_moved_16 (by decide) ?_
  refine g_icmp_ne 25 dX17_moved_17 (by decide) ?_ ?_
  · refine g_aload_n 0 0 dX17_moved_25 rfl rfl ?_
    refine g_getR fdX17_61 dX17_moved_26 ?_
    refine g_getI fdX17_871 dX17_moved_29 ?_
    refine g_if_le 66 dX17_moved_32 (by decide) ?_ ?_
    · refine g_iload_n 1 1 dX17_moved_66 rfl rfl ?_
      refine g_aload_n 0 0 dX17_moved_67 rfl rfl ?_
      refine g_getR fdX17_61 dX17_moved_68 ?_
      refine g_getI fdX17_921 dX17_moved_71 ?_
      refine g_lconst (v := 0) dX17_moved_74 (by decide) ?_
      refine g_aload_n 0 0 dX17_moved_75 rfl rfl ?_
      refine g_getR fdX17_61 dX17_moved_76 ?_
      refine g_getJ fdX17_916 dX17_moved_79 ?_
      refine g_aload_n 0 0 dX17_moved_82 rfl rfl ?_
      refine g_getR fdX17_61 dX17_moved_83 ?_
      refine g_getI fdX17_913 dX17_moved_86 ?_
      refine g_iconst (v := 0) dX17_moved_89 (by decide) ?_
      refine g_callS (fc := fun sς => Mdl_rounded sς x1 (gI σ1 (gR σ1 x0 34) 0) (0 : Int64) (gJ σ1 (gR σ1 x0 34) 2) (gI σ1 (gR σ1 x0 34) 3) (0 : Int32)) (as := [iv x1, iv (gI σ1 (gR σ1 x0 34) 0), jv (0 : Int64), jv (gJ σ1 (gR σ1 x0 34) 2), iv (gI σ1 (gR σ1 x0 34) 3), iv (0 : Int32)]) q4260 mdX17_924 (ctX17_rounded x1 (gI σ1 (gR σ1 x0 34) 0) (0 : Int64) (gJ σ1 (gR σ1 x0 34) 2) (gI σ1 (gR σ1 x0 34) 3) (0 : Int32)) rfl (Nat.le_of_ble_eq_true rfl) (Nat.le_of_ble_eq_true rfl) (Nat.le_of_ble_eq_true rfl) pu_J dX17_moved_90 (fun r3 σ2 => ?_)
      exact g_lreturn rfl dX17_moved_93
    · refine g_iload_n 1 1 dX17_moved_35 rfl rfl ?_
      refine g_aload_n 0 0 dX17_moved_36 rfl rfl ?_
      refine g_getR fdX17_61 dX17_moved_37 ?_
      refine g_getI fdX17_921 dX17_moved_40 ?_
      refine g_aload_n 0 0 dX17_moved_43 rfl rfl ?_
      refine g_getR fdX17_61 dX17_moved_44 ?_
      refine g_getI fdX17_871 dX17_moved_47 ?_
      refine g_iconst (v := 2) dX17_moved_50 (by decide) ?_
      refine g_icmp_ne 61 dX17_moved_51 (by decide) ?_ ?_
      · refine g_lconst (v := 0) dX17_moved_61 (by decide) ?_
        refine G.sub [] rfl ?_
        exact gX17_moved_p62 _ _ _ _
      · refine g_iload_n 1 1 dX17_moved_54 rfl rfl ?_
        refine g_callS (fc := fun sς => Mdl_infinite sς x1) (as := [iv x1]) q4267 mdX17_888 (ctX17_infinite x1) rfl (Nat.le_of_ble_eq_true rfl) (Nat.le_of_ble_eq_true rfl) (Nat.le_of_ble_eq_true rfl) pu_J dX17_moved_55 (fun r5 σ4 => ?_)
        refine g_goto 62 dX17_moved_58 (by decide) ?_
        refine G.sub [] rfl ?_
        exact gX17_moved_p62 _ _ _ _
  · refine g_iload_n 1 1 dX17_moved_20 rfl rfl ?_
    refine g_callS (fc := fun sς => Mdl_noneOf sς x1) (as := [iv x1]) q4251 mdX17_910 (ctX17_noneOf x1) rfl (Nat.le_of_ble_eq_true rfl) (Nat.le_of_ble_eq_true rfl) (Nat.le_of_ble_eq_true rfl) pu_J dX17_moved_21 (fun r7 σ6 => ?_)
    exact g_lreturn rfl dX17_moved_24
theorem V.dX17_turned_0 : decode cX17_turned 0 = .ok (.iload_n 1, 1) := by decide +kernel
theorem V.dX17_turned_1 : decode cX17_turned 1 = .ok (.sipush 200, 3) := by decide +kernel
theorem V.dX17_turned_4 : decode cX17_turned 4 = .ok (.if_icmp .lt 36, 3) := by decide +kernel
theorem V.dX17_turned_7 : decode cX17_turned 7 = .ok (.aload_n 0, 1) := by decide +kernel
theorem V.dX17_turned_8 : decode cX17_turned 8 = .ok (.iload_n 2, 1) := by decide +kernel
theorem V.dX17_turned_9 : decode cX17_turned 9 = .ok (.lload_n 3, 1) := by decide +kernel
theorem V.dX17_turned_10 : decode cX17_turned 10 = .ok (.iload_n 1, 1) := by decide +kernel
theorem V.dX17_turned_11 : decode cX17_turned 11 = .ok (.sipush 204, 3) := by decide +kernel
theorem V.dX17_turned_14 : decode cX17_turned 14 = .ok (.if_icmp .ge 8, 3) := by decide +kernel
theorem V.dX17_turned_17 : decode cX17_turned 17 = .ok (.bipush 32, 2) := by decide +kernel
theorem V.dX17_turned_19 : decode cX17_turned 19 = .ok (.goto 5, 3) := by decide +kernel
theorem V.dX17_turned_22 : decode cX17_turned 22 = .ok (.bipush 64, 2) := by decide +kernel
theorem V.dX17_turned_24 : decode cX17_turned 24 = .ok (.iload_n 1, 1) := by decide +kernel
theorem V.dX17_turned_25 : decode cX17_turned 25 = .ok (.iconst 2, 1) := by decide +kernel
theorem V.dX17_turned_26 : decode cX17_turned 26 = .ok (.irem, 1) := by decide +kernel
theorem V.dX17_turned_27 : decode cX17_turned 27 = .ok (.ifCond .ne 7, 3) := by decide +kernel
theorem V.dX17_turned_30 : decode cX17_turned 30 = .ok (.iconst 1, 1) := by decide +kernel
theorem V.dX17_turned_31 : decode cX17_turned 31 = .ok (.goto 4, 3) := by decide +kernel
theorem V.dX17_turned_34 : decode cX17_turned 34 = .ok (.iconst 0, 1) := by decide +kernel
theorem V.dX17_turned_35 : decode cX17_turned 35 = .ok (.iconst 1, 1) := by decide +kernel
theorem V.dX17_turned_36 : decode cX17_turned 36 = .ok (.invokevirtual 938, 3) := by decide +kernel
theorem V.dX17_turned_39 : decode cX17_turned 39 = .ok (.lreturn, 1) := by decide +kernel
theorem V.dX17_turned_40 : decode cX17_turned 40 = .ok (.iload_n 1, 1) := by decide +kernel
theorem V.dX17_turned_41 : decode cX17_turned 41 = .ok (.sipush 168, 3) := by decide +kernel
theorem V.dX17_turned_44 : decode cX17_turned 44 = .ok (.if_icmp .lt 10, 3) := by decide +kernel
theorem V.dX17_turned_47 : decode cX17_turned 47 = .ok (.iload_n 1, 1) := by decide +kernel
theorem V.dX17_turned_48 : decode cX17_turned 48 = .ok (.sipush 172, 3) := by decide +kernel
theorem V.dX17_turned_51 : decode cX17_turned 51 = .ok (.if_icmp .lt 17, 3) := by decide +kernel
theorem V.dX17_turned_54 : decode cX17_turned 54 = .ok (.iload_n 1, 1) := by decide +kernel
theorem V.dX17_turned_55 : decode cX17_turned 55 = .ok (.sipush 174, 3) := by decide +kernel
theorem V.dX17_turned_58 : decode cX17_turned 58 = .ok (.if_icmp .lt 43, 3) := by decide +kernel
theorem V.dX17_turned_61 : decode cX17_turned 61 = .ok (.iload_n 1, 1) := by decide +kernel
theorem V.dX17_turned_62 : decode cX17_turned 62 = .ok (.sipush 178, 3) := by decide +kernel
theorem V.dX17_turned_65 : decode cX17_turned 65 = .ok (.if_icmp .ge 36, 3) := by decide +kernel
theorem V.dX17_turned_68 : decode cX17_turned 68 = .ok (.aload_n 0, 1) := by decide +kernel
theorem V.dX17_turned_69 : decode cX17_turned 69 = .ok (.iload_n 2, 1) := by decide +kernel
theorem V.dX17_turned_70 : decode cX17_turned 70 = .ok (.lload_n 3, 1) := by decide +kernel
theorem V.dX17_turned_71 : decode cX17_turned 71 = .ok (.iload_n 1, 1) := by decide +kernel
theorem V.dX17_turned_72 : decode cX17_turned 72 = .ok (.sipush 172, 3) := by decide +kernel
theorem V.dX17_turned_75 : decode cX17_turned 75 = .ok (.if_icmp .ge 8, 3) := by decide +kernel
theorem V.dX17_turned_78 : decode cX17_turned 78 = .ok (.bipush 32, 2) := by decide +kernel
theorem V.dX17_turned_80 : decode cX17_turned 80 = .ok (.goto 5, 3) := by decide +kernel
theorem V.dX17_turned_83 : decode cX17_turned 83 = .ok (.bipush 64, 2) := by decide +kernel
theorem V.dX17_turned_85 : decode cX17_turned 85 = .ok (.iload_n 1, 1) := by decide +kernel
theorem V.dX17_turned_86 : decode cX17_turned 86 = .ok (.iconst 2, 1) := by decide +kernel
theorem V.dX17_turned_87 : decode cX17_turned 87 = .ok (.irem, 1) := by decide +kernel
theorem V.dX17_turned_88 : decode cX17_turned 88 = .ok (.ifCond .ne 7, 3) := by decide +kernel
theorem V.dX17_turned_91 : decode cX17_turned 91 = .ok (.iconst 1, 1) := by decide +kernel
theorem V.dX17_turned_92 : decode cX17_turned 92 = .ok (.goto 4, 3) := by decide +kernel
theorem V.dX17_turned_95 : decode cX17_turned 95 = .ok (.iconst 0, 1) := by decide +kernel
theorem V.dX17_turned_96 : decode cX17_turned 96 = .ok (.iconst 0, 1) := by decide +kernel
theorem V.dX17_turned_97 : decode cX17_turned 97 = .ok (.invokevirtual 938, 3) := by decide +kernel
theorem V.dX17_turned_100 : decode cX17_turned 100 = .ok (.lreturn, 1) := by decide +kernel
theorem V.dX17_turned_101 : decode cX17_turned 101 = .ok (.iload_n 1, 1) := by decide +kernel
theorem V.dX17_turned_102 : decode cX17_turned 102 = .ok (.tableswitch 275 167 196 #[134, 275, 275, 275, 275, 140, 275, 275, 275, 275, 275, 144, 206, 175, 206, 216, 144, 206, 175, 206, 216, 275, 275, 275, 275, 227, 249, 227, 249, 271], 134) := by decide +kernel
theorem V.dX17_turned_236 : decode cX17_turned 236 = .ok (.lload_n 3, 1) := by decide +kernel
theorem V.dX17_turned_237 : decode cX17_turned 237 = .ok (.ldc2_w 513, 3) := by decide +kernel
theorem V.dX17_turned_240 : decode cX17_turned 240 = .ok (.land, 1) := by decide +kernel
theorem V.dX17_turned_241 : decode cX17_turned 241 = .ok (.lreturn, 1) := by decide +kernel
theorem V.dX17_turned_242 : decode cX17_turned 242 = .ok (.lload_n 3, 1) := by decide +kernel
theorem V.dX17_turned_243 : decode cX17_turned 243 = .ok (.l2i, 1) := by decide +kernel
theorem V.dX17_turned_244 : decode cX17_turned 244 = .ok (.i2l, 1) := by decide +kernel
theorem V.dX17_turned_245 : decode cX17_turned 245 = .ok (.lreturn, 1) := by decide +kernel
theorem V.dX17_turned_246 : decode cX17_turned 246 = .ok (.iload_n 1, 1) := by decide +kernel
theorem V.dX17_turned_247 : decode cX17_turned 247 = .ok (.invokestatic 759, 3) := by decide +kernel
theorem V.dX17_turned_250 : decode cX17_turned 250 = .ok (.lload_n 3, 1) := by decide +kernel
theorem V.dX17_turned_251 : decode cX17_turned 251 = .ok (.l2i, 1) := by decide +kernel
theorem V.dX17_turned_252 : decode cX17_turned 252 = .ok (.ifCond .ge 10, 3) := by decide +kernel
theorem V.dX17_turned_255 : decode cX17_turned 255 = .ok (.lload_n 3, 1) := by decide +kernel
theorem V.dX17_turned_256 : decode cX17_turned 256 = .ok (.l2i, 1) := by decide +kernel
theorem V.dX17_turned_257 : decode cX17_turned 257 = .ok (.i2l, 1) := by decide +kernel
theorem V.dX17_turned_258 : decode cX17_turned 258 = .ok (.lneg, 1) := by decide +kernel
theorem V.dX17_turned_259 : decode cX17_turned 259 = .ok (.goto 4, 3) := by decide +kernel
theorem V.dX17_turned_262 : decode cX17_turned 262 = .ok (.lload_n 3, 1) := by decide +kernel
theorem V.dX17_turned_263 : decode cX17_turned 263 = .ok (.lload_n 3, 1) := by decide +kernel
theorem V.dX17_turned_264 : decode cX17_turned 264 = .ok (.l2i, 1) := by decide +kernel
theorem V.dX17_turned_265 : decode cX17_turned 265 = .ok (.ifCond .ge 7, 3) := by decide +kernel
theorem V.dX17_turned_268 : decode cX17_turned 268 = .ok (.iconst 1, 1) := by decide +kernel
theorem V.dX17_turned_269 : decode cX17_turned 269 = .ok (.goto 4, 3) := by decide +kernel
theorem V.dX17_turned_272 : decode cX17_turned 272 = .ok (.iconst 0, 1) := by decide +kernel
theorem V.dX17_turned_273 : decode cX17_turned 273 = .ok (.invokestatic 942, 3) := by decide +kernel
theorem V.dX17_turned_276 : decode cX17_turned 276 = .ok (.lreturn, 1) := by decide +kernel
theorem V.dX17_turned_277 : decode cX17_turned 277 = .ok (.iload_n 1, 1) := by decide +kernel
theorem V.dX17_turned_278 : decode cX17_turned 278 = .ok (.invokestatic 759, 3) := by decide +kernel
theorem V.dX17_turned_281 : decode cX17_turned 281 = .ok (.lload_n 3, 1) := by decide +kernel
theorem V.dX17_turned_282 : decode cX17_turned 282 = .ok (.lconst 0, 1) := by decide +kernel
theorem V.dX17_turned_283 : decode cX17_turned 283 = .ok (.lcmp, 1) := by decide +kernel
theorem V.dX17_turned_284 : decode cX17_turned 284 = .ok (.ifCond .ge 8, 3) := by decide +kernel
theorem V.dX17_turned_287 : decode cX17_turned 287 = .ok (.lload_n 3, 1) := by decide +kernel
theorem V.dX17_turned_288 : decode cX17_turned 288 = .ok (.lneg, 1) := by decide +kernel
theorem V.dX17_turned_289 : decode cX17_turned 289 = .ok (.goto 4, 3) := by decide +kernel
theorem V.dX17_turned_292 : decode cX17_turned 292 = .ok (.lload_n 3, 1) := by decide +kernel
theorem V.dX17_turned_293 : decode cX17_turned 293 = .ok (.lload_n 3, 1) := by decide +kernel
theorem V.dX17_turned_294 : decode cX17_turned 294 = .ok (.lconst 0, 1) := by decide +kernel
theorem V.dX17_turned_295 : decode cX17_turned 295 = .ok (.lcmp, 1) := by decide +kernel
theorem V.dX17_turned_296 : decode cX17_turned 296 = .ok (.ifCond .ge 7, 3) := by decide +kernel
theorem V.dX17_turned_299 : decode cX17_turned 299 = .ok (.iconst 1, 1) := by decide +kernel
theorem V.dX17_turned_300 : decode cX17_turned 300 = .ok (.goto 4, 3) := by decide +kernel
theorem V.dX17_turned_303 : decode cX17_turned 303 = .ok (.iconst 0, 1) := by decide +kernel
theorem V.dX17_turned_304 : decode cX17_turned 304 = .ok (.invokestatic 942, 3) := by decide +kernel
theorem V.dX17_turned_307 : decode cX17_turned 307 = .ok (.lreturn, 1) := by decide +kernel
theorem V.dX17_turned_308 : decode cX17_turned 308 = .ok (.iload_n 1, 1) := by decide +kernel
theorem V.dX17_turned_309 : decode cX17_turned 309 = .ok (.invokestatic 759, 3) := by decide +kernel
theorem V.dX17_turned_312 : decode cX17_turned 312 = .ok (.lload_n 3, 1) := by decide +kernel
theorem V.dX17_turned_313 : decode cX17_turned 313 = .ok (.iconst 0, 1) := by decide +kernel
theorem V.dX17_turned_314 : decode cX17_turned 314 = .ok (.invokestatic 942, 3) := by decide +kernel
theorem V.dX17_turned_317 : decode cX17_turned 317 = .ok (.lreturn, 1) := by decide +kernel
theorem V.dX17_turned_318 : decode cX17_turned 318 = .ok (.aload_n 0, 1) := by decide +kernel
theorem V.dX17_turned_319 : decode cX17_turned 319 = .ok (.iload_n 1, 1) := by decide +kernel
theorem V.dX17_turned_320 : decode cX17_turned 320 = .ok (.invokestatic 759, 3) := by decide +kernel
theorem V.dX17_turned_323 : decode cX17_turned 323 = .ok (.iload_n 2, 1) := by decide +kernel
theorem V.dX17_turned_324 : decode cX17_turned 324 = .ok (.lload_n 3, 1) := by decide +kernel
theorem V.dX17_turned_325 : decode cX17_turned 325 = .ok (.invokevirtual 946, 3) := by decide +kernel
theorem V.dX17_turned_328 : decode cX17_turned 328 = .ok (.lreturn, 1) := by decide +kernel
theorem V.dX17_turned_329 : decode cX17_turned 329 = .ok (.lload_n 3, 1) := by decide +kernel
theorem V.dX17_turned_330 : decode cX17_turned 330 = .ok (.l2i, 1) := by decide +kernel
theorem V.dX17_turned_331 : decode cX17_turned 331 = .ok (.i2b, 1) := by decide +kernel
theorem V.dX17_turned_332 : decode cX17_turned 332 = .ok (.i2l, 1) := by decide +kernel
theorem V.dX17_turned_333 : decode cX17_turned 333 = .ok (.iload_n 1, 1) := by decide +kernel
theorem V.dX17_turned_334 : decode cX17_turned 334 = .ok (.sipush 192, 3) := by decide +kernel
theorem V.dX17_turned_337 : decode cX17_turned 337 = .ok (.if_icmp .ne 9, 3) := by decide +kernel
theorem V.dX17_turned_340 : decode cX17_turned 340 = .ok (.ldc2_w 513, 3) := by decide +kernel
theorem V.dX17_turned_343 : decode cX17_turned 343 = .ok (.goto 6, 3) := by decide +kernel
theorem V.dX17_turned_346 : decode cX17_turned 346 = .ok (.ldc2_w 268, 3) := by decide +kernel
theorem V.dX17_turned_349 : decode cX17_turned 349 = .ok (.land, 1) := by decide +kernel
theorem V.dX17_turned_350 : decode cX17_turned 350 = .ok (.lreturn, 1) := by decide +kernel
theorem V.dX17_turned_351 : decode cX17_turned 351 = .ok (.lload_n 3, 1) := by decide +kernel
theorem V.dX17_turned_352 : decode cX17_turned 352 = .ok (.l2i, 1) := by decide +kernel
theorem V.dX17_turned_353 : decode cX17_turned 353 = .ok (.i2s, 1) := by decide +kernel
theorem V.dX17_turned_354 : decode cX17_turned 354 = .ok (.i2l, 1) := by decide +kernel
theorem V.dX17_turned_355 : decode cX17_turned 355 = .ok (.iload_n 1, 1) := by decide +kernel
theorem V.dX17_turned_356 : decode cX17_turned 356 = .ok (.sipush 193, 3) := by decide +kernel
theorem V.dX17_turned_359 : decode cX17_turned 359 = .ok (.if_icmp .ne 9, 3) := by decide +kernel
theorem V.dX17_turned_362 : decode cX17_turned 362 = .ok (.ldc2_w 513, 3) := by decide +kernel
theorem V.dX17_turned_365 : decode cX17_turned 365 = .ok (.goto 6, 3) := by decide +kernel
theorem V.dX17_turned_368 : decode cX17_turned 368 = .ok (.ldc2_w 268, 3) := by decide +kernel
theorem V.dX17_turned_371 : decode cX17_turned 371 = .ok (.land, 1) := by decide +kernel
theorem V.dX17_turned_372 : decode cX17_turned 372 = .ok (.lreturn, 1) := by decide +kernel
theorem V.dX17_turned_373 : decode cX17_turned 373 = .ok (.lload_n 3, 1) := by decide +kernel
theorem V.dX17_turned_374 : decode cX17_turned 374 = .ok (.l2i, 1) := by decide +kernel
theorem V.dX17_turned_375 : decode cX17_turned 375 = .ok (.i2l, 1) := by decide +kernel
theorem V.dX17_turned_376 : decode cX17_turned 376 = .ok (.lreturn, 1) := by decide +kernel
theorem V.dX17_turned_377 : decode cX17_turned 377 = .ok (.lload_n 3, 1) := by decide +kernel
theorem V.dX17_turned_378 : decode cX17_turned 378 = .ok (.lreturn, 1) := by decide +kernel
theorem V.mdX17_938 : MD RX17 938 yX17_towards cX17_towards 16 (some .long) 5 := ⟨Or.inl q4301, q377, q4304, by decide, by decide, by decide +kernel⟩
theorem V.mdX17_942 : MD RX17 942 yX17_ofWhole cX17_ofWhole 4 (some .long) 3 := ⟨Or.inl q4305, q377, q4307, by decide, by decide, by decide +kernel⟩
theorem V.mdX17_946 : MD RX17 946 yX17_moved cX17_moved 5 (some .long) 3 := ⟨Or.inl q4308, q377, q4311, by decide, by decide, by decide +kernel⟩
/-! ModuleEngineModel.turned(IIJ)J -/
def V.Mdl_turned_p273  (σ : HS) (s0 : Int32) (s1 : Int64) (s2 : Int32) : Option (Int64 × HS) :=
  cl (Mdl_ofWhole σ s2 s1 s0) fun r2 σ1 =>
  some (r2, σ1)
theorem V.gX17_turned_p273 {X : CX}  (σ : HS) (s0 : Int32) (s1 : Int64) (s2 : Int32) : G X RX17 "turned" cX17_turned 5 (some .long) 4 105 enJ 273 [] [iv s0, jv s1, iv s2] σ (Mdl_turned_p273 σ s0 s1 s2) := by
  unfold Mdl_turned_p273
  refine g_callS (fc := fun sς => Mdl_ofWhole sς s2 s1 s0) (as := [iv s2, jv s1, iv s0]) q4306 mdX17_942 (ctX17_ofWhole s2 s1 s0) rfl (Nat.le_of_ble_eq_true rfl) (Nat.le_of_ble_eq_true rfl) (Nat.le_of_ble_eq_true rfl) pu_J dX17_turned_273 (fun r2 σ1 => ?_)
  exact g_lreturn rfl dX17_turned_276
def V.Mdl_turned_p263  (σ : HS) (x3 : Int64) (s0 : Int64) (s1 : Int32) : Option (Int64 × HS) :=
  if 0 ≤ x3.toInt32 then (
    Mdl_turned_p273 σ (0 : Int32) s0 s1)
  else (
    Mdl_turned_p273 σ (1 : Int32) s0 s1)
theorem V.gX17_turned_p263 {X : CX}  (σ : HS) (x3 : Int64) (s0 : Int64) (s1 : Int32) : G X RX17 "turned" cX17_turned 5 (some .long) 4 105 enJ 263 [(3, jv x3)] [jv s0, iv s1] σ (Mdl_turned_p263 σ x3 s0 s1) := by
  unfold Mdl_turned_p263
  refine g_lload_n 3 0 dX17_turned_263 rfl rfl ?_
  refine g_l2i dX17_turned_264 ?_
  refine g_if_ge 272 dX17_turned_265 (by decide) ?_ ?_
  · refine g_iconst (v := 0) dX17_turned_272 (by decide) ?_
    refine G.sub [] rfl ?_
    exact gX17_turned_p273 _ _ _ _
  · refine g_iconst (v := 1) dX17_turned_268 (by decide) ?_
    refine g_goto 273 dX17_turned_269 (by decide) ?_
    refine G.sub [] rfl ?_
    exact gX17_turned_p273 _ _ _ _
def V.Mdl_turned_p246  (σ : HS) (x1 : Int32) (x3 : Int64) : Option (Int64 × HS) :=
  cl (Mdl_resultOf σ x1) fun r2 σ1 =>
  if 0 ≤ x3.toInt32 then (
    Mdl_turned_p263 σ1 x3 x3 r2)
  else (
    Mdl_turned_p263 σ1 x3 (-x3.toInt32.toInt64) r2)
theorem V.gX17_turned_p246 {X : CX}  (σ : HS) (x1 : Int32) (x3 : Int64) : G X RX17 "turned" cX17_turned 5 (some .long) 4 105 enJ 246 [(1, iv x1), (3, jv x3)] [] σ (Mdl_turned_p246 σ x1 x3) := by
  unfold Mdl_turned_p246
  refine g_iload_n 1 0 dX17_turned_246 rfl rfl ?_
  refine g_callS (fc := fun sς => Mdl_resultOf sς x1) (as := [iv x1]) q3903 mdX17_759 (ctX17_resultOf x1) rfl (Nat.le_of_ble_eq_true rfl) (Nat.le_of_ble_eq_true rfl) (Nat.le_of_ble_eq_true rfl) pu_I dX17_turned_247 (fun r2 σ1 => ?_)
  refine g_lload_n 3 1 dX17_turned_250 rfl rfl ?_
  refine g_l2i dX17_turned_251 ?_
  refine g_if_ge 262 dX17_turned_252 (by decide) ?_ ?_
  · refine g_lload_n 3 1 dX17_turned_262 rfl rfl ?_
    refine G.sub [1] rfl ?_
    exact gX17_turned_p263 _ _ _ _
  · refine g_lload_n 3 1 dX17_turned_255 rfl rfl ?_
    refine g_l2i dX17_turned_256 ?_
    refine g_i2l dX17_turned_257 ?_
    refine g_lneg dX17_turned_258 ?_
    refine g_goto 263 dX17_turned_259 (by decide) ?_
    refine G.sub [1] rfl ?_
    exact gX17_turned_p263 _ _ _ _
def V.Mdl_turned_p308  (σ : HS) (x1 : Int32) (x3 : Int64) : Option (Int64 × HS) :=
  cl (Mdl_resultOf σ x1) fun r2 σ1 =>
  cl (Mdl_ofWhole σ1 r2 x3 (0 : Int32)) fun r4 σ3 =>
  some (r4, σ3)
theorem V.gX17_turned_p308 {X : CX}  (σ : HS) (x1 : Int32) (x3 : Int64) : G X RX17 "turned" cX17_turned 5 (some .long) 4 105 enJ 308 [(1, iv x1), (3, jv x3)] [] σ (Mdl_turned_p308 σ x1 x3) := by
  unfold Mdl_turned_p308
  refine g_iload_n 1 0 dX17_turned_308 rfl rfl ?_
  refine g_callS (fc := fun sς => Mdl_resultOf sς x1) (as := [iv x1]) q3903 mdX17_759 (ctX17_resultOf x1) rfl (Nat.le_of_ble_eq_true rfl) (Nat.le_of_ble_eq_true rfl) (Nat.le_of_ble_eq_true rfl) pu_I dX17_turned_309 (fun r2 σ1 => ?_)
  refine g_lload_n 3 1 dX17_turned_312 rfl rfl ?_
  refine g_iconst (v := 0) dX17_turned_313 (by decide) ?_
  refine g_callS (fc := fun sς => Mdl_ofWhole sς r2 x3 (0 : Int32)) (as := [iv r2, jv x3, iv (0 : Int32)]) q4306 mdX17_942 (ctX17_ofWhole r2 x3 (0 : Int32)) rfl (Nat.le_of_ble_eq_true rfl) (Nat.le_of_ble_eq_true rfl) (Nat.le_of_ble_eq_true rfl) pu_J dX17_turned_314 (fun r4 σ3 => ?_)
  exact g_lreturn rfl dX17_turned_317
def V.Mdl_turned_p304  (σ : HS) (s0 : Int32) (s1 : Int64) (s2 : Int32) : Option (Int64 × HS) :=
  cl (Mdl_ofWhole σ s2 s1 s0) fun r2 σ1 =>
  some (r2, σ1)
theorem V.gX17_turned_p304 {X : CX}  (σ : HS) (s0 : Int32) (s1 : Int64) (s2 : Int32) : G X RX17 "turned" cX17_turned 5 (some .long) 4 105 enJ 304 [] [iv s0, jv s1, iv s2] σ (Mdl_turned_p304 σ s0 s1 s2) := by
  unfold Mdl_turned_p304
  refine g_callS (fc := fun sς => Mdl_ofWhole sς s2 s1 s0) (as := [iv s2, jv s1, iv s0]) q4306 mdX17_942 (ctX17_ofWhole s2 s1 s0) rfl (Nat.le_of_ble_eq_true rfl) (Nat.le_of_ble_eq_true rfl) (Nat.le_of_ble_eq_true rfl) pu_J dX17_turned_304 (fun r2 σ1 => ?_)
  exact g_lreturn rfl dX17_turned_307
def V.Mdl_turned_p293  (σ : HS) (x3 : Int64) (s0 : Int64) (s1 : Int32) : Option (Int64 × HS) :=
  if (0 : Int64) ≤ x3 then (
    Mdl_turned_p304 σ (0 : Int32) s0 s1)
  else (
    Mdl_turned_p304 σ (1 : Int32) s0 s1)
theorem V.gX17_turned_p293 {X : CX}  (σ : HS) (x3 : Int64) (s0 : Int64) (s1 : Int32) : G X RX17 "turned" cX17_turned 5 (some .long) 4 105 enJ 293 [(3, jv x3)] [jv s0, iv s1] σ (Mdl_turned_p293 σ x3 s0 s1) := by
  unfold Mdl_turned_p293
  refine g_lload_n 3 0 dX17_turned_293 rfl rfl ?_
  refine g_lconst (v := 0) dX17_turned_294 (by decide) ?_
  refine g_lcmp_ge 303 dX17_turned_295 dX17_turned_296 (by decide) ?_ ?_
  · refine g_iconst (v := 0) dX17_turned_303 (by decide) ?_
    refine G.sub [] rfl ?_
    exact gX17_turned_p304 _ _ _ _
  · refine g_iconst (v := 1) dX17_turned_299 (by decide) ?_
    refine g_goto 304 dX17_turned_300 (by decide) ?_
    refine G.sub [] rfl ?_
    exact gX17_turned_p304 _ _ _ _
def V.Mdl_turned_p277  (σ : HS) (x1 : Int32) (x3 : Int64) : Option (Int64 × HS) :=
  cl (Mdl_resultOf σ x1) fun r2 σ1 =>
  if (0 : Int64) ≤ x3 then (
    Mdl_turned_p293 σ1 x3 x3 r2)
  else (
    Mdl_turned_p293 σ1 x3 (-x3) r2)
theorem V.gX17_turned_p277 {X : CX}  (σ : HS) (x1 : Int32) (x3 : Int64) : G X RX17 "turned" cX17_turned 5 (some .long) 4 105 enJ 277 [(1, iv x1), (3, jv x3)] [] σ (Mdl_turned_p277 σ x1 x3) := by
  unfold Mdl_turned_p277
  refine g_iload_n 1 0 dX17_turned_277 rfl rfl ?_
  refine g_callS (fc := fun sς => Mdl_resultOf sς x1) (as := [iv x1]) q3903 mdX17_759 (ctX17_resultOf x1) rfl (Nat.le_of_ble_eq_true rfl) (Nat.le_of_ble_eq_true rfl) (Nat.le_of_ble_eq_true rfl) pu_I dX17_turned_278 (fun r2 σ1 => ?_)
  refine g_lload_n 3 1 dX17_turned_281 rfl rfl ?_
  refine g_lconst (v := 0) dX17_turned_282 (by decide) ?_
  refine g_lcmp_ge 292 dX17_turned_283 dX17_turned_284 (by decide) ?_ ?_
  · refine g_lload_n 3 1 dX17_turned_292 rfl rfl ?_
    refine G.sub [1] rfl ?_
    exact gX17_turned_p293 _ _ _ _
  · refine g_lload_n 3 1 dX17_turned_287 rfl rfl ?_
    refine g_lneg dX17_turned_288 ?_
    refine g_goto 293 dX17_turned_289 (by decide) ?_
    refine G.sub [1] rfl ?_
    exact gX17_turned_p293 _ _ _ _
def V.Mdl_turned_p318  (σ : HS) (x0 : Nat) (x1 : Int32) (x2 : Int32) (x3 : Int64) : Option (Int64 × HS) :=
  cl (Mdl_resultOf σ x1) fun r2 σ1 =>
  ck (tg σ1 x0 = 18) <| cl (Mdl_moved σ1 x0 r2 x2 x3) fun r4 σ3 =>
  some (r4, σ3)
theorem V.gX17_turned_p318 {X : CX}  (σ : HS) (x0 : Nat) (x1 : Int32) (x2 : Int32) (x3 : Int64) : G X RX17 "turned" cX17_turned 5 (some .long) 4 105 enJ 318 [(0, av x0), (1, iv x1), (2, iv x2), (3, jv x3)] [] σ (Mdl_turned_p318 σ x0 x1 x2 x3) := by
  unfold Mdl_turned_p318
  refine g_aload_n 0 0 dX17_turned_318 rfl rfl ?_
  refine g_iload_n 1 1 dX17_turned_319 rfl rfl ?_
  refine g_callS (fc := fun sς => Mdl_resultOf sς x1) (as := [iv x1]) q3903 mdX17_759 (ctX17_resultOf x1) rfl (Nat.le_of_ble_eq_true rfl) (Nat.le_of_ble_eq_true rfl) (Nat.le_of_ble_eq_true rfl) pu_I dX17_turned_320 (fun r2 σ1 => ?_)
  refine g_iload_n 2 2 dX17_turned_323 rfl rfl ?_
  refine g_lload_n 3 3 dX17_turned_324 rfl rfl ?_
  refine g_callV (fc := fun sς => Mdl_moved sς x0 r2 x2 x3) (ci := 17) (as := [iv r2, iv x2, jv x3]) rfl rfl rfl q4310 qs343 mdX17_946 (ctX17_moved x0 r2 x2 x3) rfl (Nat.le_of_ble_eq_true rfl) (Nat.le_of_ble_eq_true rfl) (Nat.le_of_ble_eq_true rfl) pu_J dX17_turned_325 (fun r4 σ3 => ?_)
  exact g_lreturn rfl dX17_turned_328
def V.Mdl_turned_p349  (σ : HS) (s0 : Int64) (s1 : Int64) : Option (Int64 × HS) :=
  some (s1 &&& s0, σ)
theorem V.gX17_turned_p349 {X : CX}  (σ : HS) (s0 : Int64) (s1 : Int64) : G X RX17 "turned" cX17_turned 5 (some .long) 4 105 enJ 349 [] [jv s0, jv s1] σ (Mdl_turned_p349 σ s0 s1) := by
  unfold Mdl_turned_p349
  refine g_land dX17_turned_349 ?_
  exact g_lreturn rfl dX17_turned_350
def V.Mdl_turned_p329  (σ : HS) (x1 : Int32) (x3 : Int64) : Option (Int64 × HS) :=
  if x1 = (192 : Int32) then (
    Mdl_turned_p349 σ (4294967295 : Int64) ((i2b x3.toInt32).toInt64))
  else (
    Mdl_turned_p349 σ (-1 : Int64) ((i2b x3.toInt32).toInt64))
theorem V.gX17_turned_p329 {X : CX}  (σ : HS) (x1 : Int32) (x3 : Int64) : G X RX17 "turned" cX17_turned 5 (some .long) 4 105 enJ 329 [(1, iv x1), (3, jv x3)] [] σ (Mdl_turned_p329 σ x1 x3) := by
  unfold Mdl_turned_p329
  refine g_lload_n 3 1 dX17_turned_329 rfl rfl ?_
  refine g_l2i dX17_turned_330 ?_
  refine g_i2b dX17_turned_331 ?_
  refine g_i2l dX17_turned_332 ?_
  refine g_iload_n 1 0 dX17_turned_333 rfl rfl ?_
  refine g_sipush (v := 192) dX17_turned_334 (by decide) ?_
  refine g_icmp_ne 346 dX17_turned_337 (by decide) ?_ ?_
  · refine g_ldc2 q3673 dX17_turned_346 ?_
    refine G.sub [] rfl ?_
    exact gX17_turned_p349 _ _ _
  · refine g_ldc2 q3756 dX17_turned_340 ?_
    refine g_goto 349 dX17_turned_343 (by decide) ?_
    refine G.sub [] rfl ?_
    exact gX17_turned_p349 _ _ _
def V.Mdl_turned_p371  (σ : HS) (s0 : Int64) (s1 : Int64) : Option (Int64 × HS) :=
  some (s1 &&& s0, σ)
theorem V.gX17_turned_p371 {X : CX}  (σ : HS) (s0 : Int64) (s1 : Int64) : G X RX17 "turned" cX17_turned 5 (some .long) 4 105 enJ 371 [] [jv s0, jv s1] σ (Mdl_turned_p371 σ s0 s1) := by
  unfold Mdl_turned_p371
  refine g_land dX17_turned_371 ?_
  exact g_lreturn rfl dX17_turned_372
def V.Mdl_turned_p351  (σ : HS) (x1 : Int32) (x3 : Int64) : Option (Int64 × HS) :=
  if x1 = (193 : Int32) then (
    Mdl_turned_p371 σ (4294967295 : Int64) ((i2s x3.toInt32).toInt64))
  else (
    Mdl_turned_p371 σ (-1 : Int64) ((i2s x3.toInt32).toInt64))
theorem V.gX17_turned_p351 {X : CX}  (σ : HS) (x1 : Int32) (x3 : Int64) : G X RX17 "turned" cX17_turned 5 (some .long) 4 105 enJ 351 [(1, iv x1), (3, jv x3)] [] σ (Mdl_turned_p351 σ x1 x3) := by
  unfold Mdl_turned_p351
  refine g_lload_n 3 1 dX17_turned_351 rfl rfl ?_
  refine g_l2i dX17_turned_352 ?_
  refine g_i2s dX17_turned_353 ?_
  refine g_i2l dX17_turned_354 ?_
  refine g_iload_n 1 0 dX17_turned_355 rfl rfl ?_
  refine g_sipush (v := 193) dX17_turned_356 (by decide) ?_
  refine g_icmp_ne 368 dX17_turned_359 (by decide) ?_ ?_
  · refine g_ldc2 q3673 dX17_turned_368 ?_
    refine G.sub [] rfl ?_
    exact gX17_turned_p371 _ _ _
  · refine g_ldc2 q3756 dX17_turned_362 ?_
    refine g_goto 371 dX17_turned_365 (by decide) ?_
    refine G.sub [] rfl ?_
    exact gX17_turned_p371 _ _ _
def V.Mdl_turned_p101  (σ : HS) (x0 : Nat) (x1 : Int32) (x2 : Int32) (x3 : Int64) : Option (Int64 × HS) :=
  swx x1 [
    (167, (
      some (x3 &&& (4294967295 : Int64), σ))),
    (172, (
      some (x3.toInt32.toInt64, σ))),
    (178, (
      Mdl_turned_p246 σ x1 x3)),
    (179, (
      Mdl_turned_p308 σ x1 x3)),
    (180, (
      Mdl_turned_p277 σ x1 x3)),
    (181, (
      Mdl_turned_p308 σ x1 x3)),
    (182, (
      Mdl_turned_p318 σ x0 x1 x2 x3)),
    (183, (
      Mdl_turned_p246 σ x1 x3)),
    (184, (
      Mdl_turned_p308 σ x1 x3)),
    (185, (
      Mdl_turned_p277 σ x1 x3)),
    (186, (
      Mdl_turned_p308 σ x1 x3)),
    (187, (
      Mdl_turned_p318 σ x0 x1 x2 x3)),
    (192, (
      Mdl_turned_p329 σ x1 x3)),
    (193, (
      Mdl_turned_p351 σ x1 x3)),
    (194, (
      Mdl_turned_p329 σ x1 x3)),
    (195, (
      Mdl_turned_p351 σ x1 x3)),
    (196, (
      some (x3.toInt32.toInt64, σ)))
    ] (
    some (x3, σ))
theorem V.gX17_turned_p101 {X : CX}  (σ : HS) (x0 : Nat) (x1 : Int32) (x2 : Int32) (x3 : Int64) : G X RX17 "turned" cX17_turned 5 (some .long) 4 105 enJ 101 [(0, av x0), (1, iv x1), (2, iv x2), (3, jv x3)] [] σ (Mdl_turned_p101 σ x0 x1 x2 x3) := by
  unfold Mdl_turned_p101
  refine g_iload_n 1 1 dX17_turned_101 rfl rfl ?_
  refine g_tsw dX17_turned_102 (by decide +kernel) ?_
  refine g_case ex0 (t := 236) (by decide +kernel) ?_ (fun hx => ?_)
  · refine g_lload_n 3 3 dX17_turned_236 rfl rfl ?_
    refine g_ldc2 q3756 dX17_turned_237 ?_
    refine g_land dX17_turned_240 ?_
    exact g_lreturn rfl dX17_turned_241
  refine g_case hx (t := 242) (by decide +kernel) ?_ (fun hx => ?_)
  · refine g_lload_n 3 3 dX17_turned_242 rfl rfl ?_
    refine g_l2i dX17_turned_243 ?_
    refine g_i2l dX17_turned_244 ?_
    exact g_lreturn rfl dX17_turned_245
  refine g_case hx (t := 246) (by decide +kernel) ?_ (fun hx => ?_)
  · refine G.sub [1, 3] rfl ?_
    exact gX17_turned_p246 _ _ _
  refine g_case hx (t := 308) (by decide +kernel) ?_ (fun hx => ?_)
  · refine G.sub [1, 3] rfl ?_
    exact gX17_turned_p308 _ _ _
  refine g_case hx (t := 277) (by decide +kernel) ?_ (fun hx => ?_)
  · refine G.sub [1, 3] rfl ?_
    exact gX17_turned_p277 _ _ _
  refine g_case hx (t := 308) (by decide +kernel) ?_ (fun hx => ?_)
  · refine G.sub [1, 3] rfl ?_
    exact gX17_turned_p308 _ _ _
  refine g_case hx (t := 318) (by decide +kernel) ?_ (fun hx => ?_)
  · exact gX17_turned_p318 _ _ _ _ _
  refine g_case hx (t := 246) (by decide +kernel) ?_ (fun hx => ?_)
  · refine G.sub [1, 3] rfl ?_
    exact gX17_turned_p246 _ _ _
  refine g_case hx (t := 308) (by decide +kernel) ?_ (fun hx => ?_)
  · refine G.sub [1, 3] rfl ?_
    exact gX17_turned_p308 _ _ _
  refine g_case hx (t := 277) (by decide +kernel) ?_ (fun hx => ?_)
  · refine G.sub [1, 3] rfl ?_
    exact gX17_turned_p277 _ _ _
  refine g_case hx (t := 308) (by decide +kernel) ?_ (fun hx => ?_)
  · refine G.sub [1, 3] rfl ?_
    exact gX17_turned_p308 _ _ _
  refine g_case hx (t := 318) (by decide +kernel) ?_ (fun hx => ?_)
  · exact gX17_turned_p318 _ _ _ _ _
  refine g_case hx (t := 329) (by decide +kernel) ?_ (fun hx => ?_)
  · refine G.sub [1, 3] rfl ?_
    exact gX17_turned_p329 _ _ _
  refine g_case hx (t := 351) (by decide +kernel) ?_ (fun hx => ?_)
  · refine G.sub [1, 3] rfl ?_
    exact gX17_turned_p351 _ _ _
  refine g_case hx (t := 329) (by decide +kernel) ?_ (fun hx => ?_)
  · refine G.sub [1, 3] rfl ?_
    exact gX17_turned_p329 _ _ _
  refine g_case hx (t := 351) (by decide +kernel) ?_ (fun hx => ?_)
  · refine G.sub [1, 3] rfl ?_
    exact gX17_turned_p351 _ _ _
  refine g_case hx (t := 373) (by decide +kernel) ?_ (fun hx => ?_)
  · refine g_lload_n 3 3 dX17_turned_373 rfl rfl ?_
    refine g_l2i dX17_turned_374 ?_
    refine g_i2l dX17_turned_375 ?_
    exact g_lreturn rfl dX17_turned_376
  refine g_dflt (t := 377) (tswT_d (by decide +kernel) (by decide +kernel) hx) ?_
  refine g_lload_n 3 3 dX17_turned_377 rfl rfl ?_
  exact g_lreturn rfl dX17_turned_378
def V.Mdl_turned_p96  (σ : HS) (s0 : Int32) (s1 : Int32) (s2 : Int64) (s3 : Int32) (s4 : Nat) : Option (Int64 × HS) :=
  ck (tg σ s4 = 18) <| cl (Mdl_towards σ s4 s3 s2 s1 s0 (0 : Int32)) fun r2 σ1 =>
  some (r2, σ1)
theorem V.gX17_turned_p96 {X : CX}  (σ : HS) (s0 : Int32) (s1 : Int32) (s2 : Int64) (s3 : Int32) (s4 : Nat) : G X RX17 "turned" cX17_turned 5 (some .long) 4 105 enJ 96 [] [iv s0, iv s1, jv s2, iv s3, av s4] σ (Mdl_turned_p96 σ s0 s1 s2 s3 s4) := by
  unfold Mdl_turned_p96
  refine g_iconst (v := 0) dX17_turned_96 (by decide) ?_
  refine g_callV (fc := fun sς => Mdl_towards sς s4 s3 s2 s1 s0 (0 : Int32)) (ci := 17) (as := [iv s3, jv s2, iv s1, iv s0, iv (0 : Int32)]) rfl rfl rfl q4303 qs342 mdX17_938 (ctX17_towards s4 s3 s2 s1 s0 (0 : Int32)) rfl (Nat.le_of_ble_eq_true rfl) (Nat.le_of_ble_eq_true rfl) (Nat.le_of_ble_eq_true rfl) pu_J dX17_turned_97 (fun r2 σ1 => ?_)
  exact g_lreturn rfl dX17_turned_100
def V.Mdl_turned_p85  (σ : HS) (x1 : Int32) (s0 : Int32) (s1 : Int64) (s2 : Int32) (s3 : Nat) : Option (Int64 × HS) :=
  ck (¬ (2 : Int32) = 0) <|
  if (x1 - x1 / (2 : Int32) * (2 : Int32)) = 0 then (
    Mdl_turned_p96 σ (1 : Int32) s0 s1 s2 s3)
  else (
    Mdl_turned_p96 σ (0 : Int32) s0 s1 s2 s3)
theorem V.gX17_turned_p85 {X : CX}  (σ : HS) (x1 : Int32) (s0 : Int32) (s1 : Int64) (s2 : Int32) (s3 : Nat) : G X RX17 "turned" cX17_turned 5 (some .long) 4 105 enJ 85 [(1, iv x1)] [iv s0, jv s1, iv s2, av s3] σ (Mdl_turned_p85 σ x1 s0 s1 s2 s3) := by
  unfold Mdl_turned_p85
  refine g_iload_n 1 0 dX17_turned_85 rfl rfl ?_
  refine g_iconst (v := 2) dX17_turned_86 (by decide) ?_
  refine g_irem dX17_turned_87 ?_
  refine g_if_ne 95 dX17_turned_88 (by decide) ?_ ?_
  · refine g_iconst (v := 0) dX17_turned_95 (by decide) ?_
    refine G.sub [] rfl ?_
    exact gX17_turned_p96 _ _ _ _ _ _
  · refine g_iconst (v := 1) dX17_turned_91 (by decide) ?_
    refine g_goto 96 dX17_turned_92 (by decide) ?_
    refine G.sub [] rfl ?_
    exact gX17_turned_p96 _ _ _ _ _ _
def V.Mdl_turned_p68  (σ : HS) (x0 : Nat) (x1 : Int32) (x2 : Int32) (x3 : Int64) : Option (Int64 × HS) :=
  if (172 : Int32) ≤ x1 then (
    Mdl_turned_p85 σ x1 (64 : Int32) x3 x2 x0)
  else (
    Mdl_turned_p85 σ x1 (32 : Int32) x3 x2 x0)
theorem V.gX17_turned_p68 {X : CX}  (σ : HS) (x0 : Nat) (x1 : Int32) (x2 : Int32) (x3 : Int64) : G X RX17 "turned" cX17_turned 5 (some .long) 4 105 enJ 68 [(0, av x0), (1, iv x1), (2, iv x2), (3, jv x3)] [] σ (Mdl_turned_p68 σ x0 x1 x2 x3) := by
  unfold Mdl_turned_p68
  refine g_aload_n 0 0 dX17_turned_68 rfl rfl ?_
  refine g_iload_n 2 2 dX17_turned_69 rfl rfl ?_
  refine g_lload_n 3 3 dX17_turned_70 rfl rfl ?_
  refine g_iload_n 1 1 dX17_turned_71 rfl rfl ?_
  refine g_sipush (v := 172) dX17_turned_72 (by decide) ?_
  refine g_icmp_ge 83 dX17_turned_75 (by decide) ?_ ?_
  · refine g_bipush (v := 64) dX17_turned_83 (by decide) ?_
    refine G.sub [1] rfl ?_
    exact gX17_turned_p85 _ _ _ _ _ _
  · refine g_bipush (v := 32) dX17_turned_78 (by decide) ?_
    refine g_goto 85 dX17_turned_80 (by decide) ?_
    refine G.sub [1] rfl ?_
    exact gX17_turned_p85 _ _ _ _ _ _
def V.Mdl_turned_p54  (σ : HS) (x0 : Nat) (x1 : Int32) (x2 : Int32) (x3 : Int64) : Option (Int64 × HS) :=
  if x1 < (174 : Int32) then (
    Mdl_turned_p101 σ x0 x1 x2 x3)
  else (
    if (178 : Int32) ≤ x1 then (
      Mdl_turned_p101 σ x0 x1 x2 x3)
    else (
      Mdl_turned_p68 σ x0 x1 x2 x3))
theorem V.gX17_turned_p54 {X : CX}  (σ : HS) (x0 : Nat) (x1 : Int32) (x2 : Int32) (x3 : Int64) : G X RX17 "turned" cX17_turned 5 (some .long) 4 105 enJ 54 [(0, av x0), (1, iv x1), (2, iv x2), (3, jv x3)] [] σ (Mdl_turned_p54 σ x0 x1 x2 x3) := by
  unfold Mdl_turned_p54
  refine g_iload_n 1 1 dX17_turned_54 rfl rfl ?_
  refine g_sipush (v := 174) dX17_turned_55 (by decide) ?_
  refine g_icmp_lt 101 dX17_turned_58 (by decide) ?_ ?_
  · exact gX17_turned_p101 _ _ _ _ _
  · refine g_iload_n 1 1 dX17_turned_61 rfl rfl ?_
    refine g_sipush (v := 178) dX17_turned_62 (by decide) ?_
    refine g_icmp_ge 101 dX17_turned_65 (by decide) ?_ ?_
    · exact gX17_turned_p101 _ _ _ _ _
    · exact gX17_turned_p68 _ _ _ _ _
def V.Mdl_turned_p35  (σ : HS) (s0 : Int32) (s1 : Int32) (s2 : Int64) (s3 : Int32) (s4 : Nat) : Option (Int64 × HS) :=
  ck (tg σ s4 = 18) <| cl (Mdl_towards σ s4 s3 s2 s1 s0 (1 : Int32)) fun r2 σ1 =>
  some (r2, σ1)
theorem V.gX17_turned_p35 {X : CX}  (σ : HS) (s0 : Int32) (s1 : Int32) (s2 : Int64) (s3 : Int32) (s4 : Nat) : G X RX17 "turned" cX17_turned 5 (some .long) 4 105 enJ 35 [] [iv s0, iv s1, jv s2, iv s3, av s4] σ (Mdl_turned_p35 σ s0 s1 s2 s3 s4) := by
  unfold Mdl_turned_p35
  refine g_iconst (v := 1) dX17_turned_35 (by decide) ?_
  refine g_callV (fc := fun sς => Mdl_towards sς s4 s3 s2 s1 s0 (1 : Int32)) (ci := 17) (as := [iv s3, jv s2, iv s1, iv s0, iv (1 : Int32)]) rfl rfl rfl q4303 qs342 mdX17_938 (ctX17_towards s4 s3 s2 s1 s0 (1 : Int32)) rfl (Nat.le_of_ble_eq_true rfl) (Nat.le_of_ble_eq_true rfl) (Nat.le_of_ble_eq_true rfl) pu_J dX17_turned_36 (fun r2 σ1 => ?_)
  exact g_lreturn rfl dX17_turned_39
def V.Mdl_turned_p24  (σ : HS) (x1 : Int32) (s0 : Int32) (s1 : Int64) (s2 : Int32) (s3 : Nat) : Option (Int64 × HS) :=
  ck (¬ (2 : Int32) = 0) <|
  if (x1 - x1 / (2 : Int32) * (2 : Int32)) = 0 then (
    Mdl_turned_p35 σ (1 : Int32) s0 s1 s2 s3)
  else (
    Mdl_turned_p35 σ (0 : Int32) s0 s1 s2 s3)
theorem V.gX17_turned_p24 {X : CX}  (σ : HS) (x1 : Int32) (s0 : Int32) (s1 : Int64) (s2 : Int32) (s3 : Nat) : G X RX17 "turned" cX17_turned 5 (some .long) 4 105 enJ 24 [(1, iv x1)] [iv s0, jv s1, iv s2, av s3] σ (Mdl_turned_p24 σ x1 s0 s1 s2 s3) := by
  unfold Mdl_turned_p24
  refine g_iload_n 1 0 dX17_turned_24 rfl rfl ?_
  refine g_iconst (v := 2) dX17_turned_25 (by decide) ?_
  refine g_irem dX17_turned_26 ?_
  refine g_if_ne 34 dX17_turned_27 (by decide) ?_ ?_
  · refine g_iconst (v := 0) dX17_turned_34 (by decide) ?_
    refine G.sub [] rfl ?_
    exact gX17_turned_p35 _ _ _ _ _ _
  · refine g_iconst (v := 1) dX17_turned_30 (by decide) ?_
    refine g_goto 35 dX17_turned_31 (by decide) ?_
    refine G.sub [] rfl ?_
    exact gX17_turned_p35 _ _ _ _ _ _
def V.Mdl_turned (σ : HS) (x0 : Nat) (x1 : Int32) (x2 : Int32) (x3 : Int64) : Option (Int64 × HS) :=
  if x1 < (200 : Int32) then (
    if x1 < (168 : Int32) then (
      Mdl_turned_p54 σ x0 x1 x2 x3)
    else (
      if x1 < (172 : Int32) then (
        Mdl_turned_p68 σ x0 x1 x2 x3)
      else (
        Mdl_turned_p54 σ x0 x1 x2 x3)))
  else (
    if (204 : Int32) ≤ x1 then (
      Mdl_turned_p24 σ x1 (64 : Int32) x3 x2 x0)
    else (
      Mdl_turned_p24 σ x1 (32 : Int32) x3 x2 x0))
theorem V.ctX17_turned (x0 : Nat) (x1 : Int32) (x2 : Int32) (x3 : Int64) : Ct yX17_turned  cX17_turned 5 (some .long) 4 105 eJ [av x0, iv x1, iv x2, jv x3] (fun σ => Mdl_turned σ x0 x1 x2 x3) := by
  refine Ct.of (own := RX17) (nm := "turned") (desc := "(IIJ)J") rfl (by decide) (Nat.le_of_ble_eq_true rfl) (by decide) (fun X σ => ?_)
  show G X RX17 "turned" cX17_turned 5 (some .long) 4 105 enJ 0 [(0, av x0), (1, iv x1), (2, iv x2), (3, jv x3)] [] σ (Mdl_turned σ x0 x1 x2 x3)
  unfold Mdl_turned
  refine g_iload_n 1 1 dX17_turned_0 rfl rfl ?_
  refine g_sipush (v := 200) dX17_turned_1 (by decide) ?_
  refine g_icmp_lt 40 dX17_turned_4 (by decide) ?_ ?_
  · refine g_iload_n 1 1 dX17_turned_40 rfl rfl ?_
    refine g_sipush (v := 168) dX17_turned_41 (by decide) ?_
    refine g_icmp_lt 54 dX17_turned_44 (by decide) ?_ ?_
    · exact gX17_turned_p54 _ _ _ _ _
    · refine g_iload_n 1 1 dX17_turned_47 rfl rfl ?_
      refine g_sipush (v := 172) dX17_turned_48 (by decide) ?_
      refine g_icmp_lt 68 dX17_turned_51 (by decide) ?_ ?_
      · exact gX17_turned_p68 _ _ _ _ _
      · exact gX17_turned_p54 _ _ _ _ _
  · refine g_aload_n 0 0 dX17_turned_7 rfl rfl ?_
    refine g_iload_n 2 2 dX17_turned_8 rfl rfl ?_
    refine g_lload_n 3 3 dX17_turned_9 rfl rfl ?_
    refine g_iload_n 1 1 dX17_turned_10 rfl rfl ?_
    refine g_sipush (v := 204) dX17_turned_11 (by decide) ?_
    refine g_icmp_ge 22 dX17_turned_14 (by decide) ?_ ?_
    · refine g_bipush (v := 64) dX17_turned_22 (by decide) ?_
      refine G.sub [1] rfl ?_
      exact gX17_turned_p24 _ _ _ _ _ _
    · refine g_bipush (v := 32) dX17_turned_17 (by decide) ?_
      refine g_goto 24 dX17_turned_19 (by decide) ?_
      refine G.sub [1] rfl ?_
      exact gX17_turned_p24 _ _ _ _ _ _
theorem V.dX17_reckons_0 : decode cX17_reckons 0 = .ok (.iload_n 1, 1) := by decide +kernel
theorem V.dX17_reckons_1 : decode cX17_reckons 1 = .ok (.invokestatic 753, 3) := by decide +kernel
theorem V.dX17_reckons_4 : decode cX17_reckons 4 = .ok (.istore 6, 2) := by decide +kernel
theorem V.dX17_reckons_6 : decode cX17_reckons 6 = .ok (.iload_n 1, 1) := by decide +kernel
theorem V.dX17_reckons_7 : decode cX17_reckons 7 = .ok (.bipush 69, 2) := by decide +kernel
theorem V.dX17_reckons_9 : decode cX17_reckons 9 = .ok (.if_icmp .eq 9, 3) := by decide +kernel
theorem V.dX17_reckons_12 : decode cX17_reckons 12 = .ok (.iload_n 1, 1) := by decide +kernel
theorem V.dX17_reckons_13 : decode cX17_reckons 13 = .ok (.bipush 80, 2) := by decide +kernel
theorem V.dX17_reckons_15 : decode cX17_reckons 15 = .ok (.if_icmp .ne 15, 3) := by decide +kernel
theorem V.dX17_reckons_18 : decode cX17_reckons 18 = .ok (.lload_n 2, 1) := by decide +kernel
theorem V.dX17_reckons_19 : decode cX17_reckons 19 = .ok (.lconst 0, 1) := by decide +kernel
theorem V.dX17_reckons_20 : decode cX17_reckons 20 = .ok (.lcmp, 1) := by decide +kernel
theorem V.dX17_reckons_21 : decode cX17_reckons 21 = .ok (.ifCond .ne 7, 3) := by decide +kernel
theorem V.dX17_reckons_24 : decode cX17_reckons 24 = .ok (.lconst 1, 1) := by decide +kernel
theorem V.dX17_reckons_25 : decode cX17_reckons 25 = .ok (.goto 4, 3) := by decide +kernel
theorem V.dX17_reckons_28 : decode cX17_reckons 28 = .ok (.lconst 0, 1) := by decide +kernel
theorem V.dX17_reckons_29 : decode cX17_reckons 29 = .ok (.lreturn, 1) := by decide +kernel
theorem V.dX17_reckons_30 : decode cX17_reckons 30 = .ok (.iload_n 1, 1) := by decide +kernel
theorem V.dX17_reckons_31 : decode cX17_reckons 31 = .ok (.bipush 91, 2) := by decide +kernel
theorem V.dX17_reckons_33 : decode cX17_reckons 33 = .ok (.if_icmp .ge 58, 3) := by decide +kernel
theorem V.dX17_reckons_36 : decode cX17_reckons 36 = .ok (.iload_n 1, 1) := by decide +kernel
theorem V.dX17_reckons_37 : decode cX17_reckons 37 = .ok (.iload 6, 2) := by decide +kernel
theorem V.dX17_reckons_39 : decode cX17_reckons 39 = .ok (.ifCond .ne 8, 3) := by decide +kernel
theorem V.dX17_reckons_42 : decode cX17_reckons 42 = .ok (.bipush 70, 2) := by decide +kernel
theorem V.dX17_reckons_44 : decode cX17_reckons 44 = .ok (.goto 5, 3) := by decide +kernel
theorem V.dX17_reckons_47 : decode cX17_reckons 47 = .ok (.bipush 81, 2) := by decide +kernel
theorem V.dX17_reckons_49 : decode cX17_reckons 49 = .ok (.isub, 1) := by decide +kernel
theorem V.dX17_reckons_50 : decode cX17_reckons 50 = .ok (.iload 6, 2) := by decide +kernel
theorem V.dX17_reckons_52 : decode cX17_reckons 52 = .ok (.ifCond .ne 9, 3) := by decide +kernel
theorem V.dX17_reckons_55 : decode cX17_reckons 55 = .ok (.lload_n 2, 1) := by decide +kernel
theorem V.dX17_reckons_56 : decode cX17_reckons 56 = .ok (.l2i, 1) := by decide +kernel
theorem V.dX17_reckons_57 : decode cX17_reckons 57 = .ok (.i2l, 1) := by decide +kernel
theorem V.dX17_reckons_58 : decode cX17_reckons 58 = .ok (.goto 4, 3) := by decide +kernel
theorem V.dX17_reckons_61 : decode cX17_reckons 61 = .ok (.lload_n 2, 1) := by decide +kernel
theorem V.dX17_reckons_62 : decode cX17_reckons 62 = .ok (.iload 6, 2) := by decide +kernel
theorem V.dX17_reckons_64 : decode cX17_reckons 64 = .ok (.ifCond .ne 10, 3) := by decide +kernel
theorem V.dX17_reckons_67 : decode cX17_reckons 67 = .ok (.lload 4, 2) := by decide +kernel
theorem V.dX17_reckons_69 : decode cX17_reckons 69 = .ok (.l2i, 1) := by decide +kernel
theorem V.dX17_reckons_70 : decode cX17_reckons 70 = .ok (.i2l, 1) := by decide +kernel
theorem V.dX17_reckons_71 : decode cX17_reckons 71 = .ok (.goto 5, 3) := by decide +kernel
theorem V.dX17_reckons_74 : decode cX17_reckons 74 = .ok (.lload 4, 2) := by decide +kernel
theorem V.dX17_reckons_76 : decode cX17_reckons 76 = .ok (.lload_n 2, 1) := by decide +kernel
theorem V.dX17_reckons_77 : decode cX17_reckons 77 = .ok (.lload 4, 2) := by decide +kernel
theorem V.dX17_reckons_79 : decode cX17_reckons 79 = .ok (.invokestatic 803, 3) := by decide +kernel
theorem V.dX17_reckons_82 : decode cX17_reckons 82 = .ok (.ifCond .eq 7, 3) := by decide +kernel
theorem V.dX17_reckons_85 : decode cX17_reckons 85 = .ok (.lconst 1, 1) := by decide +kernel
theorem V.dX17_reckons_86 : decode cX17_reckons 86 = .ok (.goto 4, 3) := by decide +kernel
theorem V.dX17_reckons_89 : decode cX17_reckons 89 = .ok (.lconst 0, 1) := by decide +kernel
theorem V.dX17_reckons_90 : decode cX17_reckons 90 = .ok (.lreturn, 1) := by decide +kernel
theorem V.dX17_reckons_91 : decode cX17_reckons 91 = .ok (.iload_n 1, 1) := by decide +kernel
theorem V.dX17_reckons_92 : decode cX17_reckons 92 = .ok (.bipush 103, 2) := by decide +kernel
theorem V.dX17_reckons_94 : decode cX17_reckons 94 = .ok (.if_icmp .ge 36, 3) := by decide +kernel
theorem V.dX17_reckons_97 : decode cX17_reckons 97 = .ok (.aload_n 0, 1) := by decide +kernel
theorem V.dX17_reckons_98 : decode cX17_reckons 98 = .ok (.iload_n 1, 1) := by decide +kernel
theorem V.dX17_reckons_99 : decode cX17_reckons 99 = .ok (.iload 6, 2) := by decide +kernel
theorem V.dX17_reckons_101 : decode cX17_reckons 101 = .ok (.iconst 2, 1) := by decide +kernel
theorem V.dX17_reckons_102 : decode cX17_reckons 102 = .ok (.if_icmp .ne 8, 3) := by decide +kernel
theorem V.dX17_reckons_105 : decode cX17_reckons 105 = .ok (.bipush 91, 2) := by decide +kernel
theorem V.dX17_reckons_107 : decode cX17_reckons 107 = .ok (.goto 5, 3) := by decide +kernel
theorem V.dX17_reckons_110 : decode cX17_reckons 110 = .ok (.bipush 97, 2) := by decide +kernel
theorem V.dX17_reckons_112 : decode cX17_reckons 112 = .ok (.isub, 1) := by decide +kernel
theorem V.dX17_reckons_113 : decode cX17_reckons 113 = .ok (.iload 6, 2) := by decide +kernel
theorem V.dX17_reckons_115 : decode cX17_reckons 115 = .ok (.lload_n 2, 1) := by decide +kernel
theorem V.dX17_reckons_116 : decode cX17_reckons 116 = .ok (.lload 4, 2) := by decide +kernel
theorem V.dX17_reckons_118 : decode cX17_reckons 118 = .ok (.invokevirtual 807, 3) := by decide +kernel
theorem V.dX17_reckons_121 : decode cX17_reckons 121 = .ok (.ifCond .eq 7, 3) := by decide +kernel
theorem V.dX17_reckons_124 : decode cX17_reckons 124 = .ok (.lconst 1, 1) := by decide +kernel
theorem V.dX17_reckons_125 : decode cX17_reckons 125 = .ok (.goto 4, 3) := by decide +kernel
theorem V.dX17_reckons_128 : decode cX17_reckons 128 = .ok (.lconst 0, 1) := by decide +kernel
theorem V.dX17_reckons_129 : decode cX17_reckons 129 = .ok (.lreturn, 1) := by decide +kernel
theorem V.dX17_reckons_130 : decode cX17_reckons 130 = .ok (.iload_n 1, 1) := by decide +kernel
theorem V.dX17_reckons_131 : decode cX17_reckons 131 = .ok (.sipush 139, 3) := by decide +kernel
theorem V.dX17_reckons_134 : decode cX17_reckons 134 = .ok (.if_icmp .ge 45, 3) := by decide +kernel
theorem V.dX17_reckons_137 : decode cX17_reckons 137 = .ok (.iload 6, 2) := by decide +kernel
theorem V.dX17_reckons_139 : decode cX17_reckons 139 = .ok (.ifCond .ne 28, 3) := by decide +kernel
theorem V.dX17_reckons_142 : decode cX17_reckons 142 = .ok (.aload_n 0, 1) := by decide +kernel
theorem V.dX17_reckons_143 : decode cX17_reckons 143 = .ok (.iload_n 1, 1) := by decide +kernel
theorem V.dX17_reckons_144 : decode cX17_reckons 144 = .ok (.bipush 103, 2) := by decide +kernel
theorem V.dX17_reckons_146 : decode cX17_reckons 146 = .ok (.isub, 1) := by decide +kernel
theorem V.dX17_reckons_147 : decode cX17_reckons 147 = .ok (.lload_n 2, 1) := by decide +kernel
theorem V.dX17_reckons_148 : decode cX17_reckons 148 = .ok (.l2i, 1) := by decide +kernel
theorem V.dX17_reckons_149 : decode cX17_reckons 149 = .ok (.i2l, 1) := by decide +kernel
theorem V.dX17_reckons_150 : decode cX17_reckons 150 = .ok (.lload_n 2, 1) := by decide +kernel
theorem V.dX17_reckons_151 : decode cX17_reckons 151 = .ok (.lload 4, 2) := by decide +kernel
theorem V.dX17_reckons_153 : decode cX17_reckons 153 = .ok (.l2i, 1) := by decide +kernel
theorem V.dX17_reckons_154 : decode cX17_reckons 154 = .ok (.i2l, 1) := by decide +kernel
theorem V.dX17_reckons_155 : decode cX17_reckons 155 = .ok (.lload 4, 2) := by decide +kernel
theorem V.dX17_reckons_157 : decode cX17_reckons 157 = .ok (.invokevirtual 811, 3) := by decide +kernel
theorem V.dX17_reckons_160 : decode cX17_reckons 160 = .ok (.ldc2_w 513, 3) := by decide +kernel
theorem V.dX17_reckons_163 : decode cX17_reckons 163 = .ok (.land, 1) := by decide +kernel
theorem V.dX17_reckons_164 : decode cX17_reckons 164 = .ok (.goto 14, 3) := by decide +kernel
theorem V.dX17_reckons_167 : decode cX17_reckons 167 = .ok (.aload_n 0, 1) := by decide +kernel
theorem V.dX17_reckons_168 : decode cX17_reckons 168 = .ok (.iload_n 1, 1) := by decide +kernel
theorem V.dX17_reckons_169 : decode cX17_reckons 169 = .ok (.bipush 121, 2) := by decide +kernel
theorem V.dX17_reckons_171 : decode cX17_reckons 171 = .ok (.isub, 1) := by decide +kernel
theorem V.dX17_reckons_172 : decode cX17_reckons 172 = .ok (.lload_n 2, 1) := by decide +kernel
theorem V.dX17_reckons_173 : decode cX17_reckons 173 = .ok (.lload 4, 2) := by decide +kernel
theorem V.dX17_reckons_175 : decode cX17_reckons 175 = .ok (.invokevirtual 815, 3) := by decide +kernel
theorem V.dX17_reckons_178 : decode cX17_reckons 178 = .ok (.lreturn, 1) := by decide +kernel
theorem V.dX17_reckons_179 : decode cX17_reckons 179 = .ok (.iload_n 1, 1) := by decide +kernel
theorem V.dX17_reckons_180 : decode cX17_reckons 180 = .ok (.sipush 167, 3) := by decide +kernel
theorem V.dX17_reckons_183 : decode cX17_reckons 183 = .ok (.if_icmp .ge 30, 3) := by decide +kernel
theorem V.dX17_reckons_186 : decode cX17_reckons 186 = .ok (.aload_n 0, 1) := by decide +kernel
theorem V.dX17_reckons_187 : decode cX17_reckons 187 = .ok (.iload_n 1, 1) := by decide +kernel
theorem V.dX17_reckons_188 : decode cX17_reckons 188 = .ok (.iload 6, 2) := by decide +kernel
theorem V.dX17_reckons_190 : decode cX17_reckons 190 = .ok (.iconst 2, 1) := by decide +kernel
theorem V.dX17_reckons_191 : decode cX17_reckons 191 = .ok (.if_icmp .ne 9, 3) := by decide +kernel
theorem V.dX17_reckons_194 : decode cX17_reckons 194 = .ok (.sipush 139, 3) := by decide +kernel
theorem V.dX17_reckons_197 : decode cX17_reckons 197 = .ok (.goto 6, 3) := by decide +kernel
theorem V.dX17_reckons_200 : decode cX17_reckons 200 = .ok (.sipush 153, 3) := by decide +kernel
theorem V.dX17_reckons_203 : decode cX17_reckons 203 = .ok (.isub, 1) := by decide +kernel
theorem V.dX17_reckons_204 : decode cX17_reckons 204 = .ok (.iload 6, 2) := by decide +kernel
theorem V.dX17_reckons_206 : decode cX17_reckons 206 = .ok (.lload_n 2, 1) := by decide +kernel
theorem V.dX17_reckons_207 : decode cX17_reckons 207 = .ok (.lload 4, 2) := by decide +kernel
theorem V.dX17_reckons_209 : decode cX17_reckons 209 = .ok (.invokevirtual 819, 3) := by decide +kernel
theorem V.dX17_reckons_212 : decode cX17_reckons 212 = .ok (.lreturn, 1) := by decide +kernel
theorem V.dX17_reckons_213 : decode cX17_reckons 213 = .ok (.aload_n 0, 1) := by decide +kernel
theorem V.dX17_reckons_214 : decode cX17_reckons 214 = .ok (.iload_n 1, 1) := by decide +kernel
theorem V.dX17_reckons_215 : decode cX17_reckons 215 = .ok (.iload 6, 2) := by decide +kernel
theorem V.dX17_reckons_217 : decode cX17_reckons 217 = .ok (.lload_n 2, 1) := by decide +kernel
theorem V.dX17_reckons_218 : decode cX17_reckons 218 = .ok (.invokevirtual 823, 3) := by decide +kernel
theorem V.dX17_reckons_221 : decode cX17_reckons 221 = .ok (.lreturn, 1) := by decide +kernel
theorem V.mdX17_823 : MD RX17 823 yX17_turned cX17_turned 5 (some .long) 3 := ⟨Or.inl q4297, q377, q4300, by decide, by decide, by decide +kernel⟩
theorem V.mdX17_815 : MD RX17 815 yX17_long64 cX17_long64 7 (some .long) 3 := ⟨Or.inl q4238, q377, q4241, by decide, by decide, by decide +kernel⟩
theorem V.mdX17_811 : MD RX17 811 yX17_short32 cX17_short32 11 (some .long) 5 := ⟨Or.inl q4209, q377, q4212, by decide, by decide, by decide +kernel⟩
theorem V.mdX17_819 : MD RX17 819 yX17_real cX17_real 7 (some .long) 4 := ⟨Or.inl q4242, q377, q4245, by decide, by decide, by decide +kernel⟩
theorem V.mdX17_807 : MD RX17 807 yX17_isReal cX17_isReal 11 (some .boolean) 4 := ⟨Or.inl q4195, q377, q4198, by decide, by decide, by decide +kernel⟩
theorem V.mdX17_803 : MD RX17 803 yX17_isWhole cX17_isWhole 9 (some .boolean) 5 := ⟨Or.inl q4188, q377, q4190, by decide, by decide, by decide +kernel⟩
/-! ModuleEngineModel.reckons(IJJ)J -/
def V.Mdl_reckons_p18  (σ : HS) (x2 : Int64) : Option (Int64 × HS) :=
  if x2 = (0 : Int64) then (
    some ((1 : Int64), σ))
  else (
    some ((0 : Int64), σ))
theorem V.gX17_reckons_p18 {X : CX}  (σ : HS) (x2 : Int64) : G X RX17 "reckons" cX17_reckons 7 (some .long) 6 165 enJ 18 [(2, jv x2)] [] σ (Mdl_reckons_p18 σ x2) := by
  unfold Mdl_reckons_p18
  refine g_lload_n 2 0 dX17_reckons_18 rfl rfl ?_
  refine g_lconst (v := 0) dX17_reckons_19 (by decide) ?_
  refine g_lcmp_ne 28 dX17_reckons_20 dX17_reckons_21 (by decide) ?_ ?_
  · refine g_lconst (v := 0) dX17_reckons_28 (by decide) ?_
    exact g_lreturn rfl dX17_reckons_29
  · refine g_lconst (v := 1) dX17_reckons_24 (by decide) ?_
    refine g_goto 29 dX17_reckons_25 (by decide) ?_
    exact g_lreturn rfl dX17_reckons_29
def V.Mdl_reckons_p203  (σ : HS) (x2 : Int64) (x4 : Int64) (x6 : Int32) (s0 : Int32) (s1 : Int32) (s2 : Nat) : Option (Int64 × HS) :=
  ck (tg σ s2 = 18) <| cl (Mdl_real σ s2 (s1 - s0) x6 x2 x4) fun r2 σ1 =>
  some (r2, σ1)
theorem V.gX17_reckons_p203 {X : CX}  (σ : HS) (x2 : Int64) (x4 : Int64) (x6 : Int32) (s0 : Int32) (s1 : Int32) (s2 : Nat) : G X RX17 "reckons" cX17_reckons 7 (some .long) 6 165 enJ 203 [(2, jv x2), (4, jv x4), (6, iv x6)] [iv s0, iv s1, av s2] σ (Mdl_reckons_p203 σ x2 x4 x6 s0 s1 s2) := by
  unfold Mdl_reckons_p203
  refine g_isub dX17_reckons_203 ?_
  refine g_iload 2 dX17_reckons_204 rfl ?_
  refine g_lload_n 2 0 dX17_reckons_206 rfl rfl ?_
  refine g_lload 1 dX17_reckons_207 rfl ?_
  refine g_callV (fc := fun sς => Mdl_real sς s2 (s1 - s0) x6 x2 x4) (ci := 17) (as := [iv (s1 - s0), iv x6, jv x2, jv x4]) rfl rfl rfl q4244 qs334 mdX17_819 (ctX17_real s2 (s1 - s0) x6 x2 x4) rfl (Nat.le_of_ble_eq_true rfl) (Nat.le_of_ble_eq_true rfl) (Nat.le_of_ble_eq_true rfl) pu_J dX17_reckons_209 (fun r2 σ1 => ?_)
  exact g_lreturn rfl dX17_reckons_212
def V.Mdl_reckons_p112  (σ : HS) (x2 : Int64) (x4 : Int64) (x6 : Int32) (s0 : Int32) (s1 : Int32) (s2 : Nat) : Option (Int64 × HS) :=
  ck (tg σ s2 = 18) <| cl (Mdl_isReal σ s2 (s1 - s0) x6 x2 x4) fun r2 σ1 =>
  if r2 = 0 then (
    some ((0 : Int64), σ1))
  else (
    some ((1 : Int64), σ1))
theorem V.gX17_reckons_p112 {X : CX}  (σ : HS) (x2 : Int64) (x4 : Int64) (x6 : Int32) (s0 : Int32) (s1 : Int32) (s2 : Nat) : G X RX17 "reckons" cX17_reckons 7 (some .long) 6 165 enJ 112 [(2, jv x2), (4, jv x4), (6, iv x6)] [iv s0, iv s1, av s2] σ (Mdl_reckons_p112 σ x2 x4 x6 s0 s1 s2) := by
  unfold Mdl_reckons_p112
  refine g_isub dX17_reckons_112 ?_
  refine g_iload 2 dX17_reckons_113 rfl ?_
  refine g_lload_n 2 0 dX17_reckons_115 rfl rfl ?_
  refine g_lload 1 dX17_reckons_116 rfl ?_
  refine g_callV (fc := fun sς => Mdl_isReal sς s2 (s1 - s0) x6 x2 x4) (ci := 17) (as := [iv (s1 - s0), iv x6, jv x2, jv x4]) rfl rfl rfl q4197 qs329 mdX17_807 (ctX17_isReal s2 (s1 - s0) x6 x2 x4) rfl (Nat.le_of_ble_eq_true rfl) (Nat.le_of_ble_eq_true rfl) (Nat.le_of_ble_eq_true rfl) pu_I dX17_reckons_118 (fun r2 σ1 => ?_)
  refine g_if_eq 128 dX17_reckons_121 (by decide) ?_ ?_
  · refine g_lconst (v := 0) dX17_reckons_128 (by decide) ?_
    exact g_lreturn rfl dX17_reckons_129
  · refine g_lconst (v := 1) dX17_reckons_124 (by decide) ?_
    refine g_goto 129 dX17_reckons_125 (by decide) ?_
    exact g_lreturn rfl dX17_reckons_129
def V.Mdl_reckons_p76  (σ : HS) (x2 : Int64) (x4 : Int64) (s0 : Int64) (s1 : Int64) (s2 : Int32) : Option (Int64 × HS) :=
  cl (Mdl_isWhole σ s2 s1 s0 x2 x4) fun r2 σ1 =>
  if r2 = 0 then (
    some ((0 : Int64), σ1))
  else (
    some ((1 : Int64), σ1))
theorem V.gX17_reckons_p76 {X : CX}  (σ : HS) (x2 : Int64) (x4 : Int64) (s0 : Int64) (s1 : Int64) (s2 : Int32) : G X RX17 "reckons" cX17_reckons 7 (some .long) 6 165 enJ 76 [(2, jv x2), (4, jv x4)] [jv s0, jv s1, iv s2] σ (Mdl_reckons_p76 σ x2 x4 s0 s1 s2) := by
  unfold Mdl_reckons_p76
  refine g_lload_n 2 0 dX17_reckons_76 rfl rfl ?_
  refine g_lload 1 dX17_reckons_77 rfl ?_
  refine g_callS (fc := fun sς => Mdl_isWhole sς s2 s1 s0 x2 x4) (as := [iv s2, jv s1, jv s0, jv x2, jv x4]) q4189 mdX17_803 (ctX17_isWhole s2 s1 s0 x2 x4) rfl (Nat.le_of_ble_eq_true rfl) (Nat.le_of_ble_eq_true rfl) (Nat.le_of_ble_eq_true rfl) pu_I dX17_reckons_79 (fun r2 σ1 => ?_)
  refine g_if_eq 89 dX17_reckons_82 (by decide) ?_ ?_
  · refine g_lconst (v := 0) dX17_reckons_89 (by decide) ?_
    exact g_lreturn rfl dX17_reckons_90
  · refine g_lconst (v := 1) dX17_reckons_85 (by decide) ?_
    refine g_goto 90 dX17_reckons_86 (by decide) ?_
    exact g_lreturn rfl dX17_reckons_90
def V.Mdl_reckons_p62  (σ : HS) (x2 : Int64) (x4 : Int64) (x6 : Int32) (s0 : Int64) (s1 : Int32) : Option (Int64 × HS) :=
  if x6 = 0 then (
    Mdl_reckons_p76 σ x2 x4 x4.toInt32.toInt64 s0 s1)
  else (
    Mdl_reckons_p76 σ x2 x4 x4 s0 s1)
theorem V.gX17_reckons_p62 {X : CX}  (σ : HS) (x2 : Int64) (x4 : Int64) (x6 : Int32) (s0 : Int64) (s1 : Int32) : G X RX17 "reckons" cX17_reckons 7 (some .long) 6 165 enJ 62 [(2, jv x2), (4, jv x4), (6, iv x6)] [jv s0, iv s1] σ (Mdl_reckons_p62 σ x2 x4 x6 s0 s1) := by
  unfold Mdl_reckons_p62
  refine g_iload 2 dX17_reckons_62 rfl ?_
  refine g_if_ne 74 dX17_reckons_64 (by decide) ?_ ?_
  · refine g_lload 1 dX17_reckons_74 rfl ?_
    refine G.sub [0, 1] rfl ?_
    exact gX17_reckons_p76 _ _ _ _ _ _
  · refine g_lload 1 dX17_reckons_67 rfl ?_
    refine g_l2i dX17_reckons_69 ?_
    refine g_i2l dX17_reckons_70 ?_
    refine g_goto 76 dX17_reckons_71 (by decide) ?_
    refine G.sub [0, 1] rfl ?_
    exact gX17_reckons_p76 _ _ _ _ _ _
def V.Mdl_reckons_p49  (σ : HS) (x2 : Int64) (x4 : Int64) (x6 : Int32) (s0 : Int32) (s1 : Int32) : Option (Int64 × HS) :=
  if x6 = 0 then (
    Mdl_reckons_p62 σ x2 x4 x6 x2.toInt32.toInt64 (s1 - s0))
  else (
    Mdl_reckons_p62 σ x2 x4 x6 x2 (s1 - s0))
theorem V.gX17_reckons_p49 {X : CX}  (σ : HS) (x2 : Int64) (x4 : Int64) (x6 : Int32) (s0 : Int32) (s1 : Int32) : G X RX17 "reckons" cX17_reckons 7 (some .long) 6 165 enJ 49 [(2, jv x2), (4, jv x4), (6, iv x6)] [iv s0, iv s1] σ (Mdl_reckons_p49 σ x2 x4 x6 s0 s1) := by
  unfold Mdl_reckons_p49
  refine g_isub dX17_reckons_49 ?_
  refine g_iload 2 dX17_reckons_50 rfl ?_
  refine g_if_ne 61 dX17_reckons_52 (by decide) ?_ ?_
  · refine g_lload_n 2 0 dX17_reckons_61 rfl rfl ?_
    exact gX17_reckons_p62 _ _ _ _ _ _
  · refine g_lload_n 2 0 dX17_reckons_55 rfl rfl ?_
    refine g_l2i dX17_reckons_56 ?_
    refine g_i2l dX17_reckons_57 ?_
    refine g_goto 62 dX17_reckons_58 (by decide) ?_
    exact gX17_reckons_p62 _ _ _ _ _ _
def V.Mdl_reckons (σ : HS) (x0 : Nat) (x1 : Int32) (x2 : Int64) (x4 : Int64) : Option (Int64 × HS) :=
  cl (Mdl_operandOf σ x1) fun r2 σ1 =>
  if x1 = (69 : Int32) then (
    Mdl_reckons_p18 σ1 x2)
  else (
    if x1 = (80 : Int32) then (
      Mdl_reckons_p18 σ1 x2)
    else (
      if (91 : Int32) ≤ x1 then (
        if (103 : Int32) ≤ x1 then (
          if (139 : Int32) ≤ x1 then (
            if (167 : Int32) ≤ x1 then (
              ck (tg σ1 x0 = 18) <| cl (Mdl_turned σ1 x0 x1 r2 x2) fun r4 σ3 =>
              some (r4, σ3))
            else (
              if r2 = (2 : Int32) then (
                Mdl_reckons_p203 σ1 x2 x4 r2 (139 : Int32) x1 x0)
              else (
                Mdl_reckons_p203 σ1 x2 x4 r2 (153 : Int32) x1 x0)))
          else (
            if r2 = 0 then (
              ck (tg σ1 x0 = 18) <| cl (Mdl_short32 σ1 x0 (x1 - (103 : Int32)) x2.toInt32.toInt64 x2 x4.toInt32.toInt64 x4) fun r8 σ7 =>
              some (r8 &&& (4294967295 : Int64), σ7))
            else (
              ck (tg σ1 x0 = 18) <| cl (Mdl_long64 σ1 x0 (x1 - (121 : Int32)) x2 x4) fun r6 σ5 =>
              some (r6, σ5))))
        else (
          if r2 = (2 : Int32) then (
            Mdl_reckons_p112 σ1 x2 x4 r2 (91 : Int32) x1 x0)
          else (
            Mdl_reckons_p112 σ1 x2 x4 r2 (97 : Int32) x1 x0)))
      else (
        if r2 = 0 then (
          Mdl_reckons_p49 σ1 x2 x4 r2 (70 : Int32) x1)
        else (
          Mdl_reckons_p49 σ1 x2 x4 r2 (81 : Int32) x1))))
theorem V.ctX17_reckons (x0 : Nat) (x1 : Int32) (x2 : Int64) (x4 : Int64) : Ct yX17_reckons  cX17_reckons 7 (some .long) 6 165 eJ [av x0, iv x1, jv x2, jv x4] (fun σ => Mdl_reckons σ x0 x1 x2 x4) := by
  refine Ct.of (own := RX17) (nm := "reckons") (desc := "(IJJ)J") rfl (by decide) (Nat.le_of_ble_eq_true rfl) (by decide) (fun X σ => ?_)
  show G X RX17 "reckons" cX17_reckons 7 (some .long) 6 165 enJ 0 [(0, av x0), (1, iv x1), (2, jv x2), (4, jv x4)] [] σ (Mdl_reckons σ x0 x1 x2 x4)
  unfold Mdl_reckons
  refine g_iload_n 1 1 dX17_reckons_0 rfl rfl ?_
  refine g_callS (fc := fun sς => Mdl_operandOf sς x1) (as := [iv x1]) q3889 mdX17_753 (ctX17_operandOf x1) rfl (Nat.le_of_ble_eq_true rfl) (Nat.le_of_ble_eq_true rfl) (Nat.le_of_ble_eq_true rfl) pu_I dX17_reckons_1 (fun r2 σ1 => ?_)
  refine g_istore dX17_reckons_4 (by decide) rfl ?_
  refine g_iload_n 1 2 dX17_reckons_6 rfl rfl ?_
  refine g_bipush (v := 69) dX17_reckons_7 (by decide) ?_
  refine g_icmp_eq 18 dX17_reckons_9 (by decide) ?_ ?_
  · refine G.sub [3] rfl ?_
    exact gX17_reckons_p18 _ _
  · refine g_iload_n 1 2 dX17_reckons_12 rfl rfl ?_
    refine g_bipush (v := 80) dX17_reckons_13 (by decide) ?_
    refine g_icmp_ne 30 dX17_reckons_15 (by decide) ?_ ?_
    · refine g_iload_n 1 2 dX17_reckons_30 rfl rfl ?_
      refine g_bipush (v := 91) dX17_reckons_31 (by decide) ?_
      refine g_icmp_ge 91 dX17_reckons_33 (by decide) ?_ ?_
      · refine g_iload_n 1 2 dX17_reckons_91 rfl rfl ?_
        refine g_bipush (v := 103) dX17_reckons_92 (by decide) ?_
        refine g_icmp_ge 130 dX17_reckons_94 (by decide) ?_ ?_
        · refine g_iload_n 1 2 dX17_reckons_130 rfl rfl ?_
          refine g_sipush (v := 139) dX17_reckons_131 (by decide) ?_
          refine g_icmp_ge 179 dX17_reckons_134 (by decide) ?_ ?_
          · refine g_iload_n 1 2 dX17_reckons_179 rfl rfl ?_
            refine g_sipush (v := 167) dX17_reckons_180 (by decide) ?_
            refine g_icmp_ge 213 dX17_reckons_183 (by decide) ?_ ?_
            · refine g_aload_n 0 1 dX17_reckons_213 rfl rfl ?_
              refine g_iload_n 1 2 dX17_reckons_214 rfl rfl ?_
              refine g_iload 0 dX17_reckons_215 rfl ?_
              refine g_lload_n 2 3 dX17_reckons_217 rfl rfl ?_
              refine g_callV (fc := fun sς => Mdl_turned sς x0 x1 r2 x2) (ci := 17) (as := [iv x1, iv r2, jv x2]) rfl rfl rfl q4299 qs341 mdX17_823 (ctX17_turned x0 x1 r2 x2) rfl (Nat.le_of_ble_eq_true rfl) (Nat.le_of_ble_eq_true rfl) (Nat.le_of_ble_eq_true rfl) pu_J dX17_reckons_218 (fun r4 σ3 => ?_)
              exact g_lreturn rfl dX17_reckons_221
            · refine g_aload_n 0 1 dX17_reckons_186 rfl rfl ?_
              refine g_iload_n 1 2 dX17_reckons_187 rfl rfl ?_
              refine g_iload 0 dX17_reckons_188 rfl ?_
              refine g_iconst (v := 2) dX17_reckons_190 (by decide) ?_
              refine g_icmp_ne 200 dX17_reckons_191 (by decide) ?_ ?_
              · refine g_sipush (v := 153) dX17_reckons_200 (by decide) ?_
                refine G.sub [3, 4, 0] rfl ?_
                exact gX17_reckons_p203 _ _ _ _ _ _ _
              · refine g_sipush (v := 139) dX17_reckons_194 (by decide) ?_
                refine g_goto 203 dX17_reckons_197 (by decide) ?_
                refine G.sub [3, 4, 0] rfl ?_
                exact gX17_reckons_p203 _ _ _ _ _ _ _
          · refine g_iload 0 dX17_reckons_137 rfl ?_
            refine g_if_ne 167 dX17_reckons_139 (by decide) ?_ ?_
            · refine g_aload_n 0 1 dX17_reckons_167 rfl rfl ?_
              refine g_iload_n 1 2 dX17_reckons_168 rfl rfl ?_
              refine g_bipush (v := 121) dX17_reckons_169 (by decide) ?_
              refine g_isub dX17_reckons_171 ?_
              refine g_lload_n 2 3 dX17_reckons_172 rfl rfl ?_
              refine g_lload 4 dX17_reckons_173 rfl ?_
              refine g_callV (fc := fun sς => Mdl_long64 sς x0 (x1 - (121 : Int32)) x2 x4) (ci := 17) (as := [iv (x1 - (121 : Int32)), jv x2, jv x4]) rfl rfl rfl q4240 qs333 mdX17_815 (ctX17_long64 x0 (x1 - (121 : Int32)) x2 x4) rfl (Nat.le_of_ble_eq_true rfl) (Nat.le_of_ble_eq_true rfl) (Nat.le_of_ble_eq_true rfl) pu_J dX17_reckons_175 (fun r6 σ5 => ?_)
              exact g_lreturn rfl dX17_reckons_178
            · refine g_aload_n 0 1 dX17_reckons_142 rfl rfl ?_
              refine g_iload_n 1 2 dX17_reckons_143 rfl rfl ?_
              refine g_bipush (v := 103) dX17_reckons_144 (by decide) ?_
              refine g_isub dX17_reckons_146 ?_
              refine g_lload_n 2 3 dX17_reckons_147 rfl rfl ?_
              refine g_l2i dX17_reckons_148 ?_
              refine g_i2l dX17_reckons_149 ?_
              refine g_lload_n 2 3 dX17_reckons_150 rfl rfl ?_
              refine g_lload 4 dX17_reckons_151 rfl ?_
              refine g_l2i dX17_reckons_153 ?_
              refine g_i2l dX17_reckons_154 ?_
              refine g_lload 4 dX17_reckons_155 rfl ?_
              refine g_callV (fc := fun sς => Mdl_short32 sς x0 (x1 - (103 : Int32)) x2.toInt32.toInt64 x2 x4.toInt32.toInt64 x4) (ci := 17) (as := [iv (x1 - (103 : Int32)), jv x2.toInt32.toInt64, jv x2, jv x4.toInt32.toInt64, jv x4]) rfl rfl rfl q4211 qs330 mdX17_811 (ctX17_short32 x0 (x1 - (103 : Int32)) x2.toInt32.toInt64 x2 x4.toInt32.toInt64 x4) rfl (Nat.le_of_ble_eq_true rfl) (Nat.le_of_ble_eq_true rfl) (Nat.le_of_ble_eq_true rfl) pu_J dX17_reckons_157 (fun r8 σ7 => ?_)
              refine g_ldc2 q3756 dX17_reckons_160 ?_
              refine g_land dX17_reckons_163 ?_
              refine g_goto 178 dX17_reckons_164 (by decide) ?_
              exact g_lreturn rfl dX17_reckons_178
        · refine g_aload_n 0 1 dX17_reckons_97 rfl rfl ?_
          refine g_iload_n 1 2 dX17_reckons_98 rfl rfl ?_
          refine g_iload 0 dX17_reckons_99 rfl ?_
          refine g_iconst (v := 2) dX17_reckons_101 (by decide) ?_
          refine g_icmp_ne 110 dX17_reckons_102 (by decide) ?_ ?_
          · refine g_bipush (v := 97) dX17_reckons_110 (by decide) ?_
            refine G.sub [3, 4, 0] rfl ?_
            exact gX17_reckons_p112 _ _ _ _ _ _ _
          · refine g_bipush (v := 91) dX17_reckons_105 (by decide) ?_
            refine g_goto 112 dX17_reckons_107 (by decide) ?_
            refine G.sub [3, 4, 0] rfl ?_
            exact gX17_reckons_p112 _ _ _ _ _ _ _
      · refine g_iload_n 1 2 dX17_reckons_36 rfl rfl ?_
        refine g_iload 0 dX17_reckons_37 rfl ?_
        refine g_if_ne 47 dX17_reckons_39 (by decide) ?_ ?_
        · refine g_bipush (v := 81) dX17_reckons_47 (by decide) ?_
          refine G.sub [3, 4, 0] rfl ?_
          exact gX17_reckons_p49 _ _ _ _ _ _
        · refine g_bipush (v := 70) dX17_reckons_42 (by decide) ?_
          refine g_goto 49 dX17_reckons_44 (by decide) ?_
          refine G.sub [3, 4, 0] rfl ?_
          exact gX17_reckons_p49 _ _ _ _ _ _
    · refine G.sub [3] rfl ?_
      exact gX17_reckons_p18 _ _
theorem V.dX17_endsBy_0 : decode cX17_endsBy 0 = .ok (.iload_n 2, 1) := by decide +kernel
theorem V.dX17_endsBy_1 : decode cX17_endsBy 1 = .ok (.ifCond .eq 13, 3) := by decide +kernel
theorem V.dX17_endsBy_4 : decode cX17_endsBy 4 = .ok (.aload_n 0, 1) := by decide +kernel
theorem V.dX17_endsBy_5 : decode cX17_endsBy 5 = .ok (.iconst 3, 1) := by decide +kernel
theorem V.dX17_endsBy_6 : decode cX17_endsBy 6 = .ok (.putfield 970, 3) := by decide +kernel
theorem V.dX17_endsBy_9 : decode cX17_endsBy 9 = .ok (.aload_n 0, 1) := by decide +kernel
theorem V.dX17_endsBy_10 : decode cX17_endsBy 10 = .ok (.iload_n 1, 1) := by decide +kernel
theorem V.dX17_endsBy_11 : decode cX17_endsBy 11 = .ok (.putfield 1046, 3) := by decide +kernel
theorem V.dX17_endsBy_14 : decode cX17_endsBy 14 = .ok (.return_, 1) := by decide +kernel
/-! ModuleEngineModel.endsBy(IZ)V -/
def V.Mdl_endsBy (σ : HS) (x0 : Nat) (x1 : Int32) (x2 : Int32) : Option (Unit × HS) :=
  if x2 = 0 then (
    some ((), σ))
  else (
    ck (tg σ x0 = 18) <| bn (sI σ x0 76 (3 : Int32)) fun σ1 =>
    ck (tg σ1 x0 = 18) <| bn (sI σ1 x0 77 x1) fun σ2 =>
    some ((), σ2))
theorem V.ctX17_endsBy (x0 : Nat) (x1 : Int32) (x2 : Int32) : Ct yX17_endsBy  cX17_endsBy 3 none 0 0 eV [av x0, iv x1, iv x2] (fun σ => Mdl_endsBy σ x0 x1 x2) := by
  refine Ct.of (own := RX17) (nm := "endsBy") (desc := "(IZ)V") rfl (by decide) (Nat.le_of_ble_eq_true rfl) (by decide) (fun X σ => ?_)
  show G X RX17 "endsBy" cX17_endsBy 3 none 0 0 enV 0 [(0, av x0), (1, iv x1), (2, iv x2)] [] σ (Mdl_endsBy σ x0 x1 x2)
  unfold Mdl_endsBy
  refine g_iload_n 2 2 dX17_endsBy_0 rfl rfl ?_
  refine g_if_eq 14 dX17_endsBy_1 (by decide) ?_ ?_
  · exact g_return rfl dX17_endsBy_14
  · refine g_aload_n 0 0 dX17_endsBy_4 rfl rfl ?_
    refine g_iconst (v := 3) dX17_endsBy_5 (by decide) ?_
    refine g_putI fpX17_970 dX17_endsBy_6 (fun σ1 => ?_)
    refine g_aload_n 0 0 dX17_endsBy_9 rfl rfl ?_
    refine g_iload_n 1 1 dX17_endsBy_10 rfl rfl ?_
    refine g_putI fpX17_1046 dX17_endsBy_11 (fun σ2 => ?_)
    exact g_return rfl dX17_endsBy_14
theorem V.dX17_push_0 : decode cX17_push 0 = .ok (.aload_n 0, 1) := by decide +kernel
theorem V.dX17_push_1 : decode cX17_push 1 = .ok (.getfield 191, 3) := by decide +kernel
theorem V.dX17_push_4 : decode cX17_push 4 = .ok (.aload_n 0, 1) := by decide +kernel
theorem V.dX17_push_5 : decode cX17_push 5 = .ok (.getfield 1104, 3) := by decide +kernel
theorem V.dX17_push_8 : decode cX17_push 8 = .ok (.lload_n 1, 1) := by decide +kernel
theorem V.dX17_push_9 : decode cX17_push 9 = .ok (.lastore, 1) := by decide +kernel
theorem V.dX17_push_10 : decode cX17_push 10 = .ok (.aload_n 0, 1) := by decide +kernel
theorem V.dX17_push_11 : decode cX17_push 11 = .ok (.dup, 1) := by decide +kernel
theorem V.dX17_push_12 : decode cX17_push 12 = .ok (.getfield 1104, 3) := by decide +kernel
theorem V.dX17_push_15 : decode cX17_push 15 = .ok (.iconst 1, 1) := by decide +kernel
theorem V.dX17_push_16 : decode cX17_push 16 = .ok (.iadd, 1) := by decide +kernel
theorem V.dX17_push_17 : decode cX17_push 17 = .ok (.putfield 1104, 3) := by decide +kernel
theorem V.dX17_push_20 : decode cX17_push 20 = .ok (.return_, 1) := by decide +kernel
/-! ModuleEngineModel.push(J)V -/
def V.Mdl_push (σ : HS) (x0 : Nat) (x1 : Int64) : Option (Unit × HS) :=
  ck (tg σ x0 = 18) <|
  ck (tg σ x0 = 18) <|
  ck (tg σ (gR σ x0 92) = 101 ∧ inb (gI σ x0 93) (ln σ (gR σ x0 92))) <| bn (sJ σ (gR σ x0 92) (ix (gI σ x0 93)) x1) fun σ1 =>
  ck (tg σ1 x0 = 18) <|
  ck (tg σ1 x0 = 18) <| bn (sI σ1 x0 93 ((gI σ1 x0 93) + (1 : Int32))) fun σ2 =>
  some ((), σ2)
theorem V.ctX17_push (x0 : Nat) (x1 : Int64) : Ct yX17_push  cX17_push 3 none 0 0 eV [av x0, jv x1] (fun σ => Mdl_push σ x0 x1) := by
  refine Ct.of (own := RX17) (nm := "push") (desc := "(J)V") rfl (by decide) (Nat.le_of_ble_eq_true rfl) (by decide) (fun X σ => ?_)
  show G X RX17 "push" cX17_push 3 none 0 0 enV 0 [(0, av x0), (1, jv x1)] [] σ (Mdl_push σ x0 x1)
  unfold Mdl_push
  refine g_aload_n 0 0 dX17_push_0 rfl rfl ?_
  refine g_getR fdX17_191 dX17_push_1 ?_
  refine g_aload_n 0 0 dX17_push_4 rfl rfl ?_
  refine g_getI fdX17_1104 dX17_push_5 ?_
  refine g_lload_n 1 1 dX17_push_8 rfl rfl ?_
  refine g_lastore dX17_push_9 (fun σ1 => ?_)
  refine g_aload_n 0 0 dX17_push_10 rfl rfl ?_
  refine g_dup dX17_push_11 rfl ?_
  refine g_getI fdX17_1104 dX17_push_12 ?_
  refine g_iconst (v := 1) dX17_push_15 (by decide) ?_
  refine g_iadd dX17_push_16 ?_
  refine g_putI fpX17_1104 dX17_push_17 (fun σ2 => ?_)
  exact g_return rfl dX17_push_20
theorem V.dX17_operator_0 : decode cX17_operator 0 = .ok (.iload_n 1, 1) := by decide +kernel
theorem V.dX17_operator_1 : decode cX17_operator 1 = .ok (.invokestatic 756, 3) := by decide +kernel
theorem V.dX17_operator_4 : decode cX17_operator 4 = .ok (.ifCond .eq 10, 3) := by decide +kernel
theorem V.dX17_operator_7 : decode cX17_operator 7 = .ok (.aload_n 0, 1) := by decide +kernel
theorem V.dX17_operator_8 : decode cX17_operator 8 = .ok (.invokevirtual 1157, 3) := by decide +kernel
theorem V.dX17_operator_11 : decode cX17_operator 11 = .ok (.goto 4, 3) := by decide +kernel
theorem V.dX17_operator_14 : decode cX17_operator 14 = .ok (.lconst 0, 1) := by decide +kernel
theorem V.dX17_operator_15 : decode cX17_operator 15 = .ok (.lstore_n 2, 1) := by decide +kernel
theorem V.dX17_operator_16 : decode cX17_operator 16 = .ok (.aload_n 0, 1) := by decide +kernel
theorem V.dX17_operator_17 : decode cX17_operator 17 = .ok (.invokevirtual 1157, 3) := by decide +kernel
theorem V.dX17_operator_20 : decode cX17_operator 20 = .ok (.lstore 4, 2) := by decide +kernel
theorem V.dX17_operator_22 : decode cX17_operator 22 = .ok (.aload_n 0, 1) := by decide +kernel
theorem V.dX17_operator_23 : decode cX17_operator 23 = .ok (.iconst 0, 1) := by decide +kernel
theorem V.dX17_operator_24 : decode cX17_operator 24 = .ok (.putfield 800, 3) := by decide +kernel
theorem V.dX17_operator_27 : decode cX17_operator 27 = .ok (.aload_n 0, 1) := by decide +kernel
theorem V.dX17_operator_28 : decode cX17_operator 28 = .ok (.iload_n 1, 1) := by decide +kernel
theorem V.dX17_operator_29 : decode cX17_operator 29 = .ok (.lload 4, 2) := by decide +kernel
theorem V.dX17_operator_31 : decode cX17_operator 31 = .ok (.lload_n 2, 1) := by decide +kernel
theorem V.dX17_operator_32 : decode cX17_operator 32 = .ok (.invokevirtual 1160, 3) := by decide +kernel
theorem V.dX17_operator_35 : decode cX17_operator 35 = .ok (.lstore 6, 2) := by decide +kernel
theorem V.dX17_operator_37 : decode cX17_operator 37 = .ok (.aload_n 0, 1) := by decide +kernel
theorem V.dX17_operator_38 : decode cX17_operator 38 = .ok (.getfield 800, 3) := by decide +kernel
theorem V.dX17_operator_41 : decode cX17_operator 41 = .ok (.ifCond .le 17, 3) := by decide +kernel
theorem V.dX17_operator_44 : decode cX17_operator 44 = .ok (.aload_n 0, 1) := by decide +kernel
theorem V.dX17_operator_45 : decode cX17_operator 45 = .ok (.iconst 1, 1) := by decide +kernel
theorem V.dX17_operator_46 : decode cX17_operator 46 = .ok (.aload_n 0, 1) := by decide +kernel
theorem V.dX17_operator_47 : decode cX17_operator 47 = .ok (.getfield 800, 3) := by decide +kernel
theorem V.dX17_operator_50 : decode cX17_operator 50 = .ok (.iadd, 1) := by decide +kernel
theorem V.dX17_operator_51 : decode cX17_operator 51 = .ok (.iconst 1, 1) := by decide +kernel
theorem V.dX17_operator_52 : decode cX17_operator 52 = .ok (.invokevirtual 1163, 3) := by decide +kernel
theorem V.dX17_operator_55 : decode cX17_operator 55 = .ok (.goto 9, 3) := by decide +kernel
theorem V.dX17_operator_58 : decode cX17_operator 58 = .ok (.aload_n 0, 1) := by decide +kernel
theorem V.dX17_operator_59 : decode cX17_operator 59 = .ok (.lload 6, 2) := by decide +kernel
theorem V.dX17_operator_61 : decode cX17_operator 61 = .ok (.invokevirtual 1136, 3) := by decide +kernel
theorem V.dX17_operator_64 : decode cX17_operator 64 = .ok (.return_, 1) := by decide +kernel
theorem V.mdX17_1157 : MD RX17 1157 yX17_pop cX17_pop 1 (some .long) 0 := ⟨Or.inl q4180, q377, q4183, by decide, by decide, by decide +kernel⟩
theorem V.mdX17_1160 : MD RX17 1160 yX17_reckons cX17_reckons 7 (some .long) 3 := ⟨Or.inl q4184, q377, q4187, by decide, by decide, by decide +kernel⟩
theorem V.fdX17_800 : FD RX17 800 17 33 0 := ⟨(RX17, TX17, 101), tyX17, rfl, rfl, in_X17, by decide, Or.inl q3069, rfl⟩
theorem V.mdX17_1136 : MD RX17 1136 yX17_push cX17_push 3 none 1 := ⟨Or.inl q4316, q377, q4319, by decide, by decide, by decide +kernel⟩
theorem V.mdX17_1163 : MD RX17 1163 yX17_endsBy cX17_endsBy 3 none 2 := ⟨Or.inl q4312, q377, q4315, by decide, by decide, by decide +kernel⟩
/-! ModuleEngineModel.operator(I)V -/
def V.Mdl_operator_p15  (σ : HS) (x0 : Nat) (x1 : Int32) (s0 : Int64) : Option (Unit × HS) :=
  ck (tg σ x0 = 18) <| cl (Mdl_pop σ x0 ) fun r2 σ1 =>
  ck (tg σ1 x0 = 18) <| bn (sI σ1 x0 33 (0 : Int32)) fun σ3 =>
  ck (tg σ3 x0 = 18) <| cl (Mdl_reckons σ3 x0 x1 r2 s0) fun r5 σ4 =>
  ck (tg σ4 x0 = 18) <|
  if (gI σ4 x0 33) ≤ 0 then (
    ck (tg σ4 x0 = 18) <| cl (Mdl_push σ4 x0 r5) fun _ σ6 =>
    some ((), σ6))
  else (
    ck (tg σ4 x0 = 18) <|
    ck (tg σ4 x0 = 18) <| cl (Mdl_endsBy σ4 x0 ((1 : Int32) + (gI σ4 x0 33)) (1 : Int32)) fun _ σ7 =>
    some ((), σ7))
theorem V.gX17_operator_p15 {X : CX}  (σ : HS) (x0 : Nat) (x1 : Int32) (s0 : Int64) : G X RX17 "operator" cX17_operator 8 none 7 191 enV 15 [(0, av x0), (1, iv x1)] [jv s0] σ (Mdl_operator_p15 σ x0 x1 s0) := by
  unfold Mdl_operator_p15
  refine g_lstore_n 2 dX17_operator_15 rfl (by decide) rfl ?_
  refine g_aload_n 0 1 dX17_operator_16 rfl rfl ?_
  refine g_callV (fc := fun sς => Mdl_pop sς x0 ) (ci := 17) (as := []) rfl rfl rfl q4182 qs327 mdX17_1157 (ctX17_pop x0 ) rfl (Nat.le_of_ble_eq_true rfl) (Nat.le_of_ble_eq_true rfl) (Nat.le_of_ble_eq_true rfl) pu_J dX17_operator_17 (fun r2 σ1 => ?_)
  refine g_lstore dX17_operator_20 (by decide) rfl ?_
  refine g_aload_n 0 2 dX17_operator_22 rfl rfl ?_
  refine g_iconst (v := 0) dX17_operator_23 (by decide) ?_
  refine g_putI fpX17_800 dX17_operator_24 (fun σ3 => ?_)
  refine g_aload_n 0 2 dX17_operator_27 rfl rfl ?_
  refine g_iload_n 1 3 dX17_operator_28 rfl rfl ?_
  refine g_lload 0 dX17_operator_29 rfl ?_
  refine g_lload_n 2 1 dX17_operator_31 rfl rfl ?_
  refine g_callV (fc := fun sς => Mdl_reckons sς x0 x1 r2 s0) (ci := 17) (as := [iv x1, jv r2, jv s0]) rfl rfl rfl q4186 qs328 mdX17_1160 (ctX17_reckons x0 x1 r2 s0) rfl (Nat.le_of_ble_eq_true rfl) (Nat.le_of_ble_eq_true rfl) (Nat.le_of_ble_eq_true rfl) pu_J dX17_operator_32 (fun r5 σ4 => ?_)
  refine g_lstore dX17_operator_35 (by decide) rfl ?_
  refine g_aload_n 0 3 dX17_operator_37 rfl rfl ?_
  refine g_getI fdX17_800 dX17_operator_38 ?_
  refine g_if_le 58 dX17_operator_41 (by decide) ?_ ?_
  · refine g_aload_n 0 3 dX17_operator_58 rfl rfl ?_
    refine g_lload 0 dX17_operator_59 rfl ?_
    refine g_callV (fc := fun sς => Mdl_push sς x0 r5) (ci := 17) (as := [jv r5]) rfl rfl rfl q4318 qs345 mdX17_1136 (ctX17_push x0 r5) rfl (Nat.le_of_ble_eq_true rfl) (Nat.le_of_ble_eq_true rfl) (Nat.le_of_ble_eq_true rfl) pu_V dX17_operator_61 (fun _ σ6 => ?_)
    exact g_return rfl dX17_operator_64
  · refine g_aload_n 0 3 dX17_operator_44 rfl rfl ?_
    refine g_iconst (v := 1) dX17_operator_45 (by decide) ?_
    refine g_aload_n 0 3 dX17_operator_46 rfl rfl ?_
    refine g_getI fdX17_800 dX17_operator_47 ?_
    refine g_iadd dX17_operator_50 ?_
    refine g_iconst (v := 1) dX17_operator_51 (by decide) ?_
    refine g_callV (fc := fun sς => Mdl_endsBy sς x0 ((1 : Int32) + (gI σ4 x0 33)) (1 : Int32)) (ci := 17) (as := [iv ((1 : Int32) + (gI σ4 x0 33)), iv (1 : Int32)]) rfl rfl rfl q4314 qs344 mdX17_1163 (ctX17_endsBy x0 ((1 : Int32) + (gI σ4 x0 33)) (1 : Int32)) rfl (Nat.le_of_ble_eq_true rfl) (Nat.le_of_ble_eq_true rfl) (Nat.le_of_ble_eq_true rfl) pu_V dX17_operator_52 (fun _ σ7 => ?_)
    refine g_goto 64 dX17_operator_55 (by decide) ?_
    exact g_return rfl dX17_operator_64
def V.Mdl_operator (σ : HS) (x0 : Nat) (x1 : Int32) : Option (Unit × HS) :=
  cl (Mdl_hasTwo σ x1) fun r2 σ1 =>
  if r2 = 0 then (
    Mdl_operator_p15 σ1 x0 x1 (0 : Int64))
  else (
    ck (tg σ1 x0 = 18) <| cl (Mdl_pop σ1 x0 ) fun r4 σ3 =>
    Mdl_operator_p15 σ3 x0 x1 r4)
theorem V.ctX17_operator (x0 : Nat) (x1 : Int32) : Ct yX17_operator  cX17_operator 8 none 7 191 eV [av x0, iv x1] (fun σ => Mdl_operator σ x0 x1) := by
  refine Ct.of (own := RX17) (nm := "operator") (desc := "(I)V") rfl (by decide) (Nat.le_of_ble_eq_true rfl) (by decide) (fun X σ => ?_)
  show G X RX17 "operator" cX17_operator 8 none 7 191 enV 0 [(0, av x0), (1, iv x1)] [] σ (Mdl_operator σ x0 x1)
  unfold Mdl_operator
  refine g_iload_n 1 1 dX17_operator_0 rfl rfl ?_
  refine g_callS (fc := fun sς => Mdl_hasTwo sς x1) (as := [iv x1]) q3892 mdX17_756 (ctX17_hasTwo x1) rfl (Nat.le_of_ble_eq_true rfl) (Nat.le_of_ble_eq_true rfl) (Nat.le_of_ble_eq_true rfl) pu_I dX17_operator_1 (fun r2 σ1 => ?_)
  refine g_if_eq 14 dX17_operator_4 (by decide) ?_ ?_
  · refine g_lconst (v := 0) dX17_operator_14 (by decide) ?_
    exact gX17_operator_p15 _ _ _ _
  · refine g_aload_n 0 0 dX17_operator_7 rfl rfl ?_
    refine g_callV (fc := fun sς => Mdl_pop sς x0 ) (ci := 17) (as := []) rfl rfl rfl q4182 qs327 mdX17_1157 (ctX17_pop x0 ) rfl (Nat.le_of_ble_eq_true rfl) (Nat.le_of_ble_eq_true rfl) (Nat.le_of_ble_eq_true rfl) pu_J dX17_operator_8 (fun r4 σ3 => ?_)
    refine g_goto 15 dX17_operator_11 (by decide) ?_
    exact gX17_operator_p15 _ _ _ _
theorem V.dX17_opensIf_0 : decode cX17_opensIf 0 = .ok (.aload_n 0, 1) := by decide +kernel
theorem V.dX17_opensIf_1 : decode cX17_opensIf 1 = .ok (.invokevirtual 600, 3) := by decide +kernel
theorem V.dX17_opensIf_4 : decode cX17_opensIf 4 = .ok (.lstore_n 2, 1) := by decide +kernel
theorem V.dX17_opensIf_5 : decode cX17_opensIf 5 = .ok (.aload_n 0, 1) := by decide +kernel
theorem V.dX17_opensIf_6 : decode cX17_opensIf 6 = .ok (.invokevirtual 1157, 3) := by decide +kernel
theorem V.dX17_opensIf_9 : decode cX17_opensIf 9 = .ok (.lconst 0, 1) := by decide +kernel
theorem V.dX17_opensIf_10 : decode cX17_opensIf 10 = .ok (.lcmp, 1) := by decide +kernel
theorem V.dX17_opensIf_11 : decode cX17_opensIf 11 = .ok (.ifCond .eq 7, 3) := by decide +kernel
theorem V.dX17_opensIf_14 : decode cX17_opensIf 14 = .ok (.iconst 1, 1) := by decide +kernel
theorem V.dX17_opensIf_15 : decode cX17_opensIf 15 = .ok (.goto 4, 3) := by decide +kernel
theorem V.dX17_opensIf_18 : decode cX17_opensIf 18 = .ok (.iconst 0, 1) := by decide +kernel
theorem V.dX17_opensIf_19 : decode cX17_opensIf 19 = .ok (.istore 4, 2) := by decide +kernel
theorem V.dX17_opensIf_21 : decode cX17_opensIf 21 = .ok (.aload_n 0, 1) := by decide +kernel
theorem V.dX17_opensIf_22 : decode cX17_opensIf 22 = .ok (.aload_n 0, 1) := by decide +kernel
theorem V.dX17_opensIf_23 : decode cX17_opensIf 23 = .ok (.getfield 221, 3) := by decide +kernel
theorem V.dX17_opensIf_26 : decode cX17_opensIf 26 = .ok (.getfield 549, 3) := by decide +kernel
theorem V.dX17_opensIf_29 : decode cX17_opensIf 29 = .ok (.iload_n 1, 1) := by decide +kernel
theorem V.dX17_opensIf_30 : decode cX17_opensIf 30 = .ok (.iaload, 1) := by decide +kernel
theorem V.dX17_opensIf_31 : decode cX17_opensIf 31 = .ok (.iconst 1, 1) := by decide +kernel
theorem V.dX17_opensIf_32 : decode cX17_opensIf 32 = .ok (.iadd, 1) := by decide +kernel
theorem V.dX17_opensIf_33 : decode cX17_opensIf 33 = .ok (.aload_n 0, 1) := by decide +kernel
theorem V.dX17_opensIf_34 : decode cX17_opensIf 34 = .ok (.lload_n 2, 1) := by decide +kernel
theorem V.dX17_opensIf_35 : decode cX17_opensIf 35 = .ok (.invokevirtual 698, 3) := by decide +kernel
theorem V.dX17_opensIf_38 : decode cX17_opensIf 38 = .ok (.aload_n 0, 1) := by decide +kernel
theorem V.dX17_opensIf_39 : decode cX17_opensIf 39 = .ok (.lload_n 2, 1) := by decide +kernel
theorem V.dX17_opensIf_40 : decode cX17_opensIf 40 = .ok (.invokevirtual 689, 3) := by decide +kernel
theorem V.dX17_opensIf_43 : decode cX17_opensIf 43 = .ok (.iconst 0, 1) := by decide +kernel
theorem V.dX17_opensIf_44 : decode cX17_opensIf 44 = .ok (.invokevirtual 1113, 3) := by decide +kernel
theorem V.dX17_opensIf_47 : decode cX17_opensIf 47 = .ok (.iload 4, 2) := by decide +kernel
theorem V.dX17_opensIf_49 : decode cX17_opensIf 49 = .ok (.ifCond .ne 42, 3) := by decide +kernel
theorem V.dX17_opensIf_52 : decode cX17_opensIf 52 = .ok (.aload_n 0, 1) := by decide +kernel
theorem V.dX17_opensIf_53 : decode cX17_opensIf 53 = .ok (.aload_n 0, 1) := by decide +kernel
theorem V.dX17_opensIf_54 : decode cX17_opensIf 54 = .ok (.getfield 221, 3) := by decide +kernel
theorem V.dX17_opensIf_57 : decode cX17_opensIf 57 = .ok (.getfield 552, 3) := by decide +kernel
theorem V.dX17_opensIf_60 : decode cX17_opensIf 60 = .ok (.iload_n 1, 1) := by decide +kernel
theorem V.dX17_opensIf_61 : decode cX17_opensIf 61 = .ok (.iaload, 1) := by decide +kernel
theorem V.dX17_opensIf_62 : decode cX17_opensIf 62 = .ok (.ifCond .le 17, 3) := by decide +kernel
theorem V.dX17_opensIf_65 : decode cX17_opensIf 65 = .ok (.aload_n 0, 1) := by decide +kernel
theorem V.dX17_opensIf_66 : decode cX17_opensIf 66 = .ok (.getfield 221, 3) := by decide +kernel
theorem V.dX17_opensIf_69 : decode cX17_opensIf 69 = .ok (.getfield 552, 3) := by decide +kernel
theorem V.dX17_opensIf_72 : decode cX17_opensIf 72 = .ok (.iload_n 1, 1) := by decide +kernel
theorem V.dX17_opensIf_73 : decode cX17_opensIf 73 = .ok (.iaload, 1) := by decide +kernel
theorem V.dX17_opensIf_74 : decode cX17_opensIf 74 = .ok (.iconst 1, 1) := by decide +kernel
theorem V.dX17_opensIf_75 : decode cX17_opensIf 75 = .ok (.iadd, 1) := by decide +kernel
theorem V.dX17_opensIf_76 : decode cX17_opensIf 76 = .ok (.goto 12, 3) := by decide +kernel
theorem V.dX17_opensIf_79 : decode cX17_opensIf 79 = .ok (.aload_n 0, 1) := by decide +kernel
theorem V.dX17_opensIf_80 : decode cX17_opensIf 80 = .ok (.getfield 221, 3) := by decide +kernel
theorem V.dX17_opensIf_83 : decode cX17_opensIf 83 = .ok (.getfield 549, 3) := by decide +kernel
theorem V.dX17_opensIf_86 : decode cX17_opensIf 86 = .ok (.iload_n 1, 1) := by decide +kernel
theorem V.dX17_opensIf_87 : decode cX17_opensIf 87 = .ok (.iaload, 1) := by decide +kernel
theorem V.dX17_opensIf_88 : decode cX17_opensIf 88 = .ok (.putfield 1107, 3) := by decide +kernel
theorem V.dX17_opensIf_91 : decode cX17_opensIf 91 = .ok (.return_, 1) := by decide +kernel
/-! ModuleEngineModel.opensIf(I)V -/
def V.Mdl_opensIf_p88  (σ : HS) (s0 : Int32) (s1 : Nat) : Option (Unit × HS) :=
  ck (tg σ s1 = 18) <| bn (sI σ s1 94 s0) fun σ1 =>
  some ((), σ1)
theorem V.gX17_opensIf_p88 {X : CX}  (σ : HS) (s0 : Int32) (s1 : Nat) : G X RX17 "opensIf" cX17_opensIf 5 none 3 66 enV 88 [] [iv s0, av s1] σ (Mdl_opensIf_p88 σ s0 s1) := by
  unfold Mdl_opensIf_p88
  refine g_putI fpX17_1107 dX17_opensIf_88 (fun σ1 => ?_)
  exact g_return rfl dX17_opensIf_91
def V.Mdl_opensIf_p19  (σ : HS) (x0 : Nat) (x1 : Int32) (x2 : Int64) (s0 : Int32) : Option (Unit × HS) :=
  ck (tg σ x0 = 18) <|
  ck (tg σ (gR σ x0 10) = 21) <|
  ck (tg σ (gR σ (gR σ x0 10) 56) = 100 ∧ inb x1 (ln σ (gR σ (gR σ x0 10) 56))) <|
  ck (tg σ x0 = 18) <| cl (Mdl_resultsOf σ x0 x2) fun r2 σ1 =>
  ck (tg σ1 x0 = 18) <| cl (Mdl_parametersOf σ1 x0 x2) fun r4 σ3 =>
  ck (tg σ3 x0 = 18) <| cl (Mdl_opens σ3 x0 ((gI σ (gR σ (gR σ x0 10) 56) (ix x1)) + (1 : Int32)) r2 r4 (0 : Int32)) fun _ σ5 =>
  if s0 = 0 then (
    ck (tg σ5 x0 = 18) <|
    ck (tg σ5 (gR σ5 x0 10) = 21) <|
    ck (tg σ5 (gR σ5 (gR σ5 x0 10) 57) = 100 ∧ inb x1 (ln σ5 (gR σ5 (gR σ5 x0 10) 57))) <|
    if (gI σ5 (gR σ5 (gR σ5 x0 10) 57) (ix x1)) ≤ 0 then (
      ck (tg σ5 x0 = 18) <|
      ck (tg σ5 (gR σ5 x0 10) = 21) <|
      ck (tg σ5 (gR σ5 (gR σ5 x0 10) 56) = 100 ∧ inb x1 (ln σ5 (gR σ5 (gR σ5 x0 10) 56))) <|
      Mdl_opensIf_p88 σ5 (gI σ5 (gR σ5 (gR σ5 x0 10) 56) (ix x1)) x0)
    else (
      ck (tg σ5 x0 = 18) <|
      ck (tg σ5 (gR σ5 x0 10) = 21) <|
      ck (tg σ5 (gR σ5 (gR σ5 x0 10) 57) = 100 ∧ inb x1 (ln σ5 (gR σ5 (gR σ5 x0 10) 57))) <|
      Mdl_opensIf_p88 σ5 ((gI σ5 (gR σ5 (gR σ5 x0 10) 57) (ix x1)) + (1 : Int32)) x0))
  else (
    some ((), σ5))
theorem V.gX17_opensIf_p19 {X : CX}  (σ : HS) (x0 : Nat) (x1 : Int32) (x2 : Int64) (s0 : Int32) : G X RX17 "opensIf" cX17_opensIf 5 none 3 66 enV 19 [(0, av x0), (1, iv x1), (2, jv x2)] [iv s0] σ (Mdl_opensIf_p19 σ x0 x1 x2 s0) := by
  unfold Mdl_opensIf_p19
  refine g_istore dX17_opensIf_19 (by decide) rfl ?_
  refine g_aload_n 0 1 dX17_opensIf_21 rfl rfl ?_
  refine g_aload_n 0 1 dX17_opensIf_22 rfl rfl ?_
  refine g_getR fdX17_221 dX17_opensIf_23 ?_
  refine g_getR fdX17_549 dX17_opensIf_26 ?_
  refine g_iload_n 1 2 dX17_opensIf_29 rfl rfl ?_
  refine g_iaload dX17_opensIf_30 ?_
  refine g_iconst (v := 1) dX17_opensIf_31 (by decide) ?_
  refine g_iadd dX17_opensIf_32 ?_
  refine g_aload_n 0 1 dX17_opensIf_33 rfl rfl ?_
  refine g_lload_n 2 3 dX17_opensIf_34 rfl rfl ?_
  refine g_callV (fc := fun sς => Mdl_resultsOf sς x0 x2) (ci := 17) (as := [jv x2]) rfl rfl rfl q3943 qs276 mdX17_698 (ctX17_resultsOf x0 x2) rfl (Nat.le_of_ble_eq_true rfl) (Nat.le_of_ble_eq_true rfl) (Nat.le_of_ble_eq_true rfl) pu_I dX17_opensIf_35 (fun r2 σ1 => ?_)
  refine g_aload_n 0 1 dX17_opensIf_38 rfl rfl ?_
  refine g_lload_n 2 3 dX17_opensIf_39 rfl rfl ?_
  refine g_callV (fc := fun sς => Mdl_parametersOf sς x0 x2) (ci := 17) (as := [jv x2]) rfl rfl rfl q3923 qs271 mdX17_689 (ctX17_parametersOf x0 x2) rfl (Nat.le_of_ble_eq_true rfl) (Nat.le_of_ble_eq_true rfl) (Nat.le_of_ble_eq_true rfl) pu_I dX17_opensIf_40 (fun r4 σ3 => ?_)
  refine g_iconst (v := 0) dX17_opensIf_43 (by decide) ?_
  refine g_callV (fc := fun sς => Mdl_opens sς x0 ((gI σ (gR σ (gR σ x0 10) 56) (ix x1)) + (1 : Int32)) r2 r4 (0 : Int32)) (ci := 17) (as := [iv ((gI σ (gR σ (gR σ x0 10) 56) (ix x1)) + (1 : Int32)), iv r2, iv r4, iv (0 : Int32)]) rfl rfl rfl q4129 qs318 mdX17_1113 (ctX17_opens x0 ((gI σ (gR σ (gR σ x0 10) 56) (ix x1)) + (1 : Int32)) r2 r4 (0 : Int32)) rfl (Nat.le_of_ble_eq_true rfl) (Nat.le_of_ble_eq_true rfl) (Nat.le_of_ble_eq_true rfl) pu_V dX17_opensIf_44 (fun _ σ5 => ?_)
  refine g_iload 0 dX17_opensIf_47 rfl ?_
  refine g_if_ne 91 dX17_opensIf_49 (by decide) ?_ ?_
  · exact g_return rfl dX17_opensIf_91
  · refine g_aload_n 0 1 dX17_opensIf_52 rfl rfl ?_
    refine g_aload_n 0 1 dX17_opensIf_53 rfl rfl ?_
    refine g_getR fdX17_221 dX17_opensIf_54 ?_
    refine g_getR fdX17_552 dX17_opensIf_57 ?_
    refine g_iload_n 1 2 dX17_opensIf_60 rfl rfl ?_
    refine g_iaload dX17_opensIf_61 ?_
    refine g_if_le 79 dX17_opensIf_62 (by decide) ?_ ?_
    · refine g_aload_n 0 1 dX17_opensIf_79 rfl rfl ?_
      refine g_getR fdX17_221 dX17_opensIf_80 ?_
      refine g_getR fdX17_549 dX17_opensIf_83 ?_
      refine g_iload_n 1 2 dX17_opensIf_86 rfl rfl ?_
      refine g_iaload dX17_opensIf_87 ?_
      refine G.sub [] rfl ?_
      exact gX17_opensIf_p88 _ _ _
    · refine g_aload_n 0 1 dX17_opensIf_65 rfl rfl ?_
      refine g_getR fdX17_221 dX17_opensIf_66 ?_
      refine g_getR fdX17_552 dX17_opensIf_69 ?_
      refine g_iload_n 1 2 dX17_opensIf_72 rfl rfl ?_
      refine g_iaload dX17_opensIf_73 ?_
      refine g_iconst (v := 1) dX17_opensIf_74 (by decide) ?_
      refine g_iadd dX17_opensIf_75 ?_
      refine g_goto 88 dX17_opensIf_76 (by decide) ?_
      refine G.sub [] rfl ?_
      exact gX17_opensIf_p88 _ _ _
def V.Mdl_opensIf (σ : HS) (x0 : Nat) (x1 : Int32) : Option (Unit × HS) :=
  ck (tg σ x0 = 18) <| cl (Mdl_blockWord σ x0 ) fun r2 σ1 =>
  ck (tg σ1 x0 = 18) <| cl (Mdl_pop σ1 x0 ) fun r4 σ3 =>
  if r4 = (0 : Int64) then (
    Mdl_opensIf_p19 σ3 x0 x1 r2 (0 : Int32))
  else (
    Mdl_opensIf_p19 σ3 x0 x1 r2 (1 : Int32))
theorem V.ctX17_opensIf (x0 : Nat) (x1 : Int32) : Ct yX17_opensIf  cX17_opensIf 5 none 3 66 eV [av x0, iv x1] (fun σ => Mdl_opensIf σ x0 x1) := by
  refine Ct.of (own := RX17) (nm := "opensIf") (desc := "(I)V") rfl (by decide) (Nat.le_of_ble_eq_true rfl) (by decide) (fun X σ => ?_)
  show G X RX17 "opensIf" cX17_opensIf 5 none 3 66 enV 0 [(0, av x0), (1, iv x1)] [] σ (Mdl_opensIf σ x0 x1)
  unfold Mdl_opensIf
  refine g_aload_n 0 0 dX17_opensIf_0 rfl rfl ?_
  refine g_callV (fc := fun sς => Mdl_blockWord sς x0 ) (ci := 17) (as := []) rfl rfl rfl q3826 qs253 mdX17_600 (ctX17_blockWord x0 ) rfl (Nat.le_of_ble_eq_true rfl) (Nat.le_of_ble_eq_true rfl) (Nat.le_of_ble_eq_true rfl) pu_J dX17_opensIf_1 (fun r2 σ1 => ?_)
  refine g_lstore_n 2 dX17_opensIf_4 rfl (by decide) rfl ?_
  refine g_aload_n 0 1 dX17_opensIf_5 rfl rfl ?_
  refine g_callV (fc := fun sς => Mdl_pop sς x0 ) (ci := 17) (as := []) rfl rfl rfl q4182 qs327 mdX17_1157 (ctX17_pop x0 ) rfl (Nat.le_of_ble_eq_true rfl) (Nat.le_of_ble_eq_true rfl) (Nat.le_of_ble_eq_true rfl) pu_J dX17_opensIf_6 (fun r4 σ3 => ?_)
  refine g_lconst (v := 0) dX17_opensIf_9 (by decide) ?_
  refine g_lcmp_eq 18 dX17_opensIf_10 dX17_opensIf_11 (by decide) ?_ ?_
  · refine g_iconst (v := 0) dX17_opensIf_18 (by decide) ?_
    refine G.sub [1, 2, 0] rfl ?_
    exact gX17_opensIf_p19 _ _ _ _ _
  · refine g_iconst (v := 1) dX17_opensIf_14 (by decide) ?_
    refine g_goto 19 dX17_opensIf_15 (by decide) ?_
    refine G.sub [1, 2, 0] rfl ?_
    exact gX17_opensIf_p19 _ _ _ _ _
theorem V.dX17_branches_0 : decode cX17_branches 0 = .ok (.aload_n 0, 1) := by decide +kernel
theorem V.dX17_branches_1 : decode cX17_branches 1 = .ok (.getfield 1086, 3) := by decide +kernel
theorem V.dX17_branches_4 : decode cX17_branches 4 = .ok (.iconst 1, 1) := by decide +kernel
theorem V.dX17_branches_5 : decode cX17_branches 5 = .ok (.isub, 1) := by decide +kernel
theorem V.dX17_branches_6 : decode cX17_branches 6 = .ok (.iload_n 1, 1) := by decide +kernel
theorem V.dX17_branches_7 : decode cX17_branches 7 = .ok (.isub, 1) := by decide +kernel
theorem V.dX17_branches_8 : decode cX17_branches 8 = .ok (.istore_n 2, 1) := by decide +kernel
theorem V.dX17_branches_9 : decode cX17_branches 9 = .ok (.aload_n 0, 1) := by decide +kernel
theorem V.dX17_branches_10 : decode cX17_branches 10 = .ok (.getfield 201, 3) := by decide +kernel
theorem V.dX17_branches_13 : decode cX17_branches 13 = .ok (.iload_n 2, 1) := by decide +kernel
theorem V.dX17_branches_14 : decode cX17_branches 14 = .ok (.iaload, 1) := by decide +kernel
theorem V.dX17_branches_15 : decode cX17_branches 15 = .ok (.istore_n 3, 1) := by decide +kernel
theorem V.dX17_branches_16 : decode cX17_branches 16 = .ok (.aload_n 0, 1) := by decide +kernel
theorem V.dX17_branches_17 : decode cX17_branches 17 = .ok (.getfield 1104, 3) := by decide +kernel
theorem V.dX17_branches_20 : decode cX17_branches 20 = .ok (.iload_n 3, 1) := by decide +kernel
theorem V.dX17_branches_21 : decode cX17_branches 21 = .ok (.isub, 1) := by decide +kernel
theorem V.dX17_branches_22 : decode cX17_branches 22 = .ok (.istore 4, 2) := by decide +kernel
theorem V.dX17_branches_24 : decode cX17_branches 24 = .ok (.iconst 0, 1) := by decide +kernel
theorem V.dX17_branches_25 : decode cX17_branches 25 = .ok (.istore 5, 2) := by decide +kernel
theorem V.dX17_branches_27 : decode cX17_branches 27 = .ok (.iload 5, 2) := by decide +kernel
theorem V.dX17_branches_29 : decode cX17_branches 29 = .ok (.iload_n 3, 1) := by decide +kernel
theorem V.dX17_branches_30 : decode cX17_branches 30 = .ok (.if_icmp .ge 33, 3) := by decide +kernel
theorem V.dX17_branches_33 : decode cX17_branches 33 = .ok (.aload_n 0, 1) := by decide +kernel
theorem V.dX17_branches_34 : decode cX17_branches 34 = .ok (.getfield 191, 3) := by decide +kernel
theorem V.dX17_branches_37 : decode cX17_branches 37 = .ok (.aload_n 0, 1) := by decide +kernel
theorem V.dX17_branches_38 : decode cX17_branches 38 = .ok (.getfield 198, 3) := by decide +kernel
theorem V.dX17_branches_41 : decode cX17_branches 41 = .ok (.iload_n 2, 1) := by decide +kernel
theorem V.dX17_branches_42 : decode cX17_branches 42 = .ok (.iaload, 1) := by decide +kernel
theorem V.dX17_branches_43 : decode cX17_branches 43 = .ok (.iload 5, 2) := by decide +kernel
theorem V.dX17_branches_45 : decode cX17_branches 45 = .ok (.iadd, 1) := by decide +kernel
theorem V.dX17_branches_46 : decode cX17_branches 46 = .ok (.aload_n 0, 1) := by decide +kernel
theorem V.dX17_branches_47 : decode cX17_branches 47 = .ok (.getfield 191, 3) := by decide +kernel
theorem V.dX17_branches_50 : decode cX17_branches 50 = .ok (.iload 4, 2) := by decide +kernel
theorem V.dX17_branches_52 : decode cX17_branches 52 = .ok (.iload 5, 2) := by decide +kernel
theorem V.dX17_branches_54 : decode cX17_branches 54 = .ok (.iadd, 1) := by decide +kernel
theorem V.dX17_branches_55 : decode cX17_branches 55 = .ok (.laload, 1) := by decide +kernel
theorem V.dX17_branches_56 : decode cX17_branches 56 = .ok (.lastore, 1) := by decide +kernel
theorem V.dX17_branches_57 : decode cX17_branches 57 = .ok (.iinc 5 1, 3) := by decide +kernel
theorem V.dX17_branches_60 : decode cX17_branches 60 = .ok (.goto (-33), 3) := by decide +kernel
theorem V.dX17_branches_63 : decode cX17_branches 63 = .ok (.aload_n 0, 1) := by decide +kernel
theorem V.dX17_branches_64 : decode cX17_branches 64 = .ok (.aload_n 0, 1) := by decide +kernel
theorem V.dX17_branches_65 : decode cX17_branches 65 = .ok (.getfield 198, 3) := by decide +kernel
theorem V.dX17_branches_68 : decode cX17_branches 68 = .ok (.iload_n 2, 1) := by decide +kernel
theorem V.dX17_branches_69 : decode cX17_branches 69 = .ok (.iaload, 1) := by decide +kernel
theorem V.dX17_branches_70 : decode cX17_branches 70 = .ok (.iload_n 3, 1) := by decide +kernel
theorem V.dX17_branches_71 : decode cX17_branches 71 = .ok (.iadd, 1) := by decide +kernel
theorem V.dX17_branches_72 : decode cX17_branches 72 = .ok (.putfield 1104, 3) := by decide +kernel
theorem V.dX17_branches_75 : decode cX17_branches 75 = .ok (.aload_n 0, 1) := by decide +kernel
theorem V.dX17_branches_76 : decode cX17_branches 76 = .ok (.aload_n 0, 1) := by decide +kernel
theorem V.dX17_branches_77 : decode cX17_branches 77 = .ok (.getfield 195, 3) := by decide +kernel
theorem V.dX17_branches_80 : decode cX17_branches 80 = .ok (.iload_n 2, 1) := by decide +kernel
theorem V.dX17_branches_81 : decode cX17_branches 81 = .ok (.iaload, 1) := by decide +kernel
theorem V.dX17_branches_82 : decode cX17_branches 82 = .ok (.putfield 1107, 3) := by decide +kernel
theorem V.dX17_branches_85 : decode cX17_branches 85 = .ok (.aload_n 0, 1) := by decide +kernel
theorem V.dX17_branches_86 : decode cX17_branches 86 = .ok (.aload_n 0, 1) := by decide +kernel
theorem V.dX17_branches_87 : decode cX17_branches 87 = .ok (.getfield 204, 3) := by decide +kernel
theorem V.dX17_branches_90 : decode cX17_branches 90 = .ok (.iload_n 2, 1) := by decide +kernel
theorem V.dX17_branches_91 : decode cX17_branches 91 = .ok (.baload, 1) := by decide +kernel
theorem V.dX17_branches_92 : decode cX17_branches 92 = .ok (.ifCond .eq 9, 3) := by decide +kernel
theorem V.dX17_branches_95 : decode cX17_branches 95 = .ok (.iload_n 2, 1) := by decide +kernel
theorem V.dX17_branches_96 : decode cX17_branches 96 = .ok (.iconst 1, 1) := by decide +kernel
theorem V.dX17_branches_97 : decode cX17_branches 97 = .ok (.iadd, 1) := by decide +kernel
theorem V.dX17_branches_98 : decode cX17_branches 98 = .ok (.goto 4, 3) := by decide +kernel
theorem V.dX17_branches_101 : decode cX17_branches 101 = .ok (.iload_n 2, 1) := by decide +kernel
theorem V.dX17_branches_102 : decode cX17_branches 102 = .ok (.putfield 1086, 3) := by decide +kernel
theorem V.dX17_branches_105 : decode cX17_branches 105 = .ok (.return_, 1) := by decide +kernel
/-! ModuleEngineModel.branches(I)V -/
def V.Mdl_branches_p102  (σ : HS) (s0 : Int32) (s1 : Nat) : Option (Unit × HS) :=
  ck (tg σ s1 = 18) <| bn (sI σ s1 96 s0) fun σ1 =>
  some ((), σ1)
theorem V.gX17_branches_p102 {X : CX}  (σ : HS) (s0 : Int32) (s1 : Nat) : G X RX17 "branches" cX17_branches 6 none 0 0 enV 102 [] [iv s0, av s1] σ (Mdl_branches_p102 σ s0 s1) := by
  unfold Mdl_branches_p102
  refine g_putI fpX17_1086 dX17_branches_102 (fun σ1 => ?_)
  exact g_return rfl dX17_branches_105
def V.Mdl_branches_p27  : Nat → HS → Nat → Int32 → Int32 → Int32 → Int32 → Option (Unit × HS)
  | 0, _, _, _, _, _, _ => none
  | n + 1, σ, x0, x2, x3, x4, x5 =>
    if x3 ≤ x5 then (
      ck (tg σ x0 = 18) <|
      ck (tg σ (gR σ x0 98) = 100 ∧ inb x2 (ln σ (gR σ x0 98))) <|
      ck (tg σ x0 = 18) <| bn (sI σ x0 93 ((gI σ (gR σ x0 98) (ix x2)) + x3)) fun σ1 =>
      ck (tg σ1 x0 = 18) <|
      ck (tg σ1 (gR σ1 x0 97) = 100 ∧ inb x2 (ln σ1 (gR σ1 x0 97))) <|
      ck (tg σ1 x0 = 18) <| bn (sI σ1 x0 94 (gI σ1 (gR σ1 x0 97) (ix x2))) fun σ2 =>
      ck (tg σ2 x0 = 18) <|
      ck (tg σ2 (gR σ2 x0 100) = 103 ∧ inb x2 (ln σ2 (gR σ2 x0 100))) <|
      if (gI σ2 (gR σ2 x0 100) (ix x2)) = 0 then (
        Mdl_branches_p102 σ2 x2 x0)
      else (
        Mdl_branches_p102 σ2 (x2 + (1 : Int32)) x0))
    else (
      ck (tg σ x0 = 18) <|
      ck (tg σ x0 = 18) <|
      ck (tg σ (gR σ x0 98) = 100 ∧ inb x2 (ln σ (gR σ x0 98))) <|
      ck (tg σ x0 = 18) <|
      ck (tg σ (gR σ x0 92) = 101 ∧ inb (x4 + x5) (ln σ (gR σ x0 92))) <|
      ck (tg σ (gR σ x0 92) = 101 ∧ inb ((gI σ (gR σ x0 98) (ix x2)) + x5) (ln σ (gR σ x0 92))) <| bn (sJ σ (gR σ x0 92) (ix ((gI σ (gR σ x0 98) (ix x2)) + x5)) (gJ σ (gR σ x0 92) (ix (x4 + x5)))) fun σ3 =>
      bn (x5 + (1 : Int32)) fun y4 =>
      Mdl_branches_p27 n σ3 x0 x2 x3 x4 y4)
theorem V.gX17_branches_p27 {X : CX}  : ∀ (n : Nat) (σ : HS) (x0 : Nat) (x2 : Int32) (x3 : Int32) (x4 : Int32) (x5 : Int32), G X RX17 "branches" cX17_branches 6 none 0 0 enV 27 [(0, av x0), (2, iv x2), (3, iv x3), (4, iv x4), (5, iv x5)] [] σ (Mdl_branches_p27 n σ x0 x2 x3 x4 x5)
  | 0, σ, x0, x2, x3, x4, x5 => by rw [Mdl_branches_p27]; exact G.nul
  | n + 1, σ, x0, x2, x3, x4, x5 => by
    rw [Mdl_branches_p27]
    refine g_iload 4 dX17_branches_27 rfl ?_
    refine g_iload_n 3 2 dX17_branches_29 rfl rfl ?_
    refine g_icmp_ge 63 dX17_branches_30 (by decide) ?_ ?_
    · refine g_aload_n 0 0 dX17_branches_63 rfl rfl ?_
      refine g_aload_n 0 0 dX17_branches_64 rfl rfl ?_
      refine g_getR fdX17_198 dX17_branches_65 ?_
      refine g_iload_n 2 1 dX17_branches_68 rfl rfl ?_
      refine g_iaload dX17_branches_69 ?_
      refine g_iload_n 3 2 dX17_branches_70 rfl rfl ?_
      refine g_iadd dX17_branches_71 ?_
      refine g_putI fpX17_1104 dX17_branches_72 (fun σ1 => ?_)
      refine g_aload_n 0 0 dX17_branches_75 rfl rfl ?_
      refine g_aload_n 0 0 dX17_branches_76 rfl rfl ?_
      refine g_getR fdX17_195 dX17_branches_77 ?_
      refine g_iload_n 2 1 dX17_branches_80 rfl rfl ?_
      refine g_iaload dX17_branches_81 ?_
      refine g_putI fpX17_1107 dX17_branches_82 (fun σ2 => ?_)
      refine g_aload_n 0 0 dX17_branches_85 rfl rfl ?_
      refine g_aload_n 0 0 dX17_branches_86 rfl rfl ?_
      refine g_getR fdX17_204 dX17_branches_87 ?_
      refine g_iload_n 2 1 dX17_branches_90 rfl rfl ?_
      refine g_zaload dX17_branches_91 ?_
      refine g_if_eq 101 dX17_branches_92 (by decide) ?_ ?_
      · refine g_iload_n 2 1 dX17_branches_101 rfl rfl ?_
        refine G.sub [] rfl ?_
        exact gX17_branches_p102 _ _ _
      · refine g_iload_n 2 1 dX17_branches_95 rfl rfl ?_
        refine g_iconst (v := 1) dX17_branches_96 (by decide) ?_
        refine g_iadd dX17_branches_97 ?_
        refine g_goto 102 dX17_branches_98 (by decide) ?_
        refine G.sub [] rfl ?_
        exact gX17_branches_p102 _ _ _
    · refine g_aload_n 0 0 dX17_branches_33 rfl rfl ?_
      refine g_getR fdX17_191 dX17_branches_34 ?_
      refine g_aload_n 0 0 dX17_branches_37 rfl rfl ?_
      refine g_getR fdX17_198 dX17_branches_38 ?_
      refine g_iload_n 2 1 dX17_branches_41 rfl rfl ?_
      refine g_iaload dX17_branches_42 ?_
      refine g_iload 4 dX17_branches_43 rfl ?_
      refine g_iadd dX17_branches_45 ?_
      refine g_aload_n 0 0 dX17_branches_46 rfl rfl ?_
      refine g_getR fdX17_191 dX17_branches_47 ?_
      refine g_iload 3 dX17_branches_50 rfl ?_
      refine g_iload 4 dX17_branches_52 rfl ?_
      refine g_iadd dX17_branches_54 ?_
      refine g_laload dX17_branches_55 ?_
      refine g_lastore dX17_branches_56 (fun σ3 => ?_)
      refine g_iincB (w := 1) 4 dX17_branches_57 rfl (by decide) (by decide) (fun _ => rfl) (fun y4 => ?_)
      refine g_goto 27 dX17_branches_60 (by decide) ?_
      refine G.sub [1, 2, 3, 4, 0] rfl ?_
      exact gX17_branches_p27 n _ _ _ _ _ _
def V.Mdl_branches (σ : HS) (x0 : Nat) (x1 : Int32) : Option (Unit × HS) :=
  ck (tg σ x0 = 18) <|
  bn (((gI σ x0 96) - (1 : Int32)) - x1) fun y1 =>
  ck (tg σ x0 = 18) <|
  ck (tg σ (gR σ x0 99) = 100 ∧ inb y1 (ln σ (gR σ x0 99))) <|
  bn (gI σ (gR σ x0 99) (ix y1)) fun y2 =>
  ck (tg σ x0 = 18) <|
  bn ((gI σ x0 93) - y2) fun y3 =>
  Mdl_branches_p27 FU σ x0 y1 y2 y3 (0 : Int32)
theorem V.ctX17_branches (x0 : Nat) (x1 : Int32) : Ct yX17_branches  cX17_branches 6 none 0 0 eV [av x0, iv x1] (fun σ => Mdl_branches σ x0 x1) := by
  refine Ct.of (own := RX17) (nm := "branches") (desc := "(I)V") rfl (by decide) (Nat.le_of_ble_eq_true rfl) (by decide) (fun X σ => ?_)
  show G X RX17 "branches" cX17_branches 6 none 0 0 enV 0 [(0, av x0), (1, iv x1)] [] σ (Mdl_branches σ x0 x1)
  unfold Mdl_branches
  refine g_aload_n 0 0 dX17_branches_0 rfl rfl ?_
  refine g_getI fdX17_1086 dX17_branches_1 ?_
  refine g_iconst (v := 1) dX17_branches_4 (by decide) ?_
  refine g_isub dX17_branches_5 ?_
  refine g_iload_n 1 1 dX17_branches_6 rfl rfl ?_
  refine g_isub dX17_branches_7 ?_
  refine g_nmI (fun y1 => ?_)
  refine g_istore_n 2 dX17_branches_8 rfl (by decide) rfl ?_
  refine g_aload_n 0 1 dX17_branches_9 rfl rfl ?_
  refine g_getR fdX17_201 dX17_branches_10 ?_
  refine g_iload_n 2 0 dX17_branches_13 rfl rfl ?_
  refine g_iaload dX17_branches_14 ?_
  refine g_nmI (fun y2 => ?_)
  refine g_istore_n 3 dX17_branches_15 rfl (by decide) rfl ?_
  refine g_aload_n 0 2 dX17_branches_16 rfl rfl ?_
  refine g_getI fdX17_1104 dX17_branches_17 ?_
  refine g_iload_n 3 0 dX17_branches_20 rfl rfl ?_
  refine g_isub dX17_branches_21 ?_
  refine g_nmI (fun y3 => ?_)
  refine g_istore dX17_branches_22 (by decide) rfl ?_
  refine g_iconst (v := 0) dX17_branches_24 (by decide) ?_
  refine g_istore dX17_branches_25 (by decide) rfl ?_
  refine G.sub [4, 3, 2, 1, 0] rfl ?_
  exact gX17_branches_p27 FU _ _ _ _ _ _
