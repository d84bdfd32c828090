set_option maxRecDepth 100000
theorem V.dX4_towards_0 : decode cX4_towards 0 = .ok (.iload_n 1, 1) := by decide +kernel
theorem V.dX4_towards_1 : decode cX4_towards 1 = .ok (.iconst 2, 1) := by decide +kernel
theorem V.dX4_towards_2 : decode cX4_towards 2 = .ok (.iand, 1) := by decide +kernel
theorem V.dX4_towards_3 : decode cX4_towards 3 = .ok (.ifCond .ne 10, 3) := by decide +kernel
theorem V.dX4_towards_6 : decode cX4_towards 6 = .ok (.aload_n 0, 1) := by decide +kernel
theorem V.dX4_towards_7 : decode cX4_towards 7 = .ok (.getfield 12, 3) := by decide +kernel
theorem V.dX4_towards_10 : decode cX4_towards 10 = .ok (.goto 7, 3) := by decide +kernel
theorem V.dX4_towards_13 : decode cX4_towards 13 = .ok (.aload_n 0, 1) := by decide +kernel
theorem V.dX4_towards_14 : decode cX4_towards 14 = .ok (.getfield 18, 3) := by decide +kernel
theorem V.dX4_towards_17 : decode cX4_towards 17 = .ok (.astore 5, 2) := by decide +kernel
theorem V.dX4_towards_19 : decode cX4_towards 19 = .ok (.iload_n 1, 1) := by decide +kernel
theorem V.dX4_towards_20 : decode cX4_towards 20 = .ok (.iconst 2, 1) := by decide +kernel
theorem V.dX4_towards_21 : decode cX4_towards 21 = .ok (.iand, 1) := by decide +kernel
theorem V.dX4_towards_22 : decode cX4_towards 22 = .ok (.ifCond .ne 11, 3) := by decide +kernel
theorem V.dX4_towards_25 : decode cX4_towards 25 = .ok (.lload_n 2, 1) := by decide +kernel
theorem V.dX4_towards_26 : decode cX4_towards 26 = .ok (.ldc2_w 45, 3) := by decide +kernel
theorem V.dX4_towards_29 : decode cX4_towards 29 = .ok (.land, 1) := by decide +kernel
theorem V.dX4_towards_30 : decode cX4_towards 30 = .ok (.goto 4, 3) := by decide +kernel
theorem V.dX4_towards_33 : decode cX4_towards 33 = .ok (.lload_n 2, 1) := by decide +kernel
theorem V.dX4_towards_34 : decode cX4_towards 34 = .ok (.lstore 6, 2) := by decide +kernel
theorem V.dX4_towards_36 : decode cX4_towards 36 = .ok (.iload_n 1, 1) := by decide +kernel
theorem V.dX4_towards_37 : decode cX4_towards 37 = .ok (.iconst 1, 1) := by decide +kernel
theorem V.dX4_towards_38 : decode cX4_towards 38 = .ok (.iand, 1) := by decide +kernel
theorem V.dX4_towards_39 : decode cX4_towards 39 = .ok (.ifCond .ne 7, 3) := by decide +kernel
theorem V.dX4_towards_42 : decode cX4_towards 42 = .ok (.iconst 1, 1) := by decide +kernel
theorem V.dX4_towards_43 : decode cX4_towards 43 = .ok (.goto 4, 3) := by decide +kernel
theorem V.dX4_towards_46 : decode cX4_towards 46 = .ok (.iconst 0, 1) := by decide +kernel
theorem V.dX4_towards_47 : decode cX4_towards 47 = .ok (.istore 8, 2) := by decide +kernel
theorem V.dX4_towards_49 : decode cX4_towards 49 = .ok (.aload 5, 2) := by decide +kernel
theorem V.dX4_towards_51 : decode cX4_towards 51 = .ok (.lload 6, 2) := by decide +kernel
theorem V.dX4_towards_53 : decode cX4_towards 53 = .ok (.invokevirtual 99, 3) := by decide +kernel
theorem V.dX4_towards_56 : decode cX4_towards 56 = .ok (.istore 9, 2) := by decide +kernel
theorem V.dX4_towards_58 : decode cX4_towards 58 = .ok (.aload 5, 2) := by decide +kernel
theorem V.dX4_towards_60 : decode cX4_towards 60 = .ok (.lload 6, 2) := by decide +kernel
theorem V.dX4_towards_62 : decode cX4_towards 62 = .ok (.invokevirtual 95, 3) := by decide +kernel
theorem V.dX4_towards_65 : decode cX4_towards 65 = .ok (.ifCond .eq 18, 3) := by decide +kernel
theorem V.dX4_towards_68 : decode cX4_towards 68 = .ok (.iload 4, 2) := by decide +kernel
theorem V.dX4_towards_70 : decode cX4_towards 70 = .ok (.ifCond .eq 7, 3) := by decide +kernel
theorem V.dX4_towards_73 : decode cX4_towards 73 = .ok (.lconst 0, 1) := by decide +kernel
theorem V.dX4_towards_74 : decode cX4_towards 74 = .ok (.goto 8, 3) := by decide +kernel
theorem V.dX4_towards_77 : decode cX4_towards 77 = .ok (.aload_n 0, 1) := by decide +kernel
theorem V.dX4_towards_78 : decode cX4_towards 78 = .ok (.iconst 3, 1) := by decide +kernel
theorem V.dX4_towards_79 : decode cX4_towards 79 = .ok (.invokevirtual 87, 3) := by decide +kernel
theorem V.dX4_towards_82 : decode cX4_towards 82 = .ok (.lreturn, 1) := by decide +kernel
theorem V.dX4_towards_83 : decode cX4_towards 83 = .ok (.aload 5, 2) := by decide +kernel
theorem V.dX4_towards_85 : decode cX4_towards 85 = .ok (.lload 6, 2) := by decide +kernel
theorem V.dX4_towards_87 : decode cX4_towards 87 = .ok (.invokevirtual 143, 3) := by decide +kernel
theorem V.dX4_towards_90 : decode cX4_towards 90 = .ok (.istore 10, 2) := by decide +kernel
theorem V.dX4_towards_92 : decode cX4_towards 92 = .ok (.aload 5, 2) := by decide +kernel
theorem V.dX4_towards_94 : decode cX4_towards 94 = .ok (.lload 6, 2) := by decide +kernel
theorem V.dX4_towards_96 : decode cX4_towards 96 = .ok (.invokevirtual 150, 3) := by decide +kernel
theorem V.dX4_towards_99 : decode cX4_towards 99 = .ok (.lstore 11, 2) := by decide +kernel
theorem V.dX4_towards_101 : decode cX4_towards 101 = .ok (.aload 5, 2) := by decide +kernel
theorem V.dX4_towards_103 : decode cX4_towards 103 = .ok (.lload 6, 2) := by decide +kernel
theorem V.dX4_towards_105 : decode cX4_towards 105 = .ok (.invokevirtual 147, 3) := by decide +kernel
theorem V.dX4_towards_108 : decode cX4_towards 108 = .ok (.ifCond .ne 21, 3) := by decide +kernel
theorem V.dX4_towards_111 : decode cX4_towards 111 = .ok (.aload 5, 2) := by decide +kernel
theorem V.dX4_towards_113 : decode cX4_towards 113 = .ok (.lload 6, 2) := by decide +kernel
theorem V.dX4_towards_115 : decode cX4_towards 115 = .ok (.invokevirtual 183, 3) := by decide +kernel
theorem V.dX4_towards_118 : decode cX4_towards 118 = .ok (.aload 5, 2) := by decide +kernel
theorem V.dX4_towards_120 : decode cX4_towards 120 = .ok (.getfield 186, 3) := by decide +kernel
theorem V.dX4_towards_123 : decode cX4_towards 123 = .ok (.isub, 1) := by decide +kernel
theorem V.dX4_towards_124 : decode cX4_towards 124 = .ok (.bipush 63, 2) := by decide +kernel
theorem V.dX4_towards_126 : decode cX4_towards 126 = .ok (.if_icmp .le 7, 3) := by decide +kernel
theorem V.dX4_towards_129 : decode cX4_towards 129 = .ok (.iconst 1, 1) := by decide +kernel
theorem V.dX4_towards_130 : decode cX4_towards 130 = .ok (.goto 4, 3) := by decide +kernel
theorem V.dX4_towards_133 : decode cX4_towards 133 = .ok (.iconst 0, 1) := by decide +kernel
theorem V.dX4_towards_134 : decode cX4_towards 134 = .ok (.istore 13, 2) := by decide +kernel
theorem V.dX4_towards_136 : decode cX4_towards 136 = .ok (.iload 13, 2) := by decide +kernel
theorem V.dX4_towards_138 : decode cX4_towards 138 = .ok (.ifCond .eq 7, 3) := by decide +kernel
theorem V.dX4_towards_141 : decode cX4_towards 141 = .ok (.lconst 0, 1) := by decide +kernel
theorem V.dX4_towards_142 : decode cX4_towards 142 = .ok (.goto 33, 3) := by decide +kernel
theorem V.dX4_towards_145 : decode cX4_towards 145 = .ok (.iload 10, 2) := by decide +kernel
theorem V.dX4_towards_147 : decode cX4_towards 147 = .ok (.ifCond .lt 11, 3) := by decide +kernel
theorem V.dX4_towards_150 : decode cX4_towards 150 = .ok (.lload 11, 2) := by decide +kernel
theorem V.dX4_towards_152 : decode cX4_towards 152 = .ok (.iload 10, 2) := by decide +kernel
theorem V.dX4_towards_154 : decode cX4_towards 154 = .ok (.lshl, 1) := by decide +kernel
theorem V.dX4_towards_155 : decode cX4_towards 155 = .ok (.goto 20, 3) := by decide +kernel
theorem V.dX4_towards_158 : decode cX4_towards 158 = .ok (.iload 10, 2) := by decide +kernel
theorem V.dX4_towards_160 : decode cX4_towards 160 = .ok (.bipush (-62), 2) := by decide +kernel
theorem V.dX4_towards_162 : decode cX4_towards 162 = .ok (.if_icmp .ge 7, 3) := by decide +kernel
theorem V.dX4_towards_165 : decode cX4_towards 165 = .ok (.lconst 0, 1) := by decide +kernel
theorem V.dX4_towards_166 : decode cX4_towards 166 = .ok (.goto 9, 3) := by decide +kernel
theorem V.dX4_towards_169 : decode cX4_towards 169 = .ok (.lload 11, 2) := by decide +kernel
theorem V.dX4_towards_171 : decode cX4_towards 171 = .ok (.iload 10, 2) := by decide +kernel
theorem V.dX4_towards_173 : decode cX4_towards 173 = .ok (.ineg, 1) := by decide +kernel
theorem V.dX4_towards_174 : decode cX4_towards 174 = .ok (.lshr, 1) := by decide +kernel
theorem V.dX4_towards_175 : decode cX4_towards 175 = .ok (.lstore 14, 2) := by decide +kernel
theorem V.dX4_towards_177 : decode cX4_towards 177 = .ok (.iload_n 1, 1) := by decide +kernel
theorem V.dX4_towards_178 : decode cX4_towards 178 = .ok (.iconst 4, 1) := by decide +kernel
theorem V.dX4_towards_179 : decode cX4_towards 179 = .ok (.if_icmp .ge 8, 3) := by decide +kernel
theorem V.dX4_towards_182 : decode cX4_towards 182 = .ok (.bipush 32, 2) := by decide +kernel
theorem V.dX4_towards_184 : decode cX4_towards 184 = .ok (.goto 5, 3) := by decide +kernel
theorem V.dX4_towards_187 : decode cX4_towards 187 = .ok (.bipush 64, 2) := by decide +kernel
theorem V.dX4_towards_189 : decode cX4_towards 189 = .ok (.istore 16, 2) := by decide +kernel
theorem V.dX4_towards_191 : decode cX4_towards 191 = .ok (.iload 8, 2) := by decide +kernel
theorem V.dX4_towards_193 : decode cX4_towards 193 = .ok (.ifCond .eq 23, 3) := by decide +kernel
theorem V.dX4_towards_196 : decode cX4_towards 196 = .ok (.lconst 1, 1) := by decide +kernel
theorem V.dX4_towards_197 : decode cX4_towards 197 = .ok (.iload 16, 2) := by decide +kernel
theorem V.dX4_towards_199 : decode cX4_towards 199 = .ok (.iconst 1, 1) := by decide +kernel
theorem V.dX4_towards_200 : decode cX4_towards 200 = .ok (.isub, 1) := by decide +kernel
theorem V.dX4_towards_201 : decode cX4_towards 201 = .ok (.lshl, 1) := by decide +kernel
theorem V.dX4_towards_202 : decode cX4_towards 202 = .ok (.iload 9, 2) := by decide +kernel
theorem V.dX4_towards_204 : decode cX4_towards 204 = .ok (.ifCond .eq 7, 3) := by decide +kernel
theorem V.dX4_towards_207 : decode cX4_towards 207 = .ok (.lconst 0, 1) := by decide +kernel
theorem V.dX4_towards_208 : decode cX4_towards 208 = .ok (.goto 4, 3) := by decide +kernel
theorem V.dX4_towards_211 : decode cX4_towards 211 = .ok (.lconst 1, 1) := by decide +kernel
theorem V.dX4_towards_212 : decode cX4_towards 212 = .ok (.lsub, 1) := by decide +kernel
theorem V.dX4_towards_213 : decode cX4_towards 213 = .ok (.goto 28, 3) := by decide +kernel
theorem V.dX4_towards_216 : decode cX4_towards 216 = .ok (.iload 9, 2) := by decide +kernel
theorem V.dX4_towards_218 : decode cX4_towards 218 = .ok (.ifCond .eq 7, 3) := by decide +kernel
theorem V.dX4_towards_221 : decode cX4_towards 221 = .ok (.lconst 0, 1) := by decide +kernel
theorem V.dX4_towards_222 : decode cX4_towards 222 = .ok (.goto 19, 3) := by decide +kernel
theorem V.dX4_towards_225 : decode cX4_towards 225 = .ok (.iload 16, 2) := by decide +kernel
theorem V.dX4_towards_227 : decode cX4_towards 227 = .ok (.bipush 32, 2) := by decide +kernel
theorem V.dX4_towards_229 : decode cX4_towards 229 = .ok (.if_icmp .ne 9, 3) := by decide +kernel
theorem V.dX4_towards_232 : decode cX4_towards 232 = .ok (.ldc2_w 45, 3) := by decide +kernel
theorem V.dX4_towards_235 : decode cX4_towards 235 = .ok (.goto 6, 3) := by decide +kernel
theorem V.dX4_towards_238 : decode cX4_towards 238 = .ok (.ldc2_w 91, 3) := by decide +kernel
theorem V.dX4_towards_241 : decode cX4_towards 241 = .ok (.lstore 17, 2) := by decide +kernel
theorem V.dX4_towards_243 : decode cX4_towards 243 = .ok (.iload 13, 2) := by decide +kernel
theorem V.dX4_towards_245 : decode cX4_towards 245 = .ok (.ifCond .ne 17, 3) := by decide +kernel
theorem V.dX4_towards_248 : decode cX4_towards 248 = .ok (.lload 17, 2) := by decide +kernel
theorem V.dX4_towards_250 : decode cX4_towards 250 = .ok (.lload 14, 2) := by decide +kernel
theorem V.dX4_towards_252 : decode cX4_towards 252 = .ok (.invokestatic 67, 3) := by decide +kernel
theorem V.dX4_towards_255 : decode cX4_towards 255 = .ok (.ifCond .ne 7, 3) := by decide +kernel
theorem V.dX4_towards_258 : decode cX4_towards 258 = .ok (.iconst 1, 1) := by decide +kernel
theorem V.dX4_towards_259 : decode cX4_towards 259 = .ok (.goto 4, 3) := by decide +kernel
theorem V.dX4_towards_262 : decode cX4_towards 262 = .ok (.iconst 0, 1) := by decide +kernel
theorem V.dX4_towards_263 : decode cX4_towards 263 = .ok (.istore 19, 2) := by decide +kernel
theorem V.dX4_towards_265 : decode cX4_towards 265 = .ok (.iload 19, 2) := by decide +kernel
theorem V.dX4_towards_267 : decode cX4_towards 267 = .ok (.ifCond .ne 14, 3) := by decide +kernel
theorem V.dX4_towards_270 : decode cX4_towards 270 = .ok (.iload 4, 2) := by decide +kernel
theorem V.dX4_towards_272 : decode cX4_towards 272 = .ok (.ifCond .ne 9, 3) := by decide +kernel
theorem V.dX4_towards_275 : decode cX4_towards 275 = .ok (.aload_n 0, 1) := by decide +kernel
theorem V.dX4_towards_276 : decode cX4_towards 276 = .ok (.iconst 2, 1) := by decide +kernel
theorem V.dX4_towards_277 : decode cX4_towards 277 = .ok (.invokevirtual 87, 3) := by decide +kernel
theorem V.dX4_towards_280 : decode cX4_towards 280 = .ok (.lreturn, 1) := by decide +kernel
theorem V.dX4_towards_281 : decode cX4_towards 281 = .ok (.iload 19, 2) := by decide +kernel
theorem V.dX4_towards_283 : decode cX4_towards 283 = .ok (.ifCond .eq 8, 3) := by decide +kernel
theorem V.dX4_towards_286 : decode cX4_towards 286 = .ok (.lload 14, 2) := by decide +kernel
theorem V.dX4_towards_288 : decode cX4_towards 288 = .ok (.goto 5, 3) := by decide +kernel
theorem V.dX4_towards_291 : decode cX4_towards 291 = .ok (.lload 17, 2) := by decide +kernel
theorem V.dX4_towards_293 : decode cX4_towards 293 = .ok (.lstore 20, 2) := by decide +kernel
theorem V.dX4_towards_295 : decode cX4_towards 295 = .ok (.iload 9, 2) := by decide +kernel
theorem V.dX4_towards_297 : decode cX4_towards 297 = .ok (.ifCond .eq 9, 3) := by decide +kernel
theorem V.dX4_towards_300 : decode cX4_towards 300 = .ok (.lload 20, 2) := by decide +kernel
theorem V.dX4_towards_302 : decode cX4_towards 302 = .ok (.lneg, 1) := by decide +kernel
theorem V.dX4_towards_303 : decode cX4_towards 303 = .ok (.goto 5, 3) := by decide +kernel
theorem V.dX4_towards_306 : decode cX4_towards 306 = .ok (.lload 20, 2) := by decide +kernel
theorem V.dX4_towards_308 : decode cX4_towards 308 = .ok (.lstore 20, 2) := by decide +kernel
theorem V.dX4_towards_310 : decode cX4_towards 310 = .ok (.iload_n 1, 1) := by decide +kernel
theorem V.dX4_towards_311 : decode cX4_towards 311 = .ok (.iconst 4, 1) := by decide +kernel
theorem V.dX4_towards_312 : decode cX4_towards 312 = .ok (.if_icmp .ge 12, 3) := by decide +kernel
theorem V.dX4_towards_315 : decode cX4_towards 315 = .ok (.lload 20, 2) := by decide +kernel
theorem V.dX4_towards_317 : decode cX4_towards 317 = .ok (.ldc2_w 45, 3) := by decide +kernel
theorem V.dX4_towards_320 : decode cX4_towards 320 = .ok (.land, 1) := by decide +kernel
theorem V.dX4_towards_321 : decode cX4_towards 321 = .ok (.goto 5, 3) := by decide +kernel
theorem V.dX4_towards_324 : decode cX4_towards 324 = .ok (.lload 20, 2) := by decide +kernel
theorem V.dX4_towards_326 : decode cX4_towards 326 = .ok (.lreturn, 1) := by decide +kernel
theorem V.mdX4_183 : MD RX4 183 yX5_exponent cX5_exponent 3 (some .int) 1 := ⟨Or.inl q2652, q365, q2599, by decide, by decide, by decide +kernel⟩
theorem V.fdX4_186 : FD RX4 186 5 2 0 := ⟨(RX5, TX5, 6), tyX5, rfl, rfl, in_X5, by decide, Or.inr ⟨_, q587⟩, rfl⟩
/-! ModuleEngine$Numbers.towards(IJZ)J -/
def V.Num_towards_p308  (σ : HS) (x1 : Int32) (s0 : Int64) : Option (Int64 × HS) :=
  if (4 : Int32) ≤ x1 then (
    some (s0, σ))
  else (
    some (s0 &&& (4294967295 : Int64), σ))
theorem V.gX4_towards_p308 {X : CX}  (σ : HS) (x1 : Int32) (s0 : Int64) : G X RX4 "towards" cX4_towards 22 (some .long) 4 86 enJ 308 [(1, iv x1)] [jv s0] σ (Num_towards_p308 σ x1 s0) := by
  unfold Num_towards_p308
  refine g_lstore dX4_towards_308 (by decide) rfl ?_
  refine g_iload_n 1 1 dX4_towards_310 rfl rfl ?_
  refine g_iconst (v := 4) dX4_towards_311 (by decide) ?_
  refine g_icmp_ge 324 dX4_towards_312 (by decide) ?_ ?_
  · refine g_lload 0 dX4_towards_324 rfl ?_
    exact g_lreturn rfl dX4_towards_326
  · refine g_lload 0 dX4_towards_315 rfl ?_
    refine g_ldc2 q2556 dX4_towards_317 ?_
    refine g_land dX4_towards_320 ?_
    refine g_goto 326 dX4_towards_321 (by decide) ?_
    exact g_lreturn rfl dX4_towards_326
def V.Num_towards_p293  (σ : HS) (x1 : Int32) (x9 : Int32) (s0 : Int64) : Option (Int64 × HS) :=
  if x9 = 0 then (
    Num_towards_p308 σ x1 s0)
  else (
    Num_towards_p308 σ x1 (-s0))
theorem V.gX4_towards_p293 {X : CX}  (σ : HS) (x1 : Int32) (x9 : Int32) (s0 : Int64) : G X RX4 "towards" cX4_towards 22 (some .long) 4 86 enJ 293 [(1, iv x1), (9, iv x9)] [jv s0] σ (Num_towards_p293 σ x1 x9 s0) := by
  unfold Num_towards_p293
  refine g_lstore dX4_towards_293 (by decide) rfl ?_
  refine g_iload 2 dX4_towards_295 rfl ?_
  refine g_if_eq 306 dX4_towards_297 (by decide) ?_ ?_
  · refine g_lload 0 dX4_towards_306 rfl ?_
    refine G.sub [1] rfl ?_
    exact gX4_towards_p308 _ _ _
  · refine g_lload 0 dX4_towards_300 rfl ?_
    refine g_lneg dX4_towards_302 ?_
    refine g_goto 308 dX4_towards_303 (by decide) ?_
    refine G.sub [1] rfl ?_
    exact gX4_towards_p308 _ _ _
def V.Num_towards_p281  (σ : HS) (x1 : Int32) (x9 : Int32) (x14 : Int64) (x17 : Int64) (x19 : Int32) : Option (Int64 × HS) :=
  if x19 = 0 then (
    Num_towards_p293 σ x1 x9 x17)
  else (
    Num_towards_p293 σ x1 x9 x14)
theorem V.gX4_towards_p281 {X : CX}  (σ : HS) (x1 : Int32) (x9 : Int32) (x14 : Int64) (x17 : Int64) (x19 : Int32) : G X RX4 "towards" cX4_towards 22 (some .long) 4 86 enJ 281 [(1, iv x1), (9, iv x9), (14, jv x14), (17, jv x17), (19, iv x19)] [] σ (Num_towards_p281 σ x1 x9 x14 x17 x19) := by
  unfold Num_towards_p281
  refine g_iload 4 dX4_towards_281 rfl ?_
  refine g_if_eq 291 dX4_towards_283 (by decide) ?_ ?_
  · refine g_lload 3 dX4_towards_291 rfl ?_
    refine G.sub [0, 1] rfl ?_
    exact gX4_towards_p293 _ _ _ _
  · refine g_lload 2 dX4_towards_286 rfl ?_
    refine g_goto 293 dX4_towards_288 (by decide) ?_
    refine G.sub [0, 1] rfl ?_
    exact gX4_towards_p293 _ _ _ _
def V.Num_towards_p263  (σ : HS) (x0 : Nat) (x1 : Int32) (x4 : Int32) (x9 : Int32) (x14 : Int64) (x17 : Int64) (s0 : Int32) : Option (Int64 × HS) :=
  if s0 = 0 then (
    if x4 = 0 then (
      ck (tg σ x0 = 5) <| cl (Num_stop σ x0 (2 : Int32)) fun r2 σ1 =>
      some (r2, σ1))
    else (
      Num_towards_p281 σ x1 x9 x14 x17 s0))
  else (
    Num_towards_p281 σ x1 x9 x14 x17 s0)
theorem V.gX4_towards_p263 {X : CX}  (σ : HS) (x0 : Nat) (x1 : Int32) (x4 : Int32) (x9 : Int32) (x14 : Int64) (x17 : Int64) (s0 : Int32) : G X RX4 "towards" cX4_towards 22 (some .long) 4 86 enJ 263 [(0, av x0), (1, iv x1), (4, iv x4), (9, iv x9), (14, jv x14), (17, jv x17)] [iv s0] σ (Num_towards_p263 σ x0 x1 x4 x9 x14 x17 s0) := by
  unfold Num_towards_p263
  refine g_istore dX4_towards_263 (by decide) rfl ?_
  refine g_iload 0 dX4_towards_265 rfl ?_
  refine g_if_ne 281 dX4_towards_267 (by decide) ?_ ?_
  · refine G.sub [2, 4, 5, 6, 0] rfl ?_
    exact gX4_towards_p281 _ _ _ _ _ _
  · refine g_iload 3 dX4_towards_270 rfl ?_
    refine g_if_ne 281 dX4_towards_272 (by decide) ?_ ?_
    · refine G.sub [2, 4, 5, 6, 0] rfl ?_
      exact gX4_towards_p281 _ _ _ _ _ _
    · refine g_aload_n 0 1 dX4_towards_275 rfl rfl ?_
      refine g_iconst (v := 2) dX4_towards_276 (by decide) ?_
      refine g_callV (fc := fun sς => Num_stop sς x0 (2 : Int32)) (ci := 4) (as := [iv (2 : Int32)]) rfl rfl rfl q2567 qs169 mdX4_87 (ctX4_stop x0 (2 : Int32)) rfl (Nat.le_of_ble_eq_true rfl) (Nat.le_of_ble_eq_true rfl) (Nat.le_of_ble_eq_true rfl) pu_J dX4_towards_277 (fun r2 σ1 => ?_)
      exact g_lreturn rfl dX4_towards_280
def V.Num_towards_p262  (σ : HS) (x0 : Nat) (x1 : Int32) (x4 : Int32) (x9 : Int32) (x14 : Int64) (x17 : Int64) : Option (Int64 × HS) :=
  Num_towards_p263 σ x0 x1 x4 x9 x14 x17 (0 : Int32)
theorem V.gX4_towards_p262 {X : CX}  (σ : HS) (x0 : Nat) (x1 : Int32) (x4 : Int32) (x9 : Int32) (x14 : Int64) (x17 : Int64) : G X RX4 "towards" cX4_towards 22 (some .long) 4 86 enJ 262 [(0, av x0), (1, iv x1), (4, iv x4), (9, iv x9), (14, jv x14), (17, jv x17)] [] σ (Num_towards_p262 σ x0 x1 x4 x9 x14 x17) := by
  unfold Num_towards_p262
  refine g_iconst (v := 0) dX4_towards_262 (by decide) ?_
  exact gX4_towards_p263 _ _ _ _ _ _ _ _
def V.Num_towards_p241  (σ : HS) (x0 : Nat) (x1 : Int32) (x4 : Int32) (x9 : Int32) (x13 : Int32) (x14 : Int64) (s0 : Int64) : Option (Int64 × HS) :=
  if x13 = 0 then (
    cl (Num_isBelow σ s0 x14) fun r2 σ1 =>
    if r2 = 0 then (
      Num_towards_p263 σ1 x0 x1 x4 x9 x14 s0 (1 : Int32))
    else (
      Num_towards_p262 σ1 x0 x1 x4 x9 x14 s0))
  else (
    Num_towards_p262 σ x0 x1 x4 x9 x14 s0)
theorem V.gX4_towards_p241 {X : CX}  (σ : HS) (x0 : Nat) (x1 : Int32) (x4 : Int32) (x9 : Int32) (x13 : Int32) (x14 : Int64) (s0 : Int64) : G X RX4 "towards" cX4_towards 22 (some .long) 4 86 enJ 241 [(0, av x0), (1, iv x1), (4, iv x4), (9, iv x9), (13, iv x13), (14, jv x14)] [jv s0] σ (Num_towards_p241 σ x0 x1 x4 x9 x13 x14 s0) := by
  unfold Num_towards_p241
  refine g_lstore dX4_towards_241 (by decide) rfl ?_
  refine g_iload 5 dX4_towards_243 rfl ?_
  refine g_if_ne 262 dX4_towards_245 (by decide) ?_ ?_
  · refine G.sub [1, 2, 3, 4, 6, 0] rfl ?_
    exact gX4_towards_p262 _ _ _ _ _ _ _
  · refine g_lload 0 dX4_towards_248 rfl ?_
    refine g_lload 6 dX4_towards_250 rfl ?_
    refine g_callS (fc := fun sς => Num_isBelow sς s0 x14) (as := [jv s0, jv x14]) q2521 mdX4_67 (ctX4_isBelow s0 x14) rfl (Nat.le_of_ble_eq_true rfl) (Nat.le_of_ble_eq_true rfl) (Nat.le_of_ble_eq_true rfl) pu_I dX4_towards_252 (fun r2 σ1 => ?_)
    refine g_if_ne 262 dX4_towards_255 (by decide) ?_ ?_
    · refine G.sub [1, 2, 3, 4, 6, 0] rfl ?_
      exact gX4_towards_p262 _ _ _ _ _ _ _
    · refine g_iconst (v := 1) dX4_towards_258 (by decide) ?_
      refine g_goto 263 dX4_towards_259 (by decide) ?_
      refine G.sub [1, 2, 3, 4, 6, 0] rfl ?_
      exact gX4_towards_p263 _ _ _ _ _ _ _ _
def V.Num_towards_p212  (σ : HS) (x0 : Nat) (x1 : Int32) (x4 : Int32) (x9 : Int32) (x13 : Int32) (x14 : Int64) (s0 : Int64) (s1 : Int64) : Option (Int64 × HS) :=
  Num_towards_p241 σ x0 x1 x4 x9 x13 x14 (s1 - s0)
theorem V.gX4_towards_p212 {X : CX}  (σ : HS) (x0 : Nat) (x1 : Int32) (x4 : Int32) (x9 : Int32) (x13 : Int32) (x14 : Int64) (s0 : Int64) (s1 : Int64) : G X RX4 "towards" cX4_towards 22 (some .long) 4 86 enJ 212 [(0, av x0), (1, iv x1), (4, iv x4), (9, iv x9), (13, iv x13), (14, jv x14)] [jv s0, jv s1] σ (Num_towards_p212 σ x0 x1 x4 x9 x13 x14 s0 s1) := by
  unfold Num_towards_p212
  refine g_lsub dX4_towards_212 ?_
  refine g_goto 241 dX4_towards_213 (by decide) ?_
  exact gX4_towards_p241 _ _ _ _ _ _ _ _
def V.Num_towards_p189  (σ : HS) (x0 : Nat) (x1 : Int32) (x4 : Int32) (x8 : Int32) (x9 : Int32) (x13 : Int32) (x14 : Int64) (s0 : Int32) : Option (Int64 × HS) :=
  if x8 = 0 then (
    if x9 = 0 then (
      if s0 = (32 : Int32) then (
        Num_towards_p241 σ x0 x1 x4 x9 x13 x14 (4294967295 : Int64))
      else (
        Num_towards_p241 σ x0 x1 x4 x9 x13 x14 (-1 : Int64)))
    else (
      Num_towards_p241 σ x0 x1 x4 x9 x13 x14 (0 : Int64)))
  else (
    if x9 = 0 then (
      Num_towards_p212 σ x0 x1 x4 x9 x13 x14 (1 : Int64) (lshl (1 : Int64) (s0 - (1 : Int32))))
    else (
      Num_towards_p212 σ x0 x1 x4 x9 x13 x14 (0 : Int64) (lshl (1 : Int64) (s0 - (1 : Int32)))))
theorem V.gX4_towards_p189 {X : CX}  (σ : HS) (x0 : Nat) (x1 : Int32) (x4 : Int32) (x8 : Int32) (x9 : Int32) (x13 : Int32) (x14 : Int64) (s0 : Int32) : G X RX4 "towards" cX4_towards 22 (some .long) 4 86 enJ 189 [(0, av x0), (1, iv x1), (4, iv x4), (8, iv x8), (9, iv x9), (13, iv x13), (14, jv x14)] [iv s0] σ (Num_towards_p189 σ x0 x1 x4 x8 x9 x13 x14 s0) := by
  unfold Num_towards_p189
  refine g_istore dX4_towards_189 (by decide) rfl ?_
  refine g_iload 4 dX4_towards_191 rfl ?_
  refine g_if_eq 216 dX4_towards_193 (by decide) ?_ ?_
  · refine g_iload 5 dX4_towards_216 rfl ?_
    refine g_if_eq 225 dX4_towards_218 (by decide) ?_ ?_
    · refine g_iload 0 dX4_towards_225 rfl ?_
      refine g_bipush (v := 32) dX4_towards_227 (by decide) ?_
      refine g_icmp_ne 238 dX4_towards_229 (by decide) ?_ ?_
      · refine g_ldc2 q2569 dX4_towards_238 ?_
        refine G.sub [1, 2, 3, 5, 6, 7] rfl ?_
        exact gX4_towards_p241 _ _ _ _ _ _ _ _
      · refine g_ldc2 q2556 dX4_towards_232 ?_
        refine g_goto 241 dX4_towards_235 (by decide) ?_
        refine G.sub [1, 2, 3, 5, 6, 7] rfl ?_
        exact gX4_towards_p241 _ _ _ _ _ _ _ _
    · refine g_lconst (v := 0) dX4_towards_221 (by decide) ?_
      refine g_goto 241 dX4_towards_222 (by decide) ?_
      refine G.sub [1, 2, 3, 5, 6, 7] rfl ?_
      exact gX4_towards_p241 _ _ _ _ _ _ _ _
  · refine g_lconst (v := 1) dX4_towards_196 (by decide) ?_
    refine g_iload 0 dX4_towards_197 rfl ?_
    refine g_iconst (v := 1) dX4_towards_199 (by decide) ?_
    refine g_isub dX4_towards_200 ?_
    refine g_lshl dX4_towards_201 ?_
    refine g_iload 5 dX4_towards_202 rfl ?_
    refine g_if_eq 211 dX4_towards_204 (by decide) ?_ ?_
    · refine g_lconst (v := 1) dX4_towards_211 (by decide) ?_
      refine G.sub [1, 2, 3, 5, 6, 7] rfl ?_
      exact gX4_towards_p212 _ _ _ _ _ _ _ _ _
    · refine g_lconst (v := 0) dX4_towards_207 (by decide) ?_
      refine g_goto 212 dX4_towards_208 (by decide) ?_
      refine G.sub [1, 2, 3, 5, 6, 7] rfl ?_
      exact gX4_towards_p212 _ _ _ _ _ _ _ _ _
def V.Num_towards_p175  (σ : HS) (x0 : Nat) (x1 : Int32) (x4 : Int32) (x8 : Int32) (x9 : Int32) (x13 : Int32) (s0 : Int64) : Option (Int64 × HS) :=
  if (4 : Int32) ≤ x1 then (
    Num_towards_p189 σ x0 x1 x4 x8 x9 x13 s0 (64 : Int32))
  else (
    Num_towards_p189 σ x0 x1 x4 x8 x9 x13 s0 (32 : Int32))
theorem V.gX4_towards_p175 {X : CX}  (σ : HS) (x0 : Nat) (x1 : Int32) (x4 : Int32) (x8 : Int32) (x9 : Int32) (x13 : Int32) (s0 : Int64) : G X RX4 "towards" cX4_towards 22 (some .long) 4 86 enJ 175 [(0, av x0), (1, iv x1), (4, iv x4), (8, iv x8), (9, iv x9), (13, iv x13)] [jv s0] σ (Num_towards_p175 σ x0 x1 x4 x8 x9 x13 s0) := by
  unfold Num_towards_p175
  refine g_lstore dX4_towards_175 (by decide) rfl ?_
  refine g_iload_n 1 2 dX4_towards_177 rfl rfl ?_
  refine g_iconst (v := 4) dX4_towards_178 (by decide) ?_
  refine g_icmp_ge 187 dX4_towards_179 (by decide) ?_ ?_
  · refine g_bipush (v := 64) dX4_towards_187 (by decide) ?_
    refine G.sub [1, 2, 3, 4, 5, 6, 0] rfl ?_
    exact gX4_towards_p189 _ _ _ _ _ _ _ _ _
  · refine g_bipush (v := 32) dX4_towards_182 (by decide) ?_
    refine g_goto 189 dX4_towards_184 (by decide) ?_
    refine G.sub [1, 2, 3, 4, 5, 6, 0] rfl ?_
    exact gX4_towards_p189 _ _ _ _ _ _ _ _ _
def V.Num_towards_p134  (σ : HS) (x0 : Nat) (x1 : Int32) (x4 : Int32) (x8 : Int32) (x9 : Int32) (x10 : Int32) (x11 : Int64) (s0 : Int32) : Option (Int64 × HS) :=
  if s0 = 0 then (
    if x10 < 0 then (
      if (-62 : Int32) ≤ x10 then (
        Num_towards_p175 σ x0 x1 x4 x8 x9 s0 (lshr x11 (-x10)))
      else (
        Num_towards_p175 σ x0 x1 x4 x8 x9 s0 (0 : Int64)))
    else (
      Num_towards_p175 σ x0 x1 x4 x8 x9 s0 (lshl x11 x10)))
  else (
    Num_towards_p175 σ x0 x1 x4 x8 x9 s0 (0 : Int64))
theorem V.gX4_towards_p134 {X : CX}  (σ : HS) (x0 : Nat) (x1 : Int32) (x4 : Int32) (x8 : Int32) (x9 : Int32) (x10 : Int32) (x11 : Int64) (s0 : Int32) : G X RX4 "towards" cX4_towards 22 (some .long) 4 86 enJ 134 [(0, av x0), (1, iv x1), (4, iv x4), (8, iv x8), (9, iv x9), (10, iv x10), (11, jv x11)] [iv s0] σ (Num_towards_p134 σ x0 x1 x4 x8 x9 x10 x11 s0) := by
  unfold Num_towards_p134
  refine g_istore dX4_towards_134 (by decide) rfl ?_
  refine g_iload 0 dX4_towards_136 rfl ?_
  refine g_if_eq 145 dX4_towards_138 (by decide) ?_ ?_
  · refine g_iload 6 dX4_towards_145 rfl ?_
    refine g_if_lt 158 dX4_towards_147 (by decide) ?_ ?_
    · refine g_iload 6 dX4_towards_158 rfl ?_
      refine g_bipush (v := (-62)) dX4_towards_160 (by decide) ?_
      refine g_icmp_ge 169 dX4_towards_162 (by decide) ?_ ?_
      · refine g_lload 7 dX4_towards_169 rfl ?_
        refine g_iload 6 dX4_towards_171 rfl ?_
        refine g_ineg dX4_towards_173 ?_
        refine g_lshr dX4_towards_174 ?_
        refine G.sub [1, 2, 3, 4, 5, 0] rfl ?_
        exact gX4_towards_p175 _ _ _ _ _ _ _ _
      · refine g_lconst (v := 0) dX4_towards_165 (by decide) ?_
        refine g_goto 175 dX4_towards_166 (by decide) ?_
        refine G.sub [1, 2, 3, 4, 5, 0] rfl ?_
        exact gX4_towards_p175 _ _ _ _ _ _ _ _
    · refine g_lload 7 dX4_towards_150 rfl ?_
      refine g_iload 6 dX4_towards_152 rfl ?_
      refine g_lshl dX4_towards_154 ?_
      refine g_goto 175 dX4_towards_155 (by decide) ?_
      refine G.sub [1, 2, 3, 4, 5, 0] rfl ?_
      exact gX4_towards_p175 _ _ _ _ _ _ _ _
  · refine g_lconst (v := 0) dX4_towards_141 (by decide) ?_
    refine g_goto 175 dX4_towards_142 (by decide) ?_
    refine G.sub [1, 2, 3, 4, 5, 0] rfl ?_
    exact gX4_towards_p175 _ _ _ _ _ _ _ _
def V.Num_towards_p129  (σ : HS) (x0 : Nat) (x1 : Int32) (x4 : Int32) (x8 : Int32) (x9 : Int32) (x10 : Int32) (x11 : Int64) : Option (Int64 × HS) :=
  Num_towards_p134 σ x0 x1 x4 x8 x9 x10 x11 (1 : Int32)
theorem V.gX4_towards_p129 {X : CX}  (σ : HS) (x0 : Nat) (x1 : Int32) (x4 : Int32) (x8 : Int32) (x9 : Int32) (x10 : Int32) (x11 : Int64) : G X RX4 "towards" cX4_towards 22 (some .long) 4 86 enJ 129 [(0, av x0), (1, iv x1), (4, iv x4), (8, iv x8), (9, iv x9), (10, iv x10), (11, jv x11)] [] σ (Num_towards_p129 σ x0 x1 x4 x8 x9 x10 x11) := by
  unfold Num_towards_p129
  refine g_iconst (v := 1) dX4_towards_129 (by decide) ?_
  refine g_goto 134 dX4_towards_130 (by decide) ?_
  exact gX4_towards_p134 _ _ _ _ _ _ _ _ _
def V.Num_towards_p47  (σ : HS) (x0 : Nat) (x1 : Int32) (x4 : Int32) (x5 : Nat) (x6 : Int64) (s0 : Int32) : Option (Int64 × HS) :=
  ck (tg σ x5 = 6) <| cl (Fmt_sign σ x5 x6) fun r2 σ1 =>
  ck (tg σ1 x5 = 6) <| cl (Fmt_isNone σ1 x5 x6) fun r4 σ3 =>
  if r4 = 0 then (
    ck (tg σ3 x5 = 6) <| cl (Fmt_scale σ3 x5 x6) fun r6 σ5 =>
    ck (tg σ5 x5 = 6) <| cl (Fmt_significand σ5 x5 x6) fun r8 σ7 =>
    ck (tg σ7 x5 = 6) <| cl (Fmt_isInfinite σ7 x5 x6) fun r10 σ9 =>
    if r10 = 0 then (
      ck (tg σ9 x5 = 6) <| cl (Fmt_exponent σ9 x5 x6) fun r12 σ11 =>
      ck (tg σ11 x5 = 6) <|
      if (r12 - (gI σ11 x5 2)) ≤ (63 : Int32) then (
        Num_towards_p134 σ11 x0 x1 x4 s0 r2 r6 r8 (0 : Int32))
      else (
        Num_towards_p129 σ11 x0 x1 x4 s0 r2 r6 r8))
    else (
      Num_towards_p129 σ9 x0 x1 x4 s0 r2 r6 r8))
  else (
    if x4 = 0 then (
      ck (tg σ3 x0 = 5) <| cl (Num_stop σ3 x0 (3 : Int32)) fun r14 σ13 =>
      some (r14, σ13))
    else (
      some ((0 : Int64), σ3)))
theorem V.gX4_towards_p47 {X : CX}  (σ : HS) (x0 : Nat) (x1 : Int32) (x4 : Int32) (x5 : Nat) (x6 : Int64) (s0 : Int32) : G X RX4 "towards" cX4_towards 22 (some .long) 4 86 enJ 47 [(0, av x0), (1, iv x1), (4, iv x4), (5, av x5), (6, jv x6)] [iv s0] σ (Num_towards_p47 σ x0 x1 x4 x5 x6 s0) := by
  unfold Num_towards_p47
  refine g_istore dX4_towards_47 (by decide) rfl ?_
  refine g_aload 4 dX4_towards_49 rfl ?_
  refine g_lload 5 dX4_towards_51 rfl ?_
  refine g_callV (fc := fun sς => Fmt_sign sς x5 x6) (ci := 5) (as := [jv x6]) rfl rfl rfl q2548 q2549 mdX4_99 (ctX5_sign x5 x6) rfl (Nat.le_of_ble_eq_true rfl) (Nat.le_of_ble_eq_true rfl) (Nat.le_of_ble_eq_true rfl) pu_I dX4_towards_53 (fun r2 σ1 => ?_)
  refine g_istore dX4_towards_56 (by decide) rfl ?_
  refine g_aload 5 dX4_towards_58 rfl ?_
  refine g_lload 6 dX4_towards_60 rfl ?_
  refine g_callV (fc := fun sς => Fmt_isNone sς x5 x6) (ci := 5) (as := [jv x6]) rfl rfl rfl q2536 q2537 mdX4_95 (ctX5_isNone x5 x6) rfl (Nat.le_of_ble_eq_true rfl) (Nat.le_of_ble_eq_true rfl) (Nat.le_of_ble_eq_true rfl) pu_I dX4_towards_62 (fun r4 σ3 => ?_)
  refine g_if_eq 83 dX4_towards_65 (by decide) ?_ ?_
  · refine g_aload 5 dX4_towards_83 rfl ?_
    refine g_lload 6 dX4_towards_85 rfl ?_
    refine g_callV (fc := fun sς => Fmt_scale sς x5 x6) (ci := 5) (as := [jv x6]) rfl rfl rfl q2593 q2594 mdX4_143 (ctX5_scale x5 x6) rfl (Nat.le_of_ble_eq_true rfl) (Nat.le_of_ble_eq_true rfl) (Nat.le_of_ble_eq_true rfl) pu_I dX4_towards_87 (fun r6 σ5 => ?_)
    refine g_istore dX4_towards_90 (by decide) rfl ?_
    refine g_aload 6 dX4_towards_92 rfl ?_
    refine g_lload 7 dX4_towards_94 rfl ?_
    refine g_callV (fc := fun sς => Fmt_significand sς x5 x6) (ci := 5) (as := [jv x6]) rfl rfl rfl q2609 q2610 mdX4_150 (ctX5_significand x5 x6) rfl (Nat.le_of_ble_eq_true rfl) (Nat.le_of_ble_eq_true rfl) (Nat.le_of_ble_eq_true rfl) pu_J dX4_towards_96 (fun r8 σ7 => ?_)
    refine g_lstore dX4_towards_99 (by decide) rfl ?_
    refine g_aload 7 dX4_towards_101 rfl ?_
    refine g_lload 8 dX4_towards_103 rfl ?_
    refine g_callV (fc := fun sς => Fmt_isInfinite sς x5 x6) (ci := 5) (as := [jv x6]) rfl rfl rfl q2601 q2602 mdX4_147 (ctX5_isInfinite x5 x6) rfl (Nat.le_of_ble_eq_true rfl) (Nat.le_of_ble_eq_true rfl) (Nat.le_of_ble_eq_true rfl) pu_I dX4_towards_105 (fun r10 σ9 => ?_)
    refine g_if_ne 129 dX4_towards_108 (by decide) ?_ ?_
    · refine G.sub [4, 5, 6, 3, 2, 1, 0] rfl ?_
      exact gX4_towards_p129 _ _ _ _ _ _ _ _
    · refine g_aload 7 dX4_towards_111 rfl ?_
      refine g_lload 8 dX4_towards_113 rfl ?_
      refine g_callV (fc := fun sς => Fmt_exponent sς x5 x6) (ci := 5) (as := [jv x6]) rfl rfl rfl q2597 q2598 mdX4_183 (ctX5_exponent x5 x6) rfl (Nat.le_of_ble_eq_true rfl) (Nat.le_of_ble_eq_true rfl) (Nat.le_of_ble_eq_true rfl) pu_I dX4_towards_115 (fun r12 σ11 => ?_)
      refine g_aload 7 dX4_towards_118 rfl ?_
      refine g_getI fdX4_186 dX4_towards_120 ?_
      refine g_isub dX4_towards_123 ?_
      refine g_bipush (v := 63) dX4_towards_124 (by decide) ?_
      refine g_icmp_le 133 dX4_towards_126 (by decide) ?_ ?_
      · refine g_iconst (v := 0) dX4_towards_133 (by decide) ?_
        refine G.sub [4, 5, 6, 3, 2, 1, 0] rfl ?_
        exact gX4_towards_p134 _ _ _ _ _ _ _ _ _
      · refine G.sub [4, 5, 6, 3, 2, 1, 0] rfl ?_
        exact gX4_towards_p129 _ _ _ _ _ _ _ _
  · refine g_iload 4 dX4_towards_68 rfl ?_
    refine g_if_eq 77 dX4_towards_70 (by decide) ?_ ?_
    · refine g_aload_n 0 2 dX4_towards_77 rfl rfl ?_
      refine g_iconst (v := 3) dX4_towards_78 (by decide) ?_
      refine g_callV (fc := fun sς => Num_stop sς x0 (3 : Int32)) (ci := 4) (as := [iv (3 : Int32)]) rfl rfl rfl q2567 qs169 mdX4_87 (ctX4_stop x0 (3 : Int32)) rfl (Nat.le_of_ble_eq_true rfl) (Nat.le_of_ble_eq_true rfl) (Nat.le_of_ble_eq_true rfl) pu_J dX4_towards_79 (fun r14 σ13 => ?_)
      exact g_lreturn rfl dX4_towards_82
    · refine g_lconst (v := 0) dX4_towards_73 (by decide) ?_
      refine g_goto 82 dX4_towards_74 (by decide) ?_
      exact g_lreturn rfl dX4_towards_82
def V.Num_towards_p34  (σ : HS) (x0 : Nat) (x1 : Int32) (x4 : Int32) (x5 : Nat) (s0 : Int64) : Option (Int64 × HS) :=
  if (x1 &&& (1 : Int32)) = 0 then (
    Num_towards_p47 σ x0 x1 x4 x5 s0 (1 : Int32))
  else (
    Num_towards_p47 σ x0 x1 x4 x5 s0 (0 : Int32))
theorem V.gX4_towards_p34 {X : CX}  (σ : HS) (x0 : Nat) (x1 : Int32) (x4 : Int32) (x5 : Nat) (s0 : Int64) : G X RX4 "towards" cX4_towards 22 (some .long) 4 86 enJ 34 [(0, av x0), (1, iv x1), (4, iv x4), (5, av x5)] [jv s0] σ (Num_towards_p34 σ x0 x1 x4 x5 s0) := by
  unfold Num_towards_p34
  refine g_lstore dX4_towards_34 (by decide) rfl ?_
  refine g_iload_n 1 2 dX4_towards_36 rfl rfl ?_
  refine g_iconst (v := 1) dX4_towards_37 (by decide) ?_
  refine g_iand dX4_towards_38 ?_
  refine g_if_ne 46 dX4_towards_39 (by decide) ?_ ?_
  · refine g_iconst (v := 0) dX4_towards_46 (by decide) ?_
    refine G.sub [1, 2, 3, 4, 0] rfl ?_
    exact gX4_towards_p47 _ _ _ _ _ _ _
  · refine g_iconst (v := 1) dX4_towards_42 (by decide) ?_
    refine g_goto 47 dX4_towards_43 (by decide) ?_
    refine G.sub [1, 2, 3, 4, 0] rfl ?_
    exact gX4_towards_p47 _ _ _ _ _ _ _
def V.Num_towards_p17  (σ : HS) (x0 : Nat) (x1 : Int32) (x2 : Int64) (x4 : Int32) (s0 : Nat) : Option (Int64 × HS) :=
  if (x1 &&& (2 : Int32)) = 0 then (
    Num_towards_p34 σ x0 x1 x4 s0 (x2 &&& (4294967295 : Int64)))
  else (
    Num_towards_p34 σ x0 x1 x4 s0 x2)
theorem V.gX4_towards_p17 {X : CX}  (σ : HS) (x0 : Nat) (x1 : Int32) (x2 : Int64) (x4 : Int32) (s0 : Nat) : G X RX4 "towards" cX4_towards 22 (some .long) 4 86 enJ 17 [(0, av x0), (1, iv x1), (2, jv x2), (4, iv x4)] [av s0] σ (Num_towards_p17 σ x0 x1 x2 x4 s0) := by
  unfold Num_towards_p17
  refine g_astore dX4_towards_17 (by decide) rfl ?_
  refine g_iload_n 1 2 dX4_towards_19 rfl rfl ?_
  refine g_iconst (v := 2) dX4_towards_20 (by decide) ?_
  refine g_iand dX4_towards_21 ?_
  refine g_if_ne 33 dX4_towards_22 (by decide) ?_ ?_
  · refine g_lload_n 2 3 dX4_towards_33 rfl rfl ?_
    refine G.sub [1, 2, 4, 0] rfl ?_
    exact gX4_towards_p34 _ _ _ _ _ _
  · refine g_lload_n 2 3 dX4_towards_25 rfl rfl ?_
    refine g_ldc2 q2556 dX4_towards_26 ?_
    refine g_land dX4_towards_29 ?_
    refine g_goto 34 dX4_towards_30 (by decide) ?_
    refine G.sub [1, 2, 4, 0] rfl ?_
    exact gX4_towards_p34 _ _ _ _ _ _
def V.Num_towards (σ : HS) (x0 : Nat) (x1 : Int32) (x2 : Int64) (x4 : Int32) : Option (Int64 × HS) :=
  if (x1 &&& (2 : Int32)) = 0 then (
    ck (tg σ x0 = 5) <|
    Num_towards_p17 σ x0 x1 x2 x4 (gR σ x0 0))
  else (
    ck (tg σ x0 = 5) <|
    Num_towards_p17 σ x0 x1 x2 x4 (gR σ x0 1))
theorem V.ctX4_towards (x0 : Nat) (x1 : Int32) (x2 : Int64) (x4 : Int32) : Ct yX4_towards  cX4_towards 22 (some .long) 4 86 eJ [av x0, iv x1, jv x2, iv x4] (fun σ => Num_towards σ x0 x1 x2 x4) := by
  refine Ct.of (own := RX4) (nm := "towards") (desc := "(IJZ)J") rfl (by decide) (Nat.le_of_ble_eq_true rfl) (by decide) (fun X σ => ?_)
  show G X RX4 "towards" cX4_towards 22 (some .long) 4 86 enJ 0 [(0, av x0), (1, iv x1), (2, jv x2), (4, iv x4)] [] σ (Num_towards σ x0 x1 x2 x4)
  unfold Num_towards
  refine g_iload_n 1 1 dX4_towards_0 rfl rfl ?_
  refine g_iconst (v := 2) dX4_towards_1 (by decide) ?_
  refine g_iand dX4_towards_2 ?_
  refine g_if_ne 13 dX4_towards_3 (by decide) ?_ ?_
  · refine g_aload_n 0 0 dX4_towards_13 rfl rfl ?_
    refine g_getR fdX4_18 dX4_towards_14 ?_
    exact gX4_towards_p17 _ _ _ _ _ _
  · refine g_aload_n 0 0 dX4_towards_6 rfl rfl ?_
    refine g_getR fdX4_12 dX4_towards_7 ?_
    refine g_goto 17 dX4_towards_10 (by decide) ?_
    exact gX4_towards_p17 _ _ _ _ _ _
theorem V.dX4_extend_0 : decode cX4_extend 0 = .ok (.iload_n 0, 1) := by decide +kernel
theorem V.dX4_extend_1 : decode cX4_extend 1 = .ok (.sipush 192, 3) := by decide +kernel
theorem V.dX4_extend_4 : decode cX4_extend 4 = .ok (.if_icmp .eq 10, 3) := by decide +kernel
theorem V.dX4_extend_7 : decode cX4_extend 7 = .ok (.iload_n 0, 1) := by decide +kernel
theorem V.dX4_extend_8 : decode cX4_extend 8 = .ok (.sipush 194, 3) := by decide +kernel
theorem V.dX4_extend_11 : decode cX4_extend 11 = .ok (.if_icmp .ne 8, 3) := by decide +kernel
theorem V.dX4_extend_14 : decode cX4_extend 14 = .ok (.bipush 56, 2) := by decide +kernel
theorem V.dX4_extend_16 : decode cX4_extend 16 = .ok (.goto 24, 3) := by decide +kernel
theorem V.dX4_extend_19 : decode cX4_extend 19 = .ok (.iload_n 0, 1) := by decide +kernel
theorem V.dX4_extend_20 : decode cX4_extend 20 = .ok (.sipush 193, 3) := by decide +kernel
theorem V.dX4_extend_23 : decode cX4_extend 23 = .ok (.if_icmp .eq 10, 3) := by decide +kernel
theorem V.dX4_extend_26 : decode cX4_extend 26 = .ok (.iload_n 0, 1) := by decide +kernel
theorem V.dX4_extend_27 : decode cX4_extend 27 = .ok (.sipush 195, 3) := by decide +kernel
theorem V.dX4_extend_30 : decode cX4_extend 30 = .ok (.if_icmp .ne 8, 3) := by decide +kernel
theorem V.dX4_extend_33 : decode cX4_extend 33 = .ok (.bipush 48, 2) := by decide +kernel
theorem V.dX4_extend_35 : decode cX4_extend 35 = .ok (.goto 5, 3) := by decide +kernel
theorem V.dX4_extend_38 : decode cX4_extend 38 = .ok (.bipush 32, 2) := by decide +kernel
theorem V.dX4_extend_40 : decode cX4_extend 40 = .ok (.istore_n 3, 1) := by decide +kernel
theorem V.dX4_extend_41 : decode cX4_extend 41 = .ok (.lload_n 1, 1) := by decide +kernel
theorem V.dX4_extend_42 : decode cX4_extend 42 = .ok (.iload_n 3, 1) := by decide +kernel
theorem V.dX4_extend_43 : decode cX4_extend 43 = .ok (.lshl, 1) := by decide +kernel
theorem V.dX4_extend_44 : decode cX4_extend 44 = .ok (.iload_n 3, 1) := by decide +kernel
theorem V.dX4_extend_45 : decode cX4_extend 45 = .ok (.lshr, 1) := by decide +kernel
theorem V.dX4_extend_46 : decode cX4_extend 46 = .ok (.lstore 4, 2) := by decide +kernel
theorem V.dX4_extend_48 : decode cX4_extend 48 = .ok (.iload_n 0, 1) := by decide +kernel
theorem V.dX4_extend_49 : decode cX4_extend 49 = .ok (.sipush 194, 3) := by decide +kernel
theorem V.dX4_extend_52 : decode cX4_extend 52 = .ok (.if_icmp .ge 12, 3) := by decide +kernel
theorem V.dX4_extend_55 : decode cX4_extend 55 = .ok (.lload 4, 2) := by decide +kernel
theorem V.dX4_extend_57 : decode cX4_extend 57 = .ok (.ldc2_w 45, 3) := by decide +kernel
theorem V.dX4_extend_60 : decode cX4_extend 60 = .ok (.land, 1) := by decide +kernel
theorem V.dX4_extend_61 : decode cX4_extend 61 = .ok (.goto 5, 3) := by decide +kernel
theorem V.dX4_extend_64 : decode cX4_extend 64 = .ok (.lload 4, 2) := by decide +kernel
theorem V.dX4_extend_66 : decode cX4_extend 66 = .ok (.lreturn, 1) := by decide +kernel
/-! ModuleEngine$Numbers.extend(IJ)J -/
def V.Num_extend_p40  (σ : HS) (x0 : Int32) (x1 : Int64) (s0 : Int32) : Option (Int64 × HS) :=
  bn (lshr (lshl x1 s0) s0) fun y1 =>
  if (194 : Int32) ≤ x0 then (
    some (y1, σ))
  else (
    some (y1 &&& (4294967295 : Int64), σ))
theorem V.gX4_extend_p40 {X : CX}  (σ : HS) (x0 : Int32) (x1 : Int64) (s0 : Int32) : G X RX4 "extend" cX4_extend 6 (some .long) 0 0 enJ 40 [(0, iv x0), (1, jv x1)] [iv s0] σ (Num_extend_p40 σ x0 x1 s0) := by
  unfold Num_extend_p40
  refine g_istore_n 3 dX4_extend_40 rfl (by decide) rfl ?_
  refine g_lload_n 1 2 dX4_extend_41 rfl rfl ?_
  refine g_iload_n 3 0 dX4_extend_42 rfl rfl ?_
  refine g_lshl dX4_extend_43 ?_
  refine g_iload_n 3 0 dX4_extend_44 rfl rfl ?_
  refine g_lshr dX4_extend_45 ?_
  refine g_nmJ (fun y1 => ?_)
  refine g_lstore dX4_extend_46 (by decide) rfl ?_
  refine g_iload_n 0 2 dX4_extend_48 rfl rfl ?_
  refine g_sipush (v := 194) dX4_extend_49 (by decide) ?_
  refine g_icmp_ge 64 dX4_extend_52 (by decide) ?_ ?_
  · refine g_lload 0 dX4_extend_64 rfl ?_
    exact g_lreturn rfl dX4_extend_66
  · refine g_lload 0 dX4_extend_55 rfl ?_
    refine g_ldc2 q2556 dX4_extend_57 ?_
    refine g_land dX4_extend_60 ?_
    refine g_goto 66 dX4_extend_61 (by decide) ?_
    exact g_lreturn rfl dX4_extend_66
def V.Num_extend_p14  (σ : HS) (x0 : Int32) (x1 : Int64) : Option (Int64 × HS) :=
  Num_extend_p40 σ x0 x1 (56 : Int32)
theorem V.gX4_extend_p14 {X : CX}  (σ : HS) (x0 : Int32) (x1 : Int64) : G X RX4 "extend" cX4_extend 6 (some .long) 0 0 enJ 14 [(0, iv x0), (1, jv x1)] [] σ (Num_extend_p14 σ x0 x1) := by
  unfold Num_extend_p14
  refine g_bipush (v := 56) dX4_extend_14 (by decide) ?_
  refine g_goto 40 dX4_extend_16 (by decide) ?_
  exact gX4_extend_p40 _ _ _ _
def V.Num_extend_p33  (σ : HS) (x0 : Int32) (x1 : Int64) : Option (Int64 × HS) :=
  Num_extend_p40 σ x0 x1 (48 : Int32)
theorem V.gX4_extend_p33 {X : CX}  (σ : HS) (x0 : Int32) (x1 : Int64) : G X RX4 "extend" cX4_extend 6 (some .long) 0 0 enJ 33 [(0, iv x0), (1, jv x1)] [] σ (Num_extend_p33 σ x0 x1) := by
  unfold Num_extend_p33
  refine g_bipush (v := 48) dX4_extend_33 (by decide) ?_
  refine g_goto 40 dX4_extend_35 (by decide) ?_
  exact gX4_extend_p40 _ _ _ _
def V.Num_extend (σ : HS) (x0 : Int32) (x1 : Int64) : Option (Int64 × HS) :=
  if x0 = (192 : Int32) then (
    Num_extend_p14 σ x0 x1)
  else (
    if x0 = (194 : Int32) then (
      Num_extend_p14 σ x0 x1)
    else (
      if x0 = (193 : Int32) then (
        Num_extend_p33 σ x0 x1)
      else (
        if x0 = (195 : Int32) then (
          Num_extend_p33 σ x0 x1)
        else (
          Num_extend_p40 σ x0 x1 (32 : Int32)))))
theorem V.ctX4_extend (x0 : Int32) (x1 : Int64) : Ct yX4_extend  cX4_extend 6 (some .long) 0 0 eJ [iv x0, jv x1] (fun σ => Num_extend σ x0 x1) := by
  refine Ct.of (own := RX4) (nm := "extend") (desc := "(IJ)J") rfl (by decide) (Nat.le_of_ble_eq_true rfl) (by decide) (fun X σ => ?_)
  show G X RX4 "extend" cX4_extend 6 (some .long) 0 0 enJ 0 [(0, iv x0), (1, jv x1)] [] σ (Num_extend σ x0 x1)
  unfold Num_extend
  refine g_iload_n 0 0 dX4_extend_0 rfl rfl ?_
  refine g_sipush (v := 192) dX4_extend_1 (by decide) ?_
  refine g_icmp_eq 14 dX4_extend_4 (by decide) ?_ ?_
  · exact gX4_extend_p14 _ _ _
  · refine g_iload_n 0 0 dX4_extend_7 rfl rfl ?_
    refine g_sipush (v := 194) dX4_extend_8 (by decide) ?_
    refine g_icmp_ne 19 dX4_extend_11 (by decide) ?_ ?_
    · refine g_iload_n 0 0 dX4_extend_19 rfl rfl ?_
      refine g_sipush (v := 193) dX4_extend_20 (by decide) ?_
      refine g_icmp_eq 33 dX4_extend_23 (by decide) ?_ ?_
      · exact gX4_extend_p33 _ _ _
      · refine g_iload_n 0 0 dX4_extend_26 rfl rfl ?_
        refine g_sipush (v := 195) dX4_extend_27 (by decide) ?_
        refine g_icmp_ne 38 dX4_extend_30 (by decide) ?_ ?_
        · refine g_bipush (v := 32) dX4_extend_38 (by decide) ?_
          exact gX4_extend_p40 _ _ _ _
        · exact gX4_extend_p33 _ _ _
    · exact gX4_extend_p14 _ _ _
theorem V.dX4_reformat_0 : decode cX4_reformat 0 = .ok (.aload_n 0, 1) := by decide +kernel
theorem V.dX4_reformat_1 : decode cX4_reformat 1 = .ok (.lload_n 2, 1) := by decide +kernel
theorem V.dX4_reformat_2 : decode cX4_reformat 2 = .ok (.invokevirtual 95, 3) := by decide +kernel
theorem V.dX4_reformat_5 : decode cX4_reformat 5 = .ok (.ifCond .eq 8, 3) := by decide +kernel
theorem V.dX4_reformat_8 : decode cX4_reformat 8 = .ok (.aload_n 1, 1) := by decide +kernel
theorem V.dX4_reformat_9 : decode cX4_reformat 9 = .ok (.getfield 114, 3) := by decide +kernel
theorem V.dX4_reformat_12 : decode cX4_reformat 12 = .ok (.lreturn, 1) := by decide +kernel
theorem V.dX4_reformat_13 : decode cX4_reformat 13 = .ok (.aload_n 0, 1) := by decide +kernel
theorem V.dX4_reformat_14 : decode cX4_reformat 14 = .ok (.lload_n 2, 1) := by decide +kernel
theorem V.dX4_reformat_15 : decode cX4_reformat 15 = .ok (.invokevirtual 147, 3) := by decide +kernel
theorem V.dX4_reformat_18 : decode cX4_reformat 18 = .ok (.ifCond .eq 17, 3) := by decide +kernel
theorem V.dX4_reformat_21 : decode cX4_reformat 21 = .ok (.aload_n 1, 1) := by decide +kernel
theorem V.dX4_reformat_22 : decode cX4_reformat 22 = .ok (.aload_n 0, 1) := by decide +kernel
theorem V.dX4_reformat_23 : decode cX4_reformat 23 = .ok (.lload_n 2, 1) := by decide +kernel
theorem V.dX4_reformat_24 : decode cX4_reformat 24 = .ok (.invokevirtual 99, 3) := by decide +kernel
theorem V.dX4_reformat_27 : decode cX4_reformat 27 = .ok (.aload_n 1, 1) := by decide +kernel
theorem V.dX4_reformat_28 : decode cX4_reformat 28 = .ok (.getfield 159, 3) := by decide +kernel
theorem V.dX4_reformat_31 : decode cX4_reformat 31 = .ok (.invokevirtual 110, 3) := by decide +kernel
theorem V.dX4_reformat_34 : decode cX4_reformat 34 = .ok (.lreturn, 1) := by decide +kernel
theorem V.dX4_reformat_35 : decode cX4_reformat 35 = .ok (.aload_n 0, 1) := by decide +kernel
theorem V.dX4_reformat_36 : decode cX4_reformat 36 = .ok (.lload_n 2, 1) := by decide +kernel
theorem V.dX4_reformat_37 : decode cX4_reformat 37 = .ok (.invokevirtual 140, 3) := by decide +kernel
theorem V.dX4_reformat_40 : decode cX4_reformat 40 = .ok (.ifCond .eq 14, 3) := by decide +kernel
theorem V.dX4_reformat_43 : decode cX4_reformat 43 = .ok (.aload_n 1, 1) := by decide +kernel
theorem V.dX4_reformat_44 : decode cX4_reformat 44 = .ok (.aload_n 0, 1) := by decide +kernel
theorem V.dX4_reformat_45 : decode cX4_reformat 45 = .ok (.lload_n 2, 1) := by decide +kernel
theorem V.dX4_reformat_46 : decode cX4_reformat 46 = .ok (.invokevirtual 99, 3) := by decide +kernel
theorem V.dX4_reformat_49 : decode cX4_reformat 49 = .ok (.lconst 0, 1) := by decide +kernel
theorem V.dX4_reformat_50 : decode cX4_reformat 50 = .ok (.invokevirtual 110, 3) := by decide +kernel
theorem V.dX4_reformat_53 : decode cX4_reformat 53 = .ok (.lreturn, 1) := by decide +kernel
theorem V.dX4_reformat_54 : decode cX4_reformat 54 = .ok (.aload_n 1, 1) := by decide +kernel
theorem V.dX4_reformat_55 : decode cX4_reformat 55 = .ok (.aload_n 0, 1) := by decide +kernel
theorem V.dX4_reformat_56 : decode cX4_reformat 56 = .ok (.lload_n 2, 1) := by decide +kernel
theorem V.dX4_reformat_57 : decode cX4_reformat 57 = .ok (.invokevirtual 99, 3) := by decide +kernel
theorem V.dX4_reformat_60 : decode cX4_reformat 60 = .ok (.aload_n 0, 1) := by decide +kernel
theorem V.dX4_reformat_61 : decode cX4_reformat 61 = .ok (.lload_n 2, 1) := by decide +kernel
theorem V.dX4_reformat_62 : decode cX4_reformat 62 = .ok (.invokevirtual 150, 3) := by decide +kernel
theorem V.dX4_reformat_65 : decode cX4_reformat 65 = .ok (.aload_n 0, 1) := by decide +kernel
theorem V.dX4_reformat_66 : decode cX4_reformat 66 = .ok (.lload_n 2, 1) := by decide +kernel
theorem V.dX4_reformat_67 : decode cX4_reformat 67 = .ok (.invokevirtual 143, 3) := by decide +kernel
theorem V.dX4_reformat_70 : decode cX4_reformat 70 = .ok (.iconst 0, 1) := by decide +kernel
theorem V.dX4_reformat_71 : decode cX4_reformat 71 = .ok (.invokevirtual 153, 3) := by decide +kernel
theorem V.dX4_reformat_74 : decode cX4_reformat 74 = .ok (.lreturn, 1) := by decide +kernel
/-! ModuleEngine$Numbers.reformat(LModuleEngine$Numbers$Format;LModuleEngine$Numbers$Format;J)J -/
def V.Num_reformat (σ : HS) (x0 : Nat) (x1 : Nat) (x2 : Int64) : Option (Int64 × HS) :=
  ck (tg σ x0 = 6) <| cl (Fmt_isNone σ x0 x2) fun r2 σ1 =>
  if r2 = 0 then (
    ck (tg σ1 x0 = 6) <| cl (Fmt_isInfinite σ1 x0 x2) fun r4 σ3 =>
    if r4 = 0 then (
      ck (tg σ3 x0 = 6) <| cl (Fmt_isZero σ3 x0 x2) fun r6 σ5 =>
      if r6 = 0 then (
        ck (tg σ5 x0 = 6) <| cl (Fmt_sign σ5 x0 x2) fun r8 σ7 =>
        ck (tg σ7 x0 = 6) <| cl (Fmt_significand σ7 x0 x2) fun r10 σ9 =>
        ck (tg σ9 x0 = 6) <| cl (Fmt_scale σ9 x0 x2) fun r12 σ11 =>
        ck (tg σ11 x1 = 6) <| cl (Fmt_round σ11 x1 r8 r10 r12 (0 : Int32)) fun r14 σ13 =>
        some (r14, σ13))
      else (
        ck (tg σ5 x0 = 6) <| cl (Fmt_sign σ5 x0 x2) fun r16 σ15 =>
        ck (tg σ15 x1 = 6) <| cl (Fmt_signed σ15 x1 r16 (0 : Int64)) fun r18 σ17 =>
        some (r18, σ17)))
    else (
      ck (tg σ3 x0 = 6) <| cl (Fmt_sign σ3 x0 x2) fun r20 σ19 =>
      ck (tg σ19 x1 = 6) <|
      ck (tg σ19 x1 = 6) <| cl (Fmt_signed σ19 x1 r20 (gJ σ19 x1 5)) fun r22 σ21 =>
      some (r22, σ21)))
  else (
    ck (tg σ1 x1 = 6) <|
    some (gJ σ1 x1 4, σ1))
theorem V.ctX4_reformat (x0 : Nat) (x1 : Nat) (x2 : Int64) : Ct yX4_reformat  cX4_reformat 4 (some .long) 4 86 eJ [av x0, av x1, jv x2] (fun σ => Num_reformat σ x0 x1 x2) := by
  refine Ct.of (own := RX4) (nm := "reformat") (desc := "(LModuleEngine$Numbers$Format;LModuleEngine$Numbers$Format;J)J") rfl (by decide) (Nat.le_of_ble_eq_true rfl) (by decide) (fun X σ => ?_)
  show G X RX4 "reformat" cX4_reformat 4 (some .long) 4 86 enJ 0 [(0, av x0), (1, av x1), (2, jv x2)] [] σ (Num_reformat σ x0 x1 x2)
  unfold Num_reformat
  refine g_aload_n 0 0 dX4_reformat_0 rfl rfl ?_
  refine g_lload_n 2 2 dX4_reformat_1 rfl rfl ?_
  refine g_callV (fc := fun sς => Fmt_isNone sς x0 x2) (ci := 5) (as := [jv x2]) rfl rfl rfl q2536 q2537 mdX4_95 (ctX5_isNone x0 x2) rfl (Nat.le_of_ble_eq_true rfl) (Nat.le_of_ble_eq_true rfl) (Nat.le_of_ble_eq_true rfl) pu_I dX4_reformat_2 (fun r2 σ1 => ?_)
  refine g_if_eq 13 dX4_reformat_5 (by decide) ?_ ?_
  · refine g_aload_n 0 0 dX4_reformat_13 rfl rfl ?_
    refine g_lload_n 2 2 dX4_reformat_14 rfl rfl ?_
    refine g_callV (fc := fun sς => Fmt_isInfinite sς x0 x2) (ci := 5) (as := [jv x2]) rfl rfl rfl q2601 q2602 mdX4_147 (ctX5_isInfinite x0 x2) rfl (Nat.le_of_ble_eq_true rfl) (Nat.le_of_ble_eq_true rfl) (Nat.le_of_ble_eq_true rfl) pu_I dX4_reformat_15 (fun r4 σ3 => ?_)
    refine g_if_eq 35 dX4_reformat_18 (by decide) ?_ ?_
    · refine g_aload_n 0 0 dX4_reformat_35 rfl rfl ?_
      refine g_lload_n 2 2 dX4_reformat_36 rfl rfl ?_
      refine g_callV (fc := fun sς => Fmt_isZero sς x0 x2) (ci := 5) (as := [jv x2]) rfl rfl rfl q2605 q2606 mdX4_140 (ctX5_isZero x0 x2) rfl (Nat.le_of_ble_eq_true rfl) (Nat.le_of_ble_eq_true rfl) (Nat.le_of_ble_eq_true rfl) pu_I dX4_reformat_37 (fun r6 σ5 => ?_)
      refine g_if_eq 54 dX4_reformat_40 (by decide) ?_ ?_
      · refine g_aload_n 1 1 dX4_reformat_54 rfl rfl ?_
        refine g_aload_n 0 0 dX4_reformat_55 rfl rfl ?_
        refine g_lload_n 2 2 dX4_reformat_56 rfl rfl ?_
        refine g_callV (fc := fun sς => Fmt_sign sς x0 x2) (ci := 5) (as := [jv x2]) rfl rfl rfl q2548 q2549 mdX4_99 (ctX5_sign x0 x2) rfl (Nat.le_of_ble_eq_true rfl) (Nat.le_of_ble_eq_true rfl) (Nat.le_of_ble_eq_true rfl) pu_I dX4_reformat_57 (fun r8 σ7 => ?_)
        refine g_aload_n 0 0 dX4_reformat_60 rfl rfl ?_
        refine g_lload_n 2 2 dX4_reformat_61 rfl rfl ?_
        refine g_callV (fc := fun sς => Fmt_significand sς x0 x2) (ci := 5) (as := [jv x2]) rfl rfl rfl q2609 q2610 mdX4_150 (ctX5_significand x0 x2) rfl (Nat.le_of_ble_eq_true rfl) (Nat.le_of_ble_eq_true rfl) (Nat.le_of_ble_eq_true rfl) pu_J dX4_reformat_62 (fun r10 σ9 => ?_)
        refine g_aload_n 0 0 dX4_reformat_65 rfl rfl ?_
        refine g_lload_n 2 2 dX4_reformat_66 rfl rfl ?_
        refine g_callV (fc := fun sς => Fmt_scale sς x0 x2) (ci := 5) (as := [jv x2]) rfl rfl rfl q2593 q2594 mdX4_143 (ctX5_scale x0 x2) rfl (Nat.le_of_ble_eq_true rfl) (Nat.le_of_ble_eq_true rfl) (Nat.le_of_ble_eq_true rfl) pu_I dX4_reformat_67 (fun r12 σ11 => ?_)
        refine g_iconst (v := 0) dX4_reformat_70 (by decide) ?_
        refine g_callV (fc := fun sς => Fmt_round sς x1 r8 r10 r12 (0 : Int32)) (ci := 5) (as := [iv r8, jv r10, iv r12, iv (0 : Int32)]) rfl rfl rfl q2617 q2618 mdX4_153 (ctX5_round x1 r8 r10 r12 (0 : Int32)) rfl (Nat.le_of_ble_eq_true rfl) (Nat.le_of_ble_eq_true rfl) (Nat.le_of_ble_eq_true rfl) pu_J dX4_reformat_71 (fun r14 σ13 => ?_)
        exact g_lreturn rfl dX4_reformat_74
      · refine g_aload_n 1 1 dX4_reformat_43 rfl rfl ?_
        refine g_aload_n 0 0 dX4_reformat_44 rfl rfl ?_
        refine g_lload_n 2 2 dX4_reformat_45 rfl rfl ?_
        refine g_callV (fc := fun sς => Fmt_sign sς x0 x2) (ci := 5) (as := [jv x2]) rfl rfl rfl q2548 q2549 mdX4_99 (ctX5_sign x0 x2) rfl (Nat.le_of_ble_eq_true rfl) (Nat.le_of_ble_eq_true rfl) (Nat.le_of_ble_eq_true rfl) pu_I dX4_reformat_46 (fun r16 σ15 => ?_)
        refine g_lconst (v := 0) dX4_reformat_49 (by decide) ?_
        refine g_callV (fc := fun sς => Fmt_signed sς x1 r16 (0 : Int64)) (ci := 5) (as := [iv r16, jv (0 : Int64)]) rfl rfl rfl q2586 q2587 mdX4_110 (ctX5_signed x1 r16 (0 : Int64)) rfl (Nat.le_of_ble_eq_true rfl) (Nat.le_of_ble_eq_true rfl) (Nat.le_of_ble_eq_true rfl) pu_J dX4_reformat_50 (fun r18 σ17 => ?_)
        exact g_lreturn rfl dX4_reformat_53
    · refine g_aload_n 1 1 dX4_reformat_21 rfl rfl ?_
      refine g_aload_n 0 0 dX4_reformat_22 rfl rfl ?_
      refine g_lload_n 2 2 dX4_reformat_23 rfl rfl ?_
      refine g_callV (fc := fun sς => Fmt_sign sς x0 x2) (ci := 5) (as := [jv x2]) rfl rfl rfl q2548 q2549 mdX4_99 (ctX5_sign x0 x2) rfl (Nat.le_of_ble_eq_true rfl) (Nat.le_of_ble_eq_true rfl) (Nat.le_of_ble_eq_true rfl) pu_I dX4_reformat_24 (fun r20 σ19 => ?_)
      refine g_aload_n 1 1 dX4_reformat_27 rfl rfl ?_
      refine g_getJ fdX4_159 dX4_reformat_28 ?_
      refine g_callV (fc := fun sς => Fmt_signed sς x1 r20 (gJ σ19 x1 5)) (ci := 5) (as := [iv r20, jv (gJ σ19 x1 5)]) rfl rfl rfl q2586 q2587 mdX4_110 (ctX5_signed x1 r20 (gJ σ19 x1 5)) rfl (Nat.le_of_ble_eq_true rfl) (Nat.le_of_ble_eq_true rfl) (Nat.le_of_ble_eq_true rfl) pu_J dX4_reformat_31 (fun r22 σ21 => ?_)
      exact g_lreturn rfl dX4_reformat_34
  · refine g_aload_n 1 1 dX4_reformat_8 rfl rfl ?_
    refine g_getJ fdX4_114 dX4_reformat_9 ?_
    exact g_lreturn rfl dX4_reformat_12
theorem V.dX4_fromWhole_0 : decode cX4_fromWhole 0 = .ok (.iload_n 1, 1) := by decide +kernel
theorem V.dX4_fromWhole_1 : decode cX4_fromWhole 1 = .ok (.ifCond .ne 9, 3) := by decide +kernel
theorem V.dX4_fromWhole_4 : decode cX4_fromWhole 4 = .ok (.lload_n 2, 1) := by decide +kernel
theorem V.dX4_fromWhole_5 : decode cX4_fromWhole 5 = .ok (.l2i, 1) := by decide +kernel
theorem V.dX4_fromWhole_6 : decode cX4_fromWhole 6 = .ok (.i2l, 1) := by decide +kernel
theorem V.dX4_fromWhole_7 : decode cX4_fromWhole 7 = .ok (.goto 17, 3) := by decide +kernel
theorem V.dX4_fromWhole_10 : decode cX4_fromWhole 10 = .ok (.iload_n 1, 1) := by decide +kernel
theorem V.dX4_fromWhole_11 : decode cX4_fromWhole 11 = .ok (.iconst 1, 1) := by decide +kernel
theorem V.dX4_fromWhole_12 : decode cX4_fromWhole 12 = .ok (.if_icmp .ne 11, 3) := by decide +kernel
theorem V.dX4_fromWhole_15 : decode cX4_fromWhole 15 = .ok (.lload_n 2, 1) := by decide +kernel
theorem V.dX4_fromWhole_16 : decode cX4_fromWhole 16 = .ok (.ldc2_w 45, 3) := by decide +kernel
theorem V.dX4_fromWhole_19 : decode cX4_fromWhole 19 = .ok (.land, 1) := by decide +kernel
theorem V.dX4_fromWhole_20 : decode cX4_fromWhole 20 = .ok (.goto 4, 3) := by decide +kernel
theorem V.dX4_fromWhole_23 : decode cX4_fromWhole 23 = .ok (.lload_n 2, 1) := by decide +kernel
theorem V.dX4_fromWhole_24 : decode cX4_fromWhole 24 = .ok (.lstore 4, 2) := by decide +kernel
theorem V.dX4_fromWhole_26 : decode cX4_fromWhole 26 = .ok (.iload_n 1, 1) := by decide +kernel
theorem V.dX4_fromWhole_27 : decode cX4_fromWhole 27 = .ok (.iconst 3, 1) := by decide +kernel
theorem V.dX4_fromWhole_28 : decode cX4_fromWhole 28 = .ok (.if_icmp .eq 14, 3) := by decide +kernel
theorem V.dX4_fromWhole_31 : decode cX4_fromWhole 31 = .ok (.lload 4, 2) := by decide +kernel
theorem V.dX4_fromWhole_33 : decode cX4_fromWhole 33 = .ok (.lconst 0, 1) := by decide +kernel
theorem V.dX4_fromWhole_34 : decode cX4_fromWhole 34 = .ok (.lcmp, 1) := by decide +kernel
theorem V.dX4_fromWhole_35 : decode cX4_fromWhole 35 = .ok (.ifCond .ge 7, 3) := by decide +kernel
theorem V.dX4_fromWhole_38 : decode cX4_fromWhole 38 = .ok (.iconst 1, 1) := by decide +kernel
theorem V.dX4_fromWhole_39 : decode cX4_fromWhole 39 = .ok (.goto 4, 3) := by decide +kernel
theorem V.dX4_fromWhole_42 : decode cX4_fromWhole 42 = .ok (.iconst 0, 1) := by decide +kernel
theorem V.dX4_fromWhole_43 : decode cX4_fromWhole 43 = .ok (.istore 6, 2) := by decide +kernel
theorem V.dX4_fromWhole_45 : decode cX4_fromWhole 45 = .ok (.lload 4, 2) := by decide +kernel
theorem V.dX4_fromWhole_47 : decode cX4_fromWhole 47 = .ok (.lconst 0, 1) := by decide +kernel
theorem V.dX4_fromWhole_48 : decode cX4_fromWhole 48 = .ok (.lcmp, 1) := by decide +kernel
theorem V.dX4_fromWhole_49 : decode cX4_fromWhole 49 = .ok (.ifCond .ne 5, 3) := by decide +kernel
theorem V.dX4_fromWhole_52 : decode cX4_fromWhole 52 = .ok (.lconst 0, 1) := by decide +kernel
theorem V.dX4_fromWhole_53 : decode cX4_fromWhole 53 = .ok (.lreturn, 1) := by decide +kernel
theorem V.dX4_fromWhole_54 : decode cX4_fromWhole 54 = .ok (.iload 6, 2) := by decide +kernel
theorem V.dX4_fromWhole_56 : decode cX4_fromWhole 56 = .ok (.ifCond .eq 9, 3) := by decide +kernel
theorem V.dX4_fromWhole_59 : decode cX4_fromWhole 59 = .ok (.lload 4, 2) := by decide +kernel
theorem V.dX4_fromWhole_61 : decode cX4_fromWhole 61 = .ok (.lneg, 1) := by decide +kernel
theorem V.dX4_fromWhole_62 : decode cX4_fromWhole 62 = .ok (.goto 5, 3) := by decide +kernel
theorem V.dX4_fromWhole_65 : decode cX4_fromWhole 65 = .ok (.lload 4, 2) := by decide +kernel
theorem V.dX4_fromWhole_67 : decode cX4_fromWhole 67 = .ok (.lstore 7, 2) := by decide +kernel
theorem V.dX4_fromWhole_69 : decode cX4_fromWhole 69 = .ok (.lload 7, 2) := by decide +kernel
theorem V.dX4_fromWhole_71 : decode cX4_fromWhole 71 = .ok (.lconst 0, 1) := by decide +kernel
theorem V.dX4_fromWhole_72 : decode cX4_fromWhole 72 = .ok (.lcmp, 1) := by decide +kernel
theorem V.dX4_fromWhole_73 : decode cX4_fromWhole 73 = .ok (.ifCond .ge 23, 3) := by decide +kernel
theorem V.dX4_fromWhole_76 : decode cX4_fromWhole 76 = .ok (.aload_n 0, 1) := by decide +kernel
theorem V.dX4_fromWhole_77 : decode cX4_fromWhole 77 = .ok (.iload 6, 2) := by decide +kernel
theorem V.dX4_fromWhole_79 : decode cX4_fromWhole 79 = .ok (.lload 7, 2) := by decide +kernel
theorem V.dX4_fromWhole_81 : decode cX4_fromWhole 81 = .ok (.iconst 1, 1) := by decide +kernel
theorem V.dX4_fromWhole_82 : decode cX4_fromWhole 82 = .ok (.lushr, 1) := by decide +kernel
theorem V.dX4_fromWhole_83 : decode cX4_fromWhole 83 = .ok (.lload 7, 2) := by decide +kernel
theorem V.dX4_fromWhole_85 : decode cX4_fromWhole 85 = .ok (.lconst 1, 1) := by decide +kernel
theorem V.dX4_fromWhole_86 : decode cX4_fromWhole 86 = .ok (.land, 1) := by decide +kernel
theorem V.dX4_fromWhole_87 : decode cX4_fromWhole 87 = .ok (.lor, 1) := by decide +kernel
theorem V.dX4_fromWhole_88 : decode cX4_fromWhole 88 = .ok (.iconst 1, 1) := by decide +kernel
theorem V.dX4_fromWhole_89 : decode cX4_fromWhole 89 = .ok (.iconst 0, 1) := by decide +kernel
theorem V.dX4_fromWhole_90 : decode cX4_fromWhole 90 = .ok (.invokevirtual 153, 3) := by decide +kernel
theorem V.dX4_fromWhole_93 : decode cX4_fromWhole 93 = .ok (.goto 13, 3) := by decide +kernel
theorem V.dX4_fromWhole_96 : decode cX4_fromWhole 96 = .ok (.aload_n 0, 1) := by decide +kernel
theorem V.dX4_fromWhole_97 : decode cX4_fromWhole 97 = .ok (.iload 6, 2) := by decide +kernel
theorem V.dX4_fromWhole_99 : decode cX4_fromWhole 99 = .ok (.lload 7, 2) := by decide +kernel
theorem V.dX4_fromWhole_101 : decode cX4_fromWhole 101 = .ok (.iconst 0, 1) := by decide +kernel
theorem V.dX4_fromWhole_102 : decode cX4_fromWhole 102 = .ok (.iconst 0, 1) := by decide +kernel
theorem V.dX4_fromWhole_103 : decode cX4_fromWhole 103 = .ok (.invokevirtual 153, 3) := by decide +kernel
theorem V.dX4_fromWhole_106 : decode cX4_fromWhole 106 = .ok (.lreturn, 1) := by decide +kernel
/-! ModuleEngine$Numbers.fromWhole(LModuleEngine$Numbers$Format;IJ)J -/
def V.Num_fromWhole_p67  (σ : HS) (x0 : Nat) (x6 : Int32) (s0 : Int64) : Option (Int64 × HS) :=
  if (0 : Int64) ≤ s0 then (
    ck (tg σ x0 = 6) <| cl (Fmt_round σ x0 x6 s0 (0 : Int32) (0 : Int32)) fun r2 σ1 =>
    some (r2, σ1))
  else (
    ck (tg σ x0 = 6) <| cl (Fmt_round σ x0 x6 ((lushr s0 (1 : Int32)) ||| (s0 &&& (1 : Int64))) (1 : Int32) (0 : Int32)) fun r4 σ3 =>
    some (r4, σ3))
theorem V.gX4_fromWhole_p67 {X : CX}  (σ : HS) (x0 : Nat) (x6 : Int32) (s0 : Int64) : G X RX4 "fromWhole" cX4_fromWhole 9 (some .long) 3 82 enJ 67 [(0, av x0), (6, iv x6)] [jv s0] σ (Num_fromWhole_p67 σ x0 x6 s0) := by
  unfold Num_fromWhole_p67
  refine g_lstore dX4_fromWhole_67 (by decide) rfl ?_
  refine g_lload 0 dX4_fromWhole_69 rfl ?_
  refine g_lconst (v := 0) dX4_fromWhole_71 (by decide) ?_
  refine g_lcmp_ge 96 dX4_fromWhole_72 dX4_fromWhole_73 (by decide) ?_ ?_
  · refine g_aload_n 0 1 dX4_fromWhole_96 rfl rfl ?_
    refine g_iload 2 dX4_fromWhole_97 rfl ?_
    refine g_lload 0 dX4_fromWhole_99 rfl ?_
    refine g_iconst (v := 0) dX4_fromWhole_101 (by decide) ?_
    refine g_iconst (v := 0) dX4_fromWhole_102 (by decide) ?_
    refine g_callV (fc := fun sς => Fmt_round sς x0 x6 s0 (0 : Int32) (0 : Int32)) (ci := 5) (as := [iv x6, jv s0, iv (0 : Int32), iv (0 : Int32)]) rfl rfl rfl q2617 q2618 mdX4_153 (ctX5_round x0 x6 s0 (0 : Int32) (0 : Int32)) rfl (Nat.le_of_ble_eq_true rfl) (Nat.le_of_ble_eq_true rfl) (Nat.le_of_ble_eq_true rfl) pu_J dX4_fromWhole_103 (fun r2 σ1 => ?_)
    exact g_lreturn rfl dX4_fromWhole_106
  · refine g_aload_n 0 1 dX4_fromWhole_76 rfl rfl ?_
    refine g_iload 2 dX4_fromWhole_77 rfl ?_
    refine g_lload 0 dX4_fromWhole_79 rfl ?_
    refine g_iconst (v := 1) dX4_fromWhole_81 (by decide) ?_
    refine g_lushr dX4_fromWhole_82 ?_
    refine g_lload 0 dX4_fromWhole_83 rfl ?_
    refine g_lconst (v := 1) dX4_fromWhole_85 (by decide) ?_
    refine g_land dX4_fromWhole_86 ?_
    refine g_lor dX4_fromWhole_87 ?_
    refine g_iconst (v := 1) dX4_fromWhole_88 (by decide) ?_
    refine g_iconst (v := 0) dX4_fromWhole_89 (by decide) ?_
    refine g_callV (fc := fun sς => Fmt_round sς x0 x6 ((lushr s0 (1 : Int32)) ||| (s0 &&& (1 : Int64))) (1 : Int32) (0 : Int32)) (ci := 5) (as := [iv x6, jv ((lushr s0 (1 : Int32)) ||| (s0 &&& (1 : Int64))), iv (1 : Int32), iv (0 : Int32)]) rfl rfl rfl q2617 q2618 mdX4_153 (ctX5_round x0 x6 ((lushr s0 (1 : Int32)) ||| (s0 &&& (1 : Int64))) (1 : Int32) (0 : Int32)) rfl (Nat.le_of_ble_eq_true rfl) (Nat.le_of_ble_eq_true rfl) (Nat.le_of_ble_eq_true rfl) pu_J dX4_fromWhole_90 (fun r4 σ3 => ?_)
    refine g_goto 106 dX4_fromWhole_93 (by decide) ?_
    exact g_lreturn rfl dX4_fromWhole_106
def V.Num_fromWhole_p43  (σ : HS) (x0 : Nat) (x4 : Int64) (s0 : Int32) : Option (Int64 × HS) :=
  if x4 = (0 : Int64) then (
    some ((0 : Int64), σ))
  else (
    if s0 = 0 then (
      Num_fromWhole_p67 σ x0 s0 x4)
    else (
      Num_fromWhole_p67 σ x0 s0 (-x4)))
theorem V.gX4_fromWhole_p43 {X : CX}  (σ : HS) (x0 : Nat) (x4 : Int64) (s0 : Int32) : G X RX4 "fromWhole" cX4_fromWhole 9 (some .long) 3 82 enJ 43 [(0, av x0), (4, jv x4)] [iv s0] σ (Num_fromWhole_p43 σ x0 x4 s0) := by
  unfold Num_fromWhole_p43
  refine g_istore dX4_fromWhole_43 (by decide) rfl ?_
  refine g_lload 2 dX4_fromWhole_45 rfl ?_
  refine g_lconst (v := 0) dX4_fromWhole_47 (by decide) ?_
  refine g_lcmp_ne 54 dX4_fromWhole_48 dX4_fromWhole_49 (by decide) ?_ ?_
  · refine g_iload 0 dX4_fromWhole_54 rfl ?_
    refine g_if_eq 65 dX4_fromWhole_56 (by decide) ?_ ?_
    · refine g_lload 2 dX4_fromWhole_65 rfl ?_
      refine G.sub [1, 0] rfl ?_
      exact gX4_fromWhole_p67 _ _ _ _
    · refine g_lload 2 dX4_fromWhole_59 rfl ?_
      refine g_lneg dX4_fromWhole_61 ?_
      refine g_goto 67 dX4_fromWhole_62 (by decide) ?_
      refine G.sub [1, 0] rfl ?_
      exact gX4_fromWhole_p67 _ _ _ _
  · refine g_lconst (v := 0) dX4_fromWhole_52 (by decide) ?_
    exact g_lreturn rfl dX4_fromWhole_53
def V.Num_fromWhole_p42  (σ : HS) (x0 : Nat) (x4 : Int64) : Option (Int64 × HS) :=
  Num_fromWhole_p43 σ x0 x4 (0 : Int32)
theorem V.gX4_fromWhole_p42 {X : CX}  (σ : HS) (x0 : Nat) (x4 : Int64) : G X RX4 "fromWhole" cX4_fromWhole 9 (some .long) 3 82 enJ 42 [(0, av x0), (4, jv x4)] [] σ (Num_fromWhole_p42 σ x0 x4) := by
  unfold Num_fromWhole_p42
  refine g_iconst (v := 0) dX4_fromWhole_42 (by decide) ?_
  exact gX4_fromWhole_p43 _ _ _ _
def V.Num_fromWhole_p24  (σ : HS) (x0 : Nat) (x1 : Int32) (s0 : Int64) : Option (Int64 × HS) :=
  if x1 = (3 : Int32) then (
    Num_fromWhole_p42 σ x0 s0)
  else (
    if (0 : Int64) ≤ s0 then (
      Num_fromWhole_p42 σ x0 s0)
    else (
      Num_fromWhole_p43 σ x0 s0 (1 : Int32)))
theorem V.gX4_fromWhole_p24 {X : CX}  (σ : HS) (x0 : Nat) (x1 : Int32) (s0 : Int64) : G X RX4 "fromWhole" cX4_fromWhole 9 (some .long) 3 82 enJ 24 [(0, av x0), (1, iv x1)] [jv s0] σ (Num_fromWhole_p24 σ x0 x1 s0) := by
  unfold Num_fromWhole_p24
  refine g_lstore dX4_fromWhole_24 (by decide) rfl ?_
  refine g_iload_n 1 2 dX4_fromWhole_26 rfl rfl ?_
  refine g_iconst (v := 3) dX4_fromWhole_27 (by decide) ?_
  refine g_icmp_eq 42 dX4_fromWhole_28 (by decide) ?_ ?_
  · refine G.sub [1, 0] rfl ?_
    exact gX4_fromWhole_p42 _ _ _
  · refine g_lload 0 dX4_fromWhole_31 rfl ?_
    refine g_lconst (v := 0) dX4_fromWhole_33 (by decide) ?_
    refine g_lcmp_ge 42 dX4_fromWhole_34 dX4_fromWhole_35 (by decide) ?_ ?_
    · refine G.sub [1, 0] rfl ?_
      exact gX4_fromWhole_p42 _ _ _
    · refine g_iconst (v := 1) dX4_fromWhole_38 (by decide) ?_
      refine g_goto 43 dX4_fromWhole_39 (by decide) ?_
      refine G.sub [1, 0] rfl ?_
      exact gX4_fromWhole_p43 _ _ _ _
def V.Num_fromWhole (σ : HS) (x0 : Nat) (x1 : Int32) (x2 : Int64) : Option (Int64 × HS) :=
  if x1 = 0 then (
    Num_fromWhole_p24 σ x0 x1 x2.toInt32.toInt64)
  else (
    if x1 = (1 : Int32) then (
      Num_fromWhole_p24 σ x0 x1 (x2 &&& (4294967295 : Int64)))
    else (
      Num_fromWhole_p24 σ x0 x1 x2))
theorem V.ctX4_fromWhole (x0 : Nat) (x1 : Int32) (x2 : Int64) : Ct yX4_fromWhole  cX4_fromWhole 9 (some .long) 3 82 eJ [av x0, iv x1, jv x2] (fun σ => Num_fromWhole σ x0 x1 x2) := by
  refine Ct.of (own := RX4) (nm := "fromWhole") (desc := "(LModuleEngine$Numbers$Format;IJ)J") rfl (by decide) (Nat.le_of_ble_eq_true rfl) (by decide) (fun X σ => ?_)
  show G X RX4 "fromWhole" cX4_fromWhole 9 (some .long) 3 82 enJ 0 [(0, av x0), (1, iv x1), (2, jv x2)] [] σ (Num_fromWhole σ x0 x1 x2)
  unfold Num_fromWhole
  refine g_iload_n 1 1 dX4_fromWhole_0 rfl rfl ?_
  refine g_if_ne 10 dX4_fromWhole_1 (by decide) ?_ ?_
  · refine g_iload_n 1 1 dX4_fromWhole_10 rfl rfl ?_
    refine g_iconst (v := 1) dX4_fromWhole_11 (by decide) ?_
    refine g_icmp_ne 23 dX4_fromWhole_12 (by decide) ?_ ?_
    · refine g_lload_n 2 2 dX4_fromWhole_23 rfl rfl ?_
      refine G.sub [0, 1] rfl ?_
      exact gX4_fromWhole_p24 _ _ _ _
    · refine g_lload_n 2 2 dX4_fromWhole_15 rfl rfl ?_
      refine g_ldc2 q2556 dX4_fromWhole_16 ?_
      refine g_land dX4_fromWhole_19 ?_
      refine g_goto 24 dX4_fromWhole_20 (by decide) ?_
      refine G.sub [0, 1] rfl ?_
      exact gX4_fromWhole_p24 _ _ _ _
  · refine g_lload_n 2 2 dX4_fromWhole_4 rfl rfl ?_
    refine g_l2i dX4_fromWhole_5 ?_
    refine g_i2l dX4_fromWhole_6 ?_
    refine g_goto 24 dX4_fromWhole_7 (by decide) ?_
    refine G.sub [0, 1] rfl ?_
    exact gX4_fromWhole_p24 _ _ _ _
theorem V.dX4_convert_0 : decode cX4_convert 0 = .ok (.iload_n 1, 1) := by decide +kernel
theorem V.dX4_convert_1 : decode cX4_convert 1 = .ok (.sipush 167, 3) := by decide +kernel
theorem V.dX4_convert_4 : decode cX4_convert 4 = .ok (.if_icmp .ne 9, 3) := by decide +kernel
theorem V.dX4_convert_7 : decode cX4_convert 7 = .ok (.lload_n 2, 1) := by decide +kernel
theorem V.dX4_convert_8 : decode cX4_convert 8 = .ok (.ldc2_w 45, 3) := by decide +kernel
theorem V.dX4_convert_11 : decode cX4_convert 11 = .ok (.land, 1) := by decide +kernel
theorem V.dX4_convert_12 : decode cX4_convert 12 = .ok (.lreturn, 1) := by decide +kernel
theorem V.dX4_convert_13 : decode cX4_convert 13 = .ok (.iload_n 1, 1) := by decide +kernel
theorem V.dX4_convert_14 : decode cX4_convert 14 = .ok (.sipush 172, 3) := by decide +kernel
theorem V.dX4_convert_17 : decode cX4_convert 17 = .ok (.if_icmp .ge 15, 3) := by decide +kernel
theorem V.dX4_convert_20 : decode cX4_convert 20 = .ok (.aload_n 0, 1) := by decide +kernel
theorem V.dX4_convert_21 : decode cX4_convert 21 = .ok (.iload_n 1, 1) := by decide +kernel
theorem V.dX4_convert_22 : decode cX4_convert 22 = .ok (.sipush 168, 3) := by decide +kernel
theorem V.dX4_convert_25 : decode cX4_convert 25 = .ok (.isub, 1) := by decide +kernel
theorem V.dX4_convert_26 : decode cX4_convert 26 = .ok (.lload_n 2, 1) := by decide +kernel
theorem V.dX4_convert_27 : decode cX4_convert 27 = .ok (.iconst 0, 1) := by decide +kernel
theorem V.dX4_convert_28 : decode cX4_convert 28 = .ok (.invokevirtual 54, 3) := by decide +kernel
theorem V.dX4_convert_31 : decode cX4_convert 31 = .ok (.lreturn, 1) := by decide +kernel
theorem V.dX4_convert_32 : decode cX4_convert 32 = .ok (.iload_n 1, 1) := by decide +kernel
theorem V.dX4_convert_33 : decode cX4_convert 33 = .ok (.sipush 172, 3) := by decide +kernel
theorem V.dX4_convert_36 : decode cX4_convert 36 = .ok (.if_icmp .ne 7, 3) := by decide +kernel
theorem V.dX4_convert_39 : decode cX4_convert 39 = .ok (.lload_n 2, 1) := by decide +kernel
theorem V.dX4_convert_40 : decode cX4_convert 40 = .ok (.l2i, 1) := by decide +kernel
theorem V.dX4_convert_41 : decode cX4_convert 41 = .ok (.i2l, 1) := by decide +kernel
theorem V.dX4_convert_42 : decode cX4_convert 42 = .ok (.lreturn, 1) := by decide +kernel
theorem V.dX4_convert_43 : decode cX4_convert 43 = .ok (.iload_n 1, 1) := by decide +kernel
theorem V.dX4_convert_44 : decode cX4_convert 44 = .ok (.sipush 173, 3) := by decide +kernel
theorem V.dX4_convert_47 : decode cX4_convert 47 = .ok (.if_icmp .ne 9, 3) := by decide +kernel
theorem V.dX4_convert_50 : decode cX4_convert 50 = .ok (.lload_n 2, 1) := by decide +kernel
theorem V.dX4_convert_51 : decode cX4_convert 51 = .ok (.ldc2_w 45, 3) := by decide +kernel
theorem V.dX4_convert_54 : decode cX4_convert 54 = .ok (.land, 1) := by decide +kernel
theorem V.dX4_convert_55 : decode cX4_convert 55 = .ok (.lreturn, 1) := by decide +kernel
theorem V.dX4_convert_56 : decode cX4_convert 56 = .ok (.iload_n 1, 1) := by decide +kernel
theorem V.dX4_convert_57 : decode cX4_convert 57 = .ok (.sipush 178, 3) := by decide +kernel
theorem V.dX4_convert_60 : decode cX4_convert 60 = .ok (.if_icmp .ge 15, 3) := by decide +kernel
theorem V.dX4_convert_63 : decode cX4_convert 63 = .ok (.aload_n 0, 1) := by decide +kernel
theorem V.dX4_convert_64 : decode cX4_convert 64 = .ok (.iload_n 1, 1) := by decide +kernel
theorem V.dX4_convert_65 : decode cX4_convert 65 = .ok (.sipush 170, 3) := by decide +kernel
theorem V.dX4_convert_68 : decode cX4_convert 68 = .ok (.isub, 1) := by decide +kernel
theorem V.dX4_convert_69 : decode cX4_convert 69 = .ok (.lload_n 2, 1) := by decide +kernel
theorem V.dX4_convert_70 : decode cX4_convert 70 = .ok (.iconst 0, 1) := by decide +kernel
theorem V.dX4_convert_71 : decode cX4_convert 71 = .ok (.invokevirtual 54, 3) := by decide +kernel
theorem V.dX4_convert_74 : decode cX4_convert 74 = .ok (.lreturn, 1) := by decide +kernel
theorem V.dX4_convert_75 : decode cX4_convert 75 = .ok (.iload_n 1, 1) := by decide +kernel
theorem V.dX4_convert_76 : decode cX4_convert 76 = .ok (.sipush 182, 3) := by decide +kernel
theorem V.dX4_convert_79 : decode cX4_convert 79 = .ok (.if_icmp .ne 16, 3) := by decide +kernel
theorem V.dX4_convert_82 : decode cX4_convert 82 = .ok (.aload_n 0, 1) := by decide +kernel
theorem V.dX4_convert_83 : decode cX4_convert 83 = .ok (.getfield 18, 3) := by decide +kernel
theorem V.dX4_convert_86 : decode cX4_convert 86 = .ok (.aload_n 0, 1) := by decide +kernel
theorem V.dX4_convert_87 : decode cX4_convert 87 = .ok (.getfield 12, 3) := by decide +kernel
theorem V.dX4_convert_90 : decode cX4_convert 90 = .ok (.lload_n 2, 1) := by decide +kernel
theorem V.dX4_convert_91 : decode cX4_convert 91 = .ok (.invokestatic 176, 3) := by decide +kernel
theorem V.dX4_convert_94 : decode cX4_convert 94 = .ok (.lreturn, 1) := by decide +kernel
theorem V.dX4_convert_95 : decode cX4_convert 95 = .ok (.iload_n 1, 1) := by decide +kernel
theorem V.dX4_convert_96 : decode cX4_convert 96 = .ok (.sipush 187, 3) := by decide +kernel
theorem V.dX4_convert_99 : decode cX4_convert 99 = .ok (.if_icmp .ne 20, 3) := by decide +kernel
theorem V.dX4_convert_102 : decode cX4_convert 102 = .ok (.aload_n 0, 1) := by decide +kernel
theorem V.dX4_convert_103 : decode cX4_convert 103 = .ok (.getfield 12, 3) := by decide +kernel
theorem V.dX4_convert_106 : decode cX4_convert 106 = .ok (.aload_n 0, 1) := by decide +kernel
theorem V.dX4_convert_107 : decode cX4_convert 107 = .ok (.getfield 18, 3) := by decide +kernel
theorem V.dX4_convert_110 : decode cX4_convert 110 = .ok (.lload_n 2, 1) := by decide +kernel
theorem V.dX4_convert_111 : decode cX4_convert 111 = .ok (.ldc2_w 45, 3) := by decide +kernel
theorem V.dX4_convert_114 : decode cX4_convert 114 = .ok (.land, 1) := by decide +kernel
theorem V.dX4_convert_115 : decode cX4_convert 115 = .ok (.invokestatic 176, 3) := by decide +kernel
theorem V.dX4_convert_118 : decode cX4_convert 118 = .ok (.lreturn, 1) := by decide +kernel
theorem V.dX4_convert_119 : decode cX4_convert 119 = .ok (.iload_n 1, 1) := by decide +kernel
theorem V.dX4_convert_120 : decode cX4_convert 120 = .ok (.sipush 187, 3) := by decide +kernel
theorem V.dX4_convert_123 : decode cX4_convert 123 = .ok (.if_icmp .le 5, 3) := by decide +kernel
theorem V.dX4_convert_126 : decode cX4_convert 126 = .ok (.lload_n 2, 1) := by decide +kernel
theorem V.dX4_convert_127 : decode cX4_convert 127 = .ok (.lreturn, 1) := by decide +kernel
theorem V.dX4_convert_128 : decode cX4_convert 128 = .ok (.iload_n 1, 1) := by decide +kernel
theorem V.dX4_convert_129 : decode cX4_convert 129 = .ok (.sipush 182, 3) := by decide +kernel
theorem V.dX4_convert_132 : decode cX4_convert 132 = .ok (.if_icmp .ge 11, 3) := by decide +kernel
theorem V.dX4_convert_135 : decode cX4_convert 135 = .ok (.iload_n 1, 1) := by decide +kernel
theorem V.dX4_convert_136 : decode cX4_convert 136 = .ok (.sipush 178, 3) := by decide +kernel
theorem V.dX4_convert_139 : decode cX4_convert 139 = .ok (.isub, 1) := by decide +kernel
theorem V.dX4_convert_140 : decode cX4_convert 140 = .ok (.goto 8, 3) := by decide +kernel
theorem V.dX4_convert_143 : decode cX4_convert 143 = .ok (.iload_n 1, 1) := by decide +kernel
theorem V.dX4_convert_144 : decode cX4_convert 144 = .ok (.sipush 183, 3) := by decide +kernel
theorem V.dX4_convert_147 : decode cX4_convert 147 = .ok (.isub, 1) := by decide +kernel
theorem V.dX4_convert_148 : decode cX4_convert 148 = .ok (.istore 4, 2) := by decide +kernel
theorem V.dX4_convert_150 : decode cX4_convert 150 = .ok (.iload_n 1, 1) := by decide +kernel
theorem V.dX4_convert_151 : decode cX4_convert 151 = .ok (.sipush 182, 3) := by decide +kernel
theorem V.dX4_convert_154 : decode cX4_convert 154 = .ok (.if_icmp .ge 10, 3) := by decide +kernel
theorem V.dX4_convert_157 : decode cX4_convert 157 = .ok (.aload_n 0, 1) := by decide +kernel
theorem V.dX4_convert_158 : decode cX4_convert 158 = .ok (.getfield 12, 3) := by decide +kernel
theorem V.dX4_convert_161 : decode cX4_convert 161 = .ok (.goto 7, 3) := by decide +kernel
theorem V.dX4_convert_164 : decode cX4_convert 164 = .ok (.aload_n 0, 1) := by decide +kernel
theorem V.dX4_convert_165 : decode cX4_convert 165 = .ok (.getfield 18, 3) := by decide +kernel
theorem V.dX4_convert_168 : decode cX4_convert 168 = .ok (.iload 4, 2) := by decide +kernel
theorem V.dX4_convert_170 : decode cX4_convert 170 = .ok (.lload_n 2, 1) := by decide +kernel
theorem V.dX4_convert_171 : decode cX4_convert 171 = .ok (.invokestatic 180, 3) := by decide +kernel
theorem V.dX4_convert_174 : decode cX4_convert 174 = .ok (.lreturn, 1) := by decide +kernel
theorem V.mdX4_176 : MD RX4 176 yX4_reformat cX4_reformat 4 (some .long) 3 := ⟨Or.inl q2660, q364, q2662, by decide, by decide, by decide +kernel⟩
theorem V.mdX4_54 : MD RX4 54 yX4_towards cX4_towards 22 (some .long) 3 := ⟨Or.inl q2648, q364, q2651, by decide, by decide, by decide +kernel⟩
theorem V.mdX4_180 : MD RX4 180 yX4_fromWhole cX4_fromWhole 9 (some .long) 3 := ⟨Or.inl q2663, q364, q2665, by decide, by decide, by decide +kernel⟩
/-! ModuleEngine$Numbers.convert(IJ)J -/
def V.Num_convert_p168  (σ : HS) (x2 : Int64) (x4 : Int32) (s0 : Nat) : Option (Int64 × HS) :=
  cl (Num_fromWhole σ s0 x4 x2) fun r2 σ1 =>
  some (r2, σ1)
theorem V.gX4_convert_p168 {X : CX}  (σ : HS) (x2 : Int64) (x4 : Int32) (s0 : Nat) : G X RX4 "convert" cX4_convert 5 (some .long) 5 127 enJ 168 [(2, jv x2), (4, iv x4)] [av s0] σ (Num_convert_p168 σ x2 x4 s0) := by
  unfold Num_convert_p168
  refine g_iload 1 dX4_convert_168 rfl ?_
  refine g_lload_n 2 0 dX4_convert_170 rfl rfl ?_
  refine g_callS (fc := fun sς => Num_fromWhole sς s0 x4 x2) (as := [av s0, iv x4, jv x2]) q2664 mdX4_180 (ctX4_fromWhole s0 x4 x2) rfl (Nat.le_of_ble_eq_true rfl) (Nat.le_of_ble_eq_true rfl) (Nat.le_of_ble_eq_true rfl) pu_J dX4_convert_171 (fun r2 σ1 => ?_)
  exact g_lreturn rfl dX4_convert_174
def V.Num_convert_p148  (σ : HS) (x0 : Nat) (x1 : Int32) (x2 : Int64) (s0 : Int32) : Option (Int64 × HS) :=
  if (182 : Int32) ≤ x1 then (
    ck (tg σ x0 = 5) <|
    Num_convert_p168 σ x2 s0 (gR σ x0 1))
  else (
    ck (tg σ x0 = 5) <|
    Num_convert_p168 σ x2 s0 (gR σ x0 0))
theorem V.gX4_convert_p148 {X : CX}  (σ : HS) (x0 : Nat) (x1 : Int32) (x2 : Int64) (s0 : Int32) : G X RX4 "convert" cX4_convert 5 (some .long) 5 127 enJ 148 [(0, av x0), (1, iv x1), (2, jv x2)] [iv s0] σ (Num_convert_p148 σ x0 x1 x2 s0) := by
  unfold Num_convert_p148
  refine g_istore dX4_convert_148 (by decide) rfl ?_
  refine g_iload_n 1 2 dX4_convert_150 rfl rfl ?_
  refine g_sipush (v := 182) dX4_convert_151 (by decide) ?_
  refine g_icmp_ge 164 dX4_convert_154 (by decide) ?_ ?_
  · refine g_aload_n 0 1 dX4_convert_164 rfl rfl ?_
    refine g_getR fdX4_18 dX4_convert_165 ?_
    refine G.sub [3, 0] rfl ?_
    exact gX4_convert_p168 _ _ _ _
  · refine g_aload_n 0 1 dX4_convert_157 rfl rfl ?_
    refine g_getR fdX4_12 dX4_convert_158 ?_
    refine g_goto 168 dX4_convert_161 (by decide) ?_
    refine G.sub [3, 0] rfl ?_
    exact gX4_convert_p168 _ _ _ _
def V.Num_convert (σ : HS) (x0 : Nat) (x1 : Int32) (x2 : Int64) : Option (Int64 × HS) :=
  if x1 = (167 : Int32) then (
    some (x2 &&& (4294967295 : Int64), σ))
  else (
    if (172 : Int32) ≤ x1 then (
      if x1 = (172 : Int32) then (
        some (x2.toInt32.toInt64, σ))
      else (
        if x1 = (173 : Int32) then (
          some (x2 &&& (4294967295 : Int64), σ))
        else (
          if (178 : Int32) ≤ x1 then (
            if x1 = (182 : Int32) then (
              ck (tg σ x0 = 5) <|
              ck (tg σ x0 = 5) <|
              cl (Num_reformat σ (gR σ x0 1) (gR σ x0 0) x2) fun r4 σ3 =>
              some (r4, σ3))
            else (
              if x1 = (187 : Int32) then (
                ck (tg σ x0 = 5) <|
                ck (tg σ x0 = 5) <|
                cl (Num_reformat σ (gR σ x0 0) (gR σ x0 1) (x2 &&& (4294967295 : Int64))) fun r2 σ1 =>
                some (r2, σ1))
              else (
                if x1 ≤ (187 : Int32) then (
                  if (182 : Int32) ≤ x1 then (
                    Num_convert_p148 σ x0 x1 x2 (x1 - (183 : Int32)))
                  else (
                    Num_convert_p148 σ x0 x1 x2 (x1 - (178 : Int32))))
                else (
                  some (x2, σ)))))
          else (
            ck (tg σ x0 = 5) <| cl (Num_towards σ x0 (x1 - (170 : Int32)) x2 (0 : Int32)) fun r6 σ5 =>
            some (r6, σ5)))))
    else (
      ck (tg σ x0 = 5) <| cl (Num_towards σ x0 (x1 - (168 : Int32)) x2 (0 : Int32)) fun r8 σ7 =>
      some (r8, σ7)))
theorem V.ctX4_convert (x0 : Nat) (x1 : Int32) (x2 : Int64) : Ct yX4_convert  cX4_convert 5 (some .long) 5 127 eJ [av x0, iv x1, jv x2] (fun σ => Num_convert σ x0 x1 x2) := by
  refine Ct.of (own := RX4) (nm := "convert") (desc := "(IJ)J") rfl (by decide) (Nat.le_of_ble_eq_true rfl) (by decide) (fun X σ => ?_)
  show G X RX4 "convert" cX4_convert 5 (some .long) 5 127 enJ 0 [(0, av x0), (1, iv x1), (2, jv x2)] [] σ (Num_convert σ x0 x1 x2)
  unfold Num_convert
  refine g_iload_n 1 1 dX4_convert_0 rfl rfl ?_
  refine g_sipush (v := 167) dX4_convert_1 (by decide) ?_
  refine g_icmp_ne 13 dX4_convert_4 (by decide) ?_ ?_
  · refine g_iload_n 1 1 dX4_convert_13 rfl rfl ?_
    refine g_sipush (v := 172) dX4_convert_14 (by decide) ?_
    refine g_icmp_ge 32 dX4_convert_17 (by decide) ?_ ?_
    · refine g_iload_n 1 1 dX4_convert_32 rfl rfl ?_
      refine g_sipush (v := 172) dX4_convert_33 (by decide) ?_
      refine g_icmp_ne 43 dX4_convert_36 (by decide) ?_ ?_
      · refine g_iload_n 1 1 dX4_convert_43 rfl rfl ?_
        refine g_sipush (v := 173) dX4_convert_44 (by decide) ?_
        refine g_icmp_ne 56 dX4_convert_47 (by decide) ?_ ?_
        · refine g_iload_n 1 1 dX4_convert_56 rfl rfl ?_
          refine g_sipush (v := 178) dX4_convert_57 (by decide) ?_
          refine g_icmp_ge 75 dX4_convert_60 (by decide) ?_ ?_
          · refine g_iload_n 1 1 dX4_convert_75 rfl rfl ?_
            refine g_sipush (v := 182) dX4_convert_76 (by decide) ?_
            refine g_icmp_ne 95 dX4_convert_79 (by decide) ?_ ?_
            · refine g_iload_n 1 1 dX4_convert_95 rfl rfl ?_
              refine g_sipush (v := 187) dX4_convert_96 (by decide) ?_
              refine g_icmp_ne 119 dX4_convert_99 (by decide) ?_ ?_
              · refine g_iload_n 1 1 dX4_convert_119 rfl rfl ?_
                refine g_sipush (v := 187) dX4_convert_120 (by decide) ?_
                refine g_icmp_le 128 dX4_convert_123 (by decide) ?_ ?_
                · refine g_iload_n 1 1 dX4_convert_128 rfl rfl ?_
                  refine g_sipush (v := 182) dX4_convert_129 (by decide) ?_
                  refine g_icmp_ge 143 dX4_convert_132 (by decide) ?_ ?_
                  · refine g_iload_n 1 1 dX4_convert_143 rfl rfl ?_
                    refine g_sipush (v := 183) dX4_convert_144 (by decide) ?_
                    refine g_isub dX4_convert_147 ?_
                    exact gX4_convert_p148 _ _ _ _ _
                  · refine g_iload_n 1 1 dX4_convert_135 rfl rfl ?_
                    refine g_sipush (v := 178) dX4_convert_136 (by decide) ?_
                    refine g_isub dX4_convert_139 ?_
                    refine g_goto 148 dX4_convert_140 (by decide) ?_
                    exact gX4_convert_p148 _ _ _ _ _
                · refine g_lload_n 2 2 dX4_convert_126 rfl rfl ?_
                  exact g_lreturn rfl dX4_convert_127
              · refine g_aload_n 0 0 dX4_convert_102 rfl rfl ?_
                refine g_getR fdX4_12 dX4_convert_103 ?_
                refine g_aload_n 0 0 dX4_convert_106 rfl rfl ?_
                refine g_getR fdX4_18 dX4_convert_107 ?_
                refine g_lload_n 2 2 dX4_convert_110 rfl rfl ?_
                refine g_ldc2 q2556 dX4_convert_111 ?_
                refine g_land dX4_convert_114 ?_
                refine g_callS (fc := fun sς => Num_reformat sς (gR σ x0 0) (gR σ x0 1) (x2 &&& (4294967295 : Int64))) (as := [av (gR σ x0 0), av (gR σ x0 1), jv (x2 &&& (4294967295 : Int64))]) q2661 mdX4_176 (ctX4_reformat (gR σ x0 0) (gR σ x0 1) (x2 &&& (4294967295 : Int64))) rfl (Nat.le_of_ble_eq_true rfl) (Nat.le_of_ble_eq_true rfl) (Nat.le_of_ble_eq_true rfl) pu_J dX4_convert_115 (fun r2 σ1 => ?_)
                exact g_lreturn rfl dX4_convert_118
            · refine g_aload_n 0 0 dX4_convert_82 rfl rfl ?_
              refine g_getR fdX4_18 dX4_convert_83 ?_
              refine g_aload_n 0 0 dX4_convert_86 rfl rfl ?_
              refine g_getR fdX4_12 dX4_convert_87 ?_
              refine g_lload_n 2 2 dX4_convert_90 rfl rfl ?_
              refine g_callS (fc := fun sς => Num_reformat sς (gR σ x0 1) (gR σ x0 0) x2) (as := [av (gR σ x0 1), av (gR σ x0 0), jv x2]) q2661 mdX4_176 (ctX4_reformat (gR σ x0 1) (gR σ x0 0) x2) rfl (Nat.le_of_ble_eq_true rfl) (Nat.le_of_ble_eq_true rfl) (Nat.le_of_ble_eq_true rfl) pu_J dX4_convert_91 (fun r4 σ3 => ?_)
              exact g_lreturn rfl dX4_convert_94
          · refine g_aload_n 0 0 dX4_convert_63 rfl rfl ?_
            refine g_iload_n 1 1 dX4_convert_64 rfl rfl ?_
            refine g_sipush (v := 170) dX4_convert_65 (by decide) ?_
            refine g_isub dX4_convert_68 ?_
            refine g_lload_n 2 2 dX4_convert_69 rfl rfl ?_
            refine g_iconst (v := 0) dX4_convert_70 (by decide) ?_
            refine g_callV (fc := fun sς => Num_towards sς x0 (x1 - (170 : Int32)) x2 (0 : Int32)) (ci := 4) (as := [iv (x1 - (170 : Int32)), jv x2, iv (0 : Int32)]) rfl rfl rfl q2650 qs173 mdX4_54 (ctX4_towards x0 (x1 - (170 : Int32)) x2 (0 : Int32)) rfl (Nat.le_of_ble_eq_true rfl) (Nat.le_of_ble_eq_true rfl) (Nat.le_of_ble_eq_true rfl) pu_J dX4_convert_71 (fun r6 σ5 => ?_)
            exact g_lreturn rfl dX4_convert_74
        · refine g_lload_n 2 2 dX4_convert_50 rfl rfl ?_
          refine g_ldc2 q2556 dX4_convert_51 ?_
          refine g_land dX4_convert_54 ?_
          exact g_lreturn rfl dX4_convert_55
      · refine g_lload_n 2 2 dX4_convert_39 rfl rfl ?_
        refine g_l2i dX4_convert_40 ?_
        refine g_i2l dX4_convert_41 ?_
        exact g_lreturn rfl dX4_convert_42
    · refine g_aload_n 0 0 dX4_convert_20 rfl rfl ?_
      refine g_iload_n 1 1 dX4_convert_21 rfl rfl ?_
      refine g_sipush (v := 168) dX4_convert_22 (by decide) ?_
      refine g_isub dX4_convert_25 ?_
      refine g_lload_n 2 2 dX4_convert_26 rfl rfl ?_
      refine g_iconst (v := 0) dX4_convert_27 (by decide) ?_
      refine g_callV (fc := fun sς => Num_towards sς x0 (x1 - (168 : Int32)) x2 (0 : Int32)) (ci := 4) (as := [iv (x1 - (168 : Int32)), jv x2, iv (0 : Int32)]) rfl rfl rfl q2650 qs173 mdX4_54 (ctX4_towards x0 (x1 - (168 : Int32)) x2 (0 : Int32)) rfl (Nat.le_of_ble_eq_true rfl) (Nat.le_of_ble_eq_true rfl) (Nat.le_of_ble_eq_true rfl) pu_J dX4_convert_28 (fun r8 σ7 => ?_)
      exact g_lreturn rfl dX4_convert_31
  · refine g_lload_n 2 2 dX4_convert_7 rfl rfl ?_
    refine g_ldc2 q2556 dX4_convert_8 ?_
    refine g_land dX4_convert_11 ?_
    exact g_lreturn rfl dX4_convert_12
theorem V.dX4_apply_0 : decode cX4_apply 0 = .ok (.aload_n 0, 1) := by decide +kernel
theorem V.dX4_apply_1 : decode cX4_apply 1 = .ok (.iconst 0, 1) := by decide +kernel
theorem V.dX4_apply_2 : decode cX4_apply 2 = .ok (.putfield 21, 3) := by decide +kernel
theorem V.dX4_apply_5 : decode cX4_apply 5 = .ok (.iload_n 1, 1) := by decide +kernel
theorem V.dX4_apply_6 : decode cX4_apply 6 = .ok (.bipush 91, 2) := by decide +kernel
theorem V.dX4_apply_8 : decode cX4_apply 8 = .ok (.if_icmp .ge 38, 3) := by decide +kernel
theorem V.dX4_apply_11 : decode cX4_apply 11 = .ok (.iload_n 1, 1) := by decide +kernel
theorem V.dX4_apply_12 : decode cX4_apply 12 = .ok (.bipush 80, 2) := by decide +kernel
theorem V.dX4_apply_14 : decode cX4_apply 14 = .ok (.if_icmp .ge 10, 3) := by decide +kernel
theorem V.dX4_apply_17 : decode cX4_apply 17 = .ok (.iload_n 1, 1) := by decide +kernel
theorem V.dX4_apply_18 : decode cX4_apply 18 = .ok (.bipush 69, 2) := by decide +kernel
theorem V.dX4_apply_20 : decode cX4_apply 20 = .ok (.isub, 1) := by decide +kernel
theorem V.dX4_apply_21 : decode cX4_apply 21 = .ok (.goto 7, 3) := by decide +kernel
theorem V.dX4_apply_24 : decode cX4_apply 24 = .ok (.iload_n 1, 1) := by decide +kernel
theorem V.dX4_apply_25 : decode cX4_apply 25 = .ok (.bipush 80, 2) := by decide +kernel
theorem V.dX4_apply_27 : decode cX4_apply 27 = .ok (.isub, 1) := by decide +kernel
theorem V.dX4_apply_28 : decode cX4_apply 28 = .ok (.iload_n 1, 1) := by decide +kernel
theorem V.dX4_apply_29 : decode cX4_apply 29 = .ok (.bipush 80, 2) := by decide +kernel
theorem V.dX4_apply_31 : decode cX4_apply 31 = .ok (.if_icmp .ge 7, 3) := by decide +kernel
theorem V.dX4_apply_34 : decode cX4_apply 34 = .ok (.iconst 1, 1) := by decide +kernel
theorem V.dX4_apply_35 : decode cX4_apply 35 = .ok (.goto 4, 3) := by decide +kernel
theorem V.dX4_apply_38 : decode cX4_apply 38 = .ok (.iconst 0, 1) := by decide +kernel
theorem V.dX4_apply_39 : decode cX4_apply 39 = .ok (.lload_n 2, 1) := by decide +kernel
theorem V.dX4_apply_40 : decode cX4_apply 40 = .ok (.lload 4, 2) := by decide +kernel
theorem V.dX4_apply_42 : decode cX4_apply 42 = .ok (.invokestatic 25, 3) := by decide +kernel
theorem V.dX4_apply_45 : decode cX4_apply 45 = .ok (.lreturn, 1) := by decide +kernel
theorem V.dX4_apply_46 : decode cX4_apply 46 = .ok (.iload_n 1, 1) := by decide +kernel
theorem V.dX4_apply_47 : decode cX4_apply 47 = .ok (.bipush 103, 2) := by decide +kernel
theorem V.dX4_apply_49 : decode cX4_apply 49 = .ok (.if_icmp .ge 34, 3) := by decide +kernel
theorem V.dX4_apply_52 : decode cX4_apply 52 = .ok (.aload_n 0, 1) := by decide +kernel
theorem V.dX4_apply_53 : decode cX4_apply 53 = .ok (.aload_n 0, 1) := by decide +kernel
theorem V.dX4_apply_54 : decode cX4_apply 54 = .ok (.iload_n 1, 1) := by decide +kernel
theorem V.dX4_apply_55 : decode cX4_apply 55 = .ok (.invokevirtual 29, 3) := by decide +kernel
theorem V.dX4_apply_58 : decode cX4_apply 58 = .ok (.invokevirtual 33, 3) := by decide +kernel
theorem V.dX4_apply_61 : decode cX4_apply 61 = .ok (.iload_n 1, 1) := by decide +kernel
theorem V.dX4_apply_62 : decode cX4_apply 62 = .ok (.bipush 91, 2) := by decide +kernel
theorem V.dX4_apply_64 : decode cX4_apply 64 = .ok (.isub, 1) := by decide +kernel
theorem V.dX4_apply_65 : decode cX4_apply 65 = .ok (.bipush 6, 2) := by decide +kernel
theorem V.dX4_apply_67 : decode cX4_apply 67 = .ok (.irem, 1) := by decide +kernel
theorem V.dX4_apply_68 : decode cX4_apply 68 = .ok (.lload_n 2, 1) := by decide +kernel
theorem V.dX4_apply_69 : decode cX4_apply 69 = .ok (.lload 4, 2) := by decide +kernel
theorem V.dX4_apply_71 : decode cX4_apply 71 = .ok (.invokestatic 37, 3) := by decide +kernel
theorem V.dX4_apply_74 : decode cX4_apply 74 = .ok (.ifCond .eq 7, 3) := by decide +kernel
theorem V.dX4_apply_77 : decode cX4_apply 77 = .ok (.lconst 1, 1) := by decide +kernel
theorem V.dX4_apply_78 : decode cX4_apply 78 = .ok (.goto 4, 3) := by decide +kernel
theorem V.dX4_apply_81 : decode cX4_apply 81 = .ok (.lconst 0, 1) := by decide +kernel
theorem V.dX4_apply_82 : decode cX4_apply 82 = .ok (.lreturn, 1) := by decide +kernel
theorem V.dX4_apply_83 : decode cX4_apply 83 = .ok (.iload_n 1, 1) := by decide +kernel
theorem V.dX4_apply_84 : decode cX4_apply 84 = .ok (.bipush 121, 2) := by decide +kernel
theorem V.dX4_apply_86 : decode cX4_apply 86 = .ok (.if_icmp .ge 19, 3) := by decide +kernel
theorem V.dX4_apply_89 : decode cX4_apply 89 = .ok (.aload_n 0, 1) := by decide +kernel
theorem V.dX4_apply_90 : decode cX4_apply 90 = .ok (.iload_n 1, 1) := by decide +kernel
theorem V.dX4_apply_91 : decode cX4_apply 91 = .ok (.bipush 103, 2) := by decide +kernel
theorem V.dX4_apply_93 : decode cX4_apply 93 = .ok (.isub, 1) := by decide +kernel
theorem V.dX4_apply_94 : decode cX4_apply 94 = .ok (.lload_n 2, 1) := by decide +kernel
theorem V.dX4_apply_95 : decode cX4_apply 95 = .ok (.lload 4, 2) := by decide +kernel
theorem V.dX4_apply_97 : decode cX4_apply 97 = .ok (.invokevirtual 41, 3) := by decide +kernel
theorem V.dX4_apply_100 : decode cX4_apply 100 = .ok (.ldc2_w 45, 3) := by decide +kernel
theorem V.dX4_apply_103 : decode cX4_apply 103 = .ok (.land, 1) := by decide +kernel
theorem V.dX4_apply_104 : decode cX4_apply 104 = .ok (.lreturn, 1) := by decide +kernel
theorem V.dX4_apply_105 : decode cX4_apply 105 = .ok (.iload_n 1, 1) := by decide +kernel
theorem V.dX4_apply_106 : decode cX4_apply 106 = .ok (.sipush 139, 3) := by decide +kernel
theorem V.dX4_apply_109 : decode cX4_apply 109 = .ok (.if_icmp .ge 15, 3) := by decide +kernel
theorem V.dX4_apply_112 : decode cX4_apply 112 = .ok (.aload_n 0, 1) := by decide +kernel
theorem V.dX4_apply_113 : decode cX4_apply 113 = .ok (.iload_n 1, 1) := by decide +kernel
theorem V.dX4_apply_114 : decode cX4_apply 114 = .ok (.bipush 121, 2) := by decide +kernel
theorem V.dX4_apply_116 : decode cX4_apply 116 = .ok (.isub, 1) := by decide +kernel
theorem V.dX4_apply_117 : decode cX4_apply 117 = .ok (.lload_n 2, 1) := by decide +kernel
theorem V.dX4_apply_118 : decode cX4_apply 118 = .ok (.lload 4, 2) := by decide +kernel
theorem V.dX4_apply_120 : decode cX4_apply 120 = .ok (.invokevirtual 47, 3) := by decide +kernel
theorem V.dX4_apply_123 : decode cX4_apply 123 = .ok (.lreturn, 1) := by decide +kernel
theorem V.dX4_apply_124 : decode cX4_apply 124 = .ok (.iload_n 1, 1) := by decide +kernel
theorem V.dX4_apply_125 : decode cX4_apply 125 = .ok (.sipush 167, 3) := by decide +kernel
theorem V.dX4_apply_128 : decode cX4_apply 128 = .ok (.if_icmp .ge 28, 3) := by decide +kernel
theorem V.dX4_apply_131 : decode cX4_apply 131 = .ok (.aload_n 0, 1) := by decide +kernel
theorem V.dX4_apply_132 : decode cX4_apply 132 = .ok (.aload_n 0, 1) := by decide +kernel
theorem V.dX4_apply_133 : decode cX4_apply 133 = .ok (.aload_n 0, 1) := by decide +kernel
theorem V.dX4_apply_134 : decode cX4_apply 134 = .ok (.iload_n 1, 1) := by decide +kernel
theorem V.dX4_apply_135 : decode cX4_apply 135 = .ok (.invokevirtual 29, 3) := by decide +kernel
theorem V.dX4_apply_138 : decode cX4_apply 138 = .ok (.invokevirtual 33, 3) := by decide +kernel
theorem V.dX4_apply_141 : decode cX4_apply 141 = .ok (.iload_n 1, 1) := by decide +kernel
theorem V.dX4_apply_142 : decode cX4_apply 142 = .ok (.sipush 139, 3) := by decide +kernel
theorem V.dX4_apply_145 : decode cX4_apply 145 = .ok (.isub, 1) := by decide +kernel
theorem V.dX4_apply_146 : decode cX4_apply 146 = .ok (.bipush 14, 2) := by decide +kernel
theorem V.dX4_apply_148 : decode cX4_apply 148 = .ok (.irem, 1) := by decide +kernel
theorem V.dX4_apply_149 : decode cX4_apply 149 = .ok (.lload_n 2, 1) := by decide +kernel
theorem V.dX4_apply_150 : decode cX4_apply 150 = .ok (.lload 4, 2) := by decide +kernel
theorem V.dX4_apply_152 : decode cX4_apply 152 = .ok (.invokevirtual 50, 3) := by decide +kernel
theorem V.dX4_apply_155 : decode cX4_apply 155 = .ok (.lreturn, 1) := by decide +kernel
theorem V.dX4_apply_156 : decode cX4_apply 156 = .ok (.iload_n 1, 1) := by decide +kernel
theorem V.dX4_apply_157 : decode cX4_apply 157 = .ok (.sipush 200, 3) := by decide +kernel
theorem V.dX4_apply_160 : decode cX4_apply 160 = .ok (.if_icmp .lt 15, 3) := by decide +kernel
theorem V.dX4_apply_163 : decode cX4_apply 163 = .ok (.aload_n 0, 1) := by decide +kernel
theorem V.dX4_apply_164 : decode cX4_apply 164 = .ok (.iload_n 1, 1) := by decide +kernel
theorem V.dX4_apply_165 : decode cX4_apply 165 = .ok (.sipush 200, 3) := by decide +kernel
theorem V.dX4_apply_168 : decode cX4_apply 168 = .ok (.isub, 1) := by decide +kernel
theorem V.dX4_apply_169 : decode cX4_apply 169 = .ok (.lload_n 2, 1) := by decide +kernel
theorem V.dX4_apply_170 : decode cX4_apply 170 = .ok (.iconst 1, 1) := by decide +kernel
theorem V.dX4_apply_171 : decode cX4_apply 171 = .ok (.invokevirtual 54, 3) := by decide +kernel
theorem V.dX4_apply_174 : decode cX4_apply 174 = .ok (.lreturn, 1) := by decide +kernel
theorem V.dX4_apply_175 : decode cX4_apply 175 = .ok (.iload_n 1, 1) := by decide +kernel
theorem V.dX4_apply_176 : decode cX4_apply 176 = .ok (.sipush 192, 3) := by decide +kernel
theorem V.dX4_apply_179 : decode cX4_apply 179 = .ok (.if_icmp .lt 9, 3) := by decide +kernel
theorem V.dX4_apply_182 : decode cX4_apply 182 = .ok (.iload_n 1, 1) := by decide +kernel
theorem V.dX4_apply_183 : decode cX4_apply 183 = .ok (.lload_n 2, 1) := by decide +kernel
theorem V.dX4_apply_184 : decode cX4_apply 184 = .ok (.invokestatic 58, 3) := by decide +kernel
theorem V.dX4_apply_187 : decode cX4_apply 187 = .ok (.lreturn, 1) := by decide +kernel
theorem V.dX4_apply_188 : decode cX4_apply 188 = .ok (.aload_n 0, 1) := by decide +kernel
theorem V.dX4_apply_189 : decode cX4_apply 189 = .ok (.iload_n 1, 1) := by decide +kernel
theorem V.dX4_apply_190 : decode cX4_apply 190 = .ok (.lload_n 2, 1) := by decide +kernel
theorem V.dX4_apply_191 : decode cX4_apply 191 = .ok (.invokevirtual 62, 3) := by decide +kernel
theorem V.dX4_apply_194 : decode cX4_apply 194 = .ok (.lreturn, 1) := by decide +kernel
theorem V.mdX4_62 : MD RX4 62 yX4_convert cX4_convert 5 (some .long) 2 := ⟨Or.inl q2656, q364, q2659, by decide, by decide, by decide +kernel⟩
theorem V.mdX4_58 : MD RX4 58 yX4_extend cX4_extend 6 (some .long) 2 := ⟨Or.inl q2653, q364, q2655, by decide, by decide, by decide +kernel⟩
theorem V.mdX4_29 : MD RX4 29 yX4_operandType cX4_operandType 2 (some .int) 1 := ⟨Or.inl q2524, q364, q2527, by decide, by decide, by decide +kernel⟩
theorem V.mdX4_33 : MD RX4 33 yX4_format cX4_format 2 (some (.object "ModuleEngine$Numbers$Format")) 1 := ⟨Or.inl q2528, q364, q2531, by decide, by decide, by decide +kernel⟩
theorem V.mdX4_50 : MD RX4 50 yX4_floating cX4_floating 13 (some .long) 4 := ⟨Or.inl q2580, q364, q2583, by decide, by decide, by decide +kernel⟩
theorem V.mdX4_47 : MD RX4 47 yX4_wholeWide cX4_wholeWide 7 (some .long) 3 := ⟨Or.inl q2575, q364, q2578, by decide, by decide, by decide +kernel⟩
theorem V.mdX4_41 : MD RX4 41 yX4_whole cX4_whole 9 (some .long) 3 := ⟨Or.inl q2552, q364, q2555, by decide, by decide, by decide +kernel⟩
theorem V.mdX4_25 : MD RX4 25 yX4_compare cX4_compare 12 (some .long) 4 := ⟨Or.inl q2517, q364, q2519, by decide, by decide, by decide +kernel⟩
/-! ModuleEngine$Numbers.apply(IJJ)J -/
def V.Num_apply_p39  (σ : HS) (x2 : Int64) (x4 : Int64) (s0 : Int32) (s1 : Int32) : Option (Int64 × HS) :=
  cl (Num_compare σ s1 s0 x2 x4) fun r2 σ1 =>
  some (r2, σ1)
theorem V.gX4_apply_p39 {X : CX}  (σ : HS) (x2 : Int64) (x4 : Int64) (s0 : Int32) (s1 : Int32) : G X RX4 "apply" cX4_apply 6 (some .long) 6 166 enJ 39 [(2, jv x2), (4, jv x4)] [iv s0, iv s1] σ (Num_apply_p39 σ x2 x4 s0 s1) := by
  unfold Num_apply_p39
  refine g_lload_n 2 0 dX4_apply_39 rfl rfl ?_
  refine g_lload 1 dX4_apply_40 rfl ?_
  refine g_callS (fc := fun sς => Num_compare sς s1 s0 x2 x4) (as := [iv s1, iv s0, jv x2, jv x4]) q2518 mdX4_25 (ctX4_compare s1 s0 x2 x4) rfl (Nat.le_of_ble_eq_true rfl) (Nat.le_of_ble_eq_true rfl) (Nat.le_of_ble_eq_true rfl) pu_J dX4_apply_42 (fun r2 σ1 => ?_)
  exact g_lreturn rfl dX4_apply_45
def V.Num_apply_p28  (σ : HS) (x1 : Int32) (x2 : Int64) (x4 : Int64) (s0 : Int32) : Option (Int64 × HS) :=
  if (80 : Int32) ≤ x1 then (
    Num_apply_p39 σ x2 x4 (0 : Int32) s0)
  else (
    Num_apply_p39 σ x2 x4 (1 : Int32) s0)
theorem V.gX4_apply_p28 {X : CX}  (σ : HS) (x1 : Int32) (x2 : Int64) (x4 : Int64) (s0 : Int32) : G X RX4 "apply" cX4_apply 6 (some .long) 6 166 enJ 28 [(1, iv x1), (2, jv x2), (4, jv x4)] [iv s0] σ (Num_apply_p28 σ x1 x2 x4 s0) := by
  unfold Num_apply_p28
  refine g_iload_n 1 0 dX4_apply_28 rfl rfl ?_
  refine g_bipush (v := 80) dX4_apply_29 (by decide) ?_
  refine g_icmp_ge 38 dX4_apply_31 (by decide) ?_ ?_
  · refine g_iconst (v := 0) dX4_apply_38 (by decide) ?_
    refine G.sub [1, 2] rfl ?_
    exact gX4_apply_p39 _ _ _ _ _
  · refine g_iconst (v := 1) dX4_apply_34 (by decide) ?_
    refine g_goto 39 dX4_apply_35 (by decide) ?_
    refine G.sub [1, 2] rfl ?_
    exact gX4_apply_p39 _ _ _ _ _
def V.Num_apply (σ : HS) (x0 : Nat) (x1 : Int32) (x2 : Int64) (x4 : Int64) : Option (Int64 × HS) :=
  ck (tg σ x0 = 5) <| bn (sI σ x0 2 (0 : Int32)) fun σ1 =>
  if (91 : Int32) ≤ x1 then (
    if (103 : Int32) ≤ x1 then (
      if (121 : Int32) ≤ x1 then (
        if (139 : Int32) ≤ x1 then (
          if (167 : Int32) ≤ x1 then (
            if x1 < (200 : Int32) then (
              if x1 < (192 : Int32) then (
                ck (tg σ1 x0 = 5) <| cl (Num_convert σ1 x0 x1 x2) fun r3 σ2 =>
                some (r3, σ2))
              else (
                cl (Num_extend σ1 x1 x2) fun r5 σ4 =>
                some (r5, σ4)))
            else (
              ck (tg σ1 x0 = 5) <| cl (Num_towards σ1 x0 (x1 - (200 : Int32)) x2 (1 : Int32)) fun r7 σ6 =>
              some (r7, σ6)))
          else (
            ck (tg σ1 x0 = 5) <| cl (Num_operandType σ1 x0 x1) fun r9 σ8 =>
            ck (tg σ8 x0 = 5) <| cl (Num_format σ8 x0 r9) fun r11 σ10 =>
            ck (¬ (14 : Int32) = 0) <|
            ck (tg σ10 x0 = 5) <| cl (Num_floating σ10 x0 r11 ((x1 - (139 : Int32)) - (x1 - (139 : Int32)) / (14 : Int32) * (14 : Int32)) x2 x4) fun r13 σ12 =>
            some (r13, σ12)))
        else (
          ck (tg σ1 x0 = 5) <| cl (Num_wholeWide σ1 x0 (x1 - (121 : Int32)) x2 x4) fun r15 σ14 =>
          some (r15, σ14)))
      else (
        ck (tg σ1 x0 = 5) <| cl (Num_whole σ1 x0 (x1 - (103 : Int32)) x2 x4) fun r17 σ16 =>
        some (r17 &&& (4294967295 : Int64), σ16)))
    else (
      ck (tg σ1 x0 = 5) <| cl (Num_operandType σ1 x0 x1) fun r19 σ18 =>
      ck (tg σ18 x0 = 5) <| cl (Num_format σ18 x0 r19) fun r21 σ20 =>
      ck (¬ (6 : Int32) = 0) <|
      cl (Num_compareFloating σ20 r21 ((x1 - (91 : Int32)) - (x1 - (91 : Int32)) / (6 : Int32) * (6 : Int32)) x2 x4) fun r23 σ22 =>
      if r23 = 0 then (
        some ((0 : Int64), σ22))
      else (
        some ((1 : Int64), σ22))))
  else (
    if (80 : Int32) ≤ x1 then (
      Num_apply_p28 σ1 x1 x2 x4 (x1 - (80 : Int32)))
    else (
      Num_apply_p28 σ1 x1 x2 x4 (x1 - (69 : Int32))))
theorem V.ctX4_apply (x0 : Nat) (x1 : Int32) (x2 : Int64) (x4 : Int64) : Ct yX4_apply  cX4_apply 6 (some .long) 6 166 eJ [av x0, iv x1, jv x2, jv x4] (fun σ => Num_apply σ x0 x1 x2 x4) := by
  refine Ct.of (own := RX4) (nm := "apply") (desc := "(IJJ)J") rfl (by decide) (Nat.le_of_ble_eq_true rfl) (by decide) (fun X σ => ?_)
  show G X RX4 "apply" cX4_apply 6 (some .long) 6 166 enJ 0 [(0, av x0), (1, iv x1), (2, jv x2), (4, jv x4)] [] σ (Num_apply σ x0 x1 x2 x4)
  unfold Num_apply
  refine g_aload_n 0 0 dX4_apply_0 rfl rfl ?_
  refine g_iconst (v := 0) dX4_apply_1 (by decide) ?_
  refine g_putI fpX4_21 dX4_apply_2 (fun σ1 => ?_)
  refine g_iload_n 1 1 dX4_apply_5 rfl rfl ?_
  refine g_bipush (v := 91) dX4_apply_6 (by decide) ?_
  refine g_icmp_ge 46 dX4_apply_8 (by decide) ?_ ?_
  · refine g_iload_n 1 1 dX4_apply_46 rfl rfl ?_
    refine g_bipush (v := 103) dX4_apply_47 (by decide) ?_
    refine g_icmp_ge 83 dX4_apply_49 (by decide) ?_ ?_
    · refine g_iload_n 1 1 dX4_apply_83 rfl rfl ?_
      refine g_bipush (v := 121) dX4_apply_84 (by decide) ?_
      refine g_icmp_ge 105 dX4_apply_86 (by decide) ?_ ?_
      · refine g_iload_n 1 1 dX4_apply_105 rfl rfl ?_
        refine g_sipush (v := 139) dX4_apply_106 (by decide) ?_
        refine g_icmp_ge 124 dX4_apply_109 (by decide) ?_ ?_
        · refine g_iload_n 1 1 dX4_apply_124 rfl rfl ?_
          refine g_sipush (v := 167) dX4_apply_125 (by decide) ?_
          refine g_icmp_ge 156 dX4_apply_128 (by decide) ?_ ?_
          · refine g_iload_n 1 1 dX4_apply_156 rfl rfl ?_
            refine g_sipush (v := 200) dX4_apply_157 (by decide) ?_
            refine g_icmp_lt 175 dX4_apply_160 (by decide) ?_ ?_
            · refine g_iload_n 1 1 dX4_apply_175 rfl rfl ?_
              refine g_sipush (v := 192) dX4_apply_176 (by decide) ?_
              refine g_icmp_lt 188 dX4_apply_179 (by decide) ?_ ?_
              · refine g_aload_n 0 0 dX4_apply_188 rfl rfl ?_
                refine g_iload_n 1 1 dX4_apply_189 rfl rfl ?_
                refine g_lload_n 2 2 dX4_apply_190 rfl rfl ?_
                refine g_callV (fc := fun sς => Num_convert sς x0 x1 x2) (ci := 4) (as := [iv x1, jv x2]) rfl rfl rfl q2658 qs174 mdX4_62 (ctX4_convert x0 x1 x2) rfl (Nat.le_of_ble_eq_true rfl) (Nat.le_of_ble_eq_true rfl) (Nat.le_of_ble_eq_true rfl) pu_J dX4_apply_191 (fun r3 σ2 => ?_)
                exact g_lreturn rfl dX4_apply_194
              · refine g_iload_n 1 1 dX4_apply_182 rfl rfl ?_
                refine g_lload_n 2 2 dX4_apply_183 rfl rfl ?_
                refine g_callS (fc := fun sς => Num_extend sς x1 x2) (as := [iv x1, jv x2]) q2654 mdX4_58 (ctX4_extend x1 x2) rfl (Nat.le_of_ble_eq_true rfl) (Nat.le_of_ble_eq_true rfl) (Nat.le_of_ble_eq_true rfl) pu_J dX4_apply_184 (fun r5 σ4 => ?_)
                exact g_lreturn rfl dX4_apply_187
            · refine g_aload_n 0 0 dX4_apply_163 rfl rfl ?_
              refine g_iload_n 1 1 dX4_apply_164 rfl rfl ?_
              refine g_sipush (v := 200) dX4_apply_165 (by decide) ?_
              refine g_isub dX4_apply_168 ?_
              refine g_lload_n 2 2 dX4_apply_169 rfl rfl ?_
              refine g_iconst (v := 1) dX4_apply_170 (by decide) ?_
              refine g_callV (fc := fun sς => Num_towards sς x0 (x1 - (200 : Int32)) x2 (1 : Int32)) (ci := 4) (as := [iv (x1 - (200 : Int32)), jv x2, iv (1 : Int32)]) rfl rfl rfl q2650 qs173 mdX4_54 (ctX4_towards x0 (x1 - (200 : Int32)) x2 (1 : Int32)) rfl (Nat.le_of_ble_eq_true rfl) (Nat.le_of_ble_eq_true rfl) (Nat.le_of_ble_eq_true rfl) pu_J dX4_apply_171 (fun r7 σ6 => ?_)
              exact g_lreturn rfl dX4_apply_174
          · refine g_aload_n 0 0 dX4_apply_131 rfl rfl ?_
            refine g_aload_n 0 0 dX4_apply_132 rfl rfl ?_
            refine g_aload_n 0 0 dX4_apply_133 rfl rfl ?_
            refine g_iload_n 1 1 dX4_apply_134 rfl rfl ?_
            refine g_callV (fc := fun sς => Num_operandType sς x0 x1) (ci := 4) (as := [iv x1]) rfl rfl rfl q2525 q2526 mdX4_29 (ctX4_operandType x0 x1) rfl (Nat.le_of_ble_eq_true rfl) (Nat.le_of_ble_eq_true rfl) (Nat.le_of_ble_eq_true rfl) pu_I dX4_apply_135 (fun r9 σ8 => ?_)
            refine g_callV (fc := fun sς => Num_format sς x0 r9) (ci := 4) (as := [iv r9]) rfl rfl rfl q2530 qs166 mdX4_33 (ctX4_format x0 r9) rfl (Nat.le_of_ble_eq_true rfl) (Nat.le_of_ble_eq_true rfl) (Nat.le_of_ble_eq_true rfl) pu_R dX4_apply_138 (fun r11 σ10 => ?_)
            refine g_iload_n 1 1 dX4_apply_141 rfl rfl ?_
            refine g_sipush (v := 139) dX4_apply_142 (by decide) ?_
            refine g_isub dX4_apply_145 ?_
            refine g_bipush (v := 14) dX4_apply_146 (by decide) ?_
            refine g_irem dX4_apply_148 ?_
            refine g_lload_n 2 2 dX4_apply_149 rfl rfl ?_
            refine g_lload 3 dX4_apply_150 rfl ?_
            refine g_callV (fc := fun sς => Num_floating sς x0 r11 ((x1 - (139 : Int32)) - (x1 - (139 : Int32)) / (14 : Int32) * (14 : Int32)) x2 x4) (ci := 4) (as := [av r11, iv ((x1 - (139 : Int32)) - (x1 - (139 : Int32)) / (14 : Int32) * (14 : Int32)), jv x2, jv x4]) rfl rfl rfl q2582 qs172 mdX4_50 (ctX4_floating x0 r11 ((x1 - (139 : Int32)) - (x1 - (139 : Int32)) / (14 : Int32) * (14 : Int32)) x2 x4) rfl (Nat.le_of_ble_eq_true rfl) (Nat.le_of_ble_eq_true rfl) (Nat.le_of_ble_eq_true rfl) pu_J dX4_apply_152 (fun r13 σ12 => ?_)
            exact g_lreturn rfl dX4_apply_155
        · refine g_aload_n 0 0 dX4_apply_112 rfl rfl ?_
          refine g_iload_n 1 1 dX4_apply_113 rfl rfl ?_
          refine g_bipush (v := 121) dX4_apply_114 (by decide) ?_
          refine g_isub dX4_apply_116 ?_
          refine g_lload_n 2 2 dX4_apply_117 rfl rfl ?_
          refine g_lload 3 dX4_apply_118 rfl ?_
          refine g_callV (fc := fun sς => Num_wholeWide sς x0 (x1 - (121 : Int32)) x2 x4) (ci := 4) (as := [iv (x1 - (121 : Int32)), jv x2, jv x4]) rfl rfl rfl q2577 qs171 mdX4_47 (ctX4_wholeWide x0 (x1 - (121 : Int32)) x2 x4) rfl (Nat.le_of_ble_eq_true rfl) (Nat.le_of_ble_eq_true rfl) (Nat.le_of_ble_eq_true rfl) pu_J dX4_apply_120 (fun r15 σ14 => ?_)
          exact g_lreturn rfl dX4_apply_123
      · refine g_aload_n 0 0 dX4_apply_89 rfl rfl ?_
        refine g_iload_n 1 1 dX4_apply_90 rfl rfl ?_
        refine g_bipush (v := 103) dX4_apply_91 (by decide) ?_
        refine g_isub dX4_apply_93 ?_
        refine g_lload_n 2 2 dX4_apply_94 rfl rfl ?_
        refine g_lload 3 dX4_apply_95 rfl ?_
        refine g_callV (fc := fun sς => Num_whole sς x0 (x1 - (103 : Int32)) x2 x4) (ci := 4) (as := [iv (x1 - (103 : Int32)), jv x2, jv x4]) rfl rfl rfl q2554 qs167 mdX4_41 (ctX4_whole x0 (x1 - (103 : Int32)) x2 x4) rfl (Nat.le_of_ble_eq_true rfl) (Nat.le_of_ble_eq_true rfl) (Nat.le_of_ble_eq_true rfl) pu_J dX4_apply_97 (fun r17 σ16 => ?_)
        refine g_ldc2 q2556 dX4_apply_100 ?_
        refine g_land dX4_apply_103 ?_
        exact g_lreturn rfl dX4_apply_104
    · refine g_aload_n 0 0 dX4_apply_52 rfl rfl ?_
      refine g_aload_n 0 0 dX4_apply_53 rfl rfl ?_
      refine g_iload_n 1 1 dX4_apply_54 rfl rfl ?_
      refine g_callV (fc := fun sς => Num_operandType sς x0 x1) (ci := 4) (as := [iv x1]) rfl rfl rfl q2525 q2526 mdX4_29 (ctX4_operandType x0 x1) rfl (Nat.le_of_ble_eq_true rfl) (Nat.le_of_ble_eq_true rfl) (Nat.le_of_ble_eq_true rfl) pu_I dX4_apply_55 (fun r19 σ18 => ?_)
      refine g_callV (fc := fun sς => Num_format sς x0 r19) (ci := 4) (as := [iv r19]) rfl rfl rfl q2530 qs166 mdX4_33 (ctX4_format x0 r19) rfl (Nat.le_of_ble_eq_true rfl) (Nat.le_of_ble_eq_true rfl) (Nat.le_of_ble_eq_true rfl) pu_R dX4_apply_58 (fun r21 σ20 => ?_)
      refine g_iload_n 1 1 dX4_apply_61 rfl rfl ?_
      refine g_bipush (v := 91) dX4_apply_62 (by decide) ?_
      refine g_isub dX4_apply_64 ?_
      refine g_bipush (v := 6) dX4_apply_65 (by decide) ?_
      refine g_irem dX4_apply_67 ?_
      refine g_lload_n 2 2 dX4_apply_68 rfl rfl ?_
      refine g_lload 3 dX4_apply_69 rfl ?_
      refine g_callS (fc := fun sς => Num_compareFloating sς r21 ((x1 - (91 : Int32)) - (x1 - (91 : Int32)) / (6 : Int32) * (6 : Int32)) x2 x4) (as := [av r21, iv ((x1 - (91 : Int32)) - (x1 - (91 : Int32)) / (6 : Int32) * (6 : Int32)), jv x2, jv x4]) q2533 mdX4_37 (ctX4_compareFloating r21 ((x1 - (91 : Int32)) - (x1 - (91 : Int32)) / (6 : Int32) * (6 : Int32)) x2 x4) rfl (Nat.le_of_ble_eq_true rfl) (Nat.le_of_ble_eq_true rfl) (Nat.le_of_ble_eq_true rfl) pu_I dX4_apply_71 (fun r23 σ22 => ?_)
      refine g_if_eq 81 dX4_apply_74 (by decide) ?_ ?_
      · refine g_lconst (v := 0) dX4_apply_81 (by decide) ?_
        exact g_lreturn rfl dX4_apply_82
      · refine g_lconst (v := 1) dX4_apply_77 (by decide) ?_
        refine g_goto 82 dX4_apply_78 (by decide) ?_
        exact g_lreturn rfl dX4_apply_82
  · refine g_iload_n 1 1 dX4_apply_11 rfl rfl ?_
    refine g_bipush (v := 80) dX4_apply_12 (by decide) ?_
    refine g_icmp_ge 24 dX4_apply_14 (by decide) ?_ ?_
    · refine g_iload_n 1 1 dX4_apply_24 rfl rfl ?_
      refine g_bipush (v := 80) dX4_apply_25 (by decide) ?_
      refine g_isub dX4_apply_27 ?_
      refine G.sub [1, 2, 3] rfl ?_
      exact gX4_apply_p28 _ _ _ _ _
    · refine g_iload_n 1 1 dX4_apply_17 rfl rfl ?_
      refine g_bipush (v := 69) dX4_apply_18 (by decide) ?_
      refine g_isub dX4_apply_20 ?_
      refine g_goto 28 dX4_apply_21 (by decide) ?_
      refine G.sub [1, 2, 3] rfl ?_
      exact gX4_apply_p28 _ _ _ _ _
theorem V.dX4_trap_0 : decode cX4_trap 0 = .ok (.aload_n 0, 1) := by decide +kernel
theorem V.dX4_trap_1 : decode cX4_trap 1 = .ok (.getfield 21, 3) := by decide +kernel
theorem V.dX4_trap_4 : decode cX4_trap 4 = .ok (.ireturn, 1) := by decide +kernel
theorem V.fdX4_21 : FD RX4 21 4 2 0 := ⟨(RX4, TX4, 4), tyX4, rfl, rfl, in_X4, by decide, Or.inl q608, rfl⟩
/-! ModuleEngine$Numbers.trap()I -/
def V.Num_trap (σ : HS) (x0 : Nat) : Option (Int32 × HS) :=
  ck (tg σ x0 = 5) <|
  some (gI σ x0 2, σ)
theorem V.ctX4_trap (x0 : Nat) : Ct yX4_trap  cX4_trap 1 (some .int) 0 0 eI [av x0] (fun σ => Num_trap σ x0) := by
  refine Ct.of (own := RX4) (nm := "trap") (desc := "()I") rfl (by decide) (Nat.le_of_ble_eq_true rfl) (by decide) (fun X σ => ?_)
  show G X RX4 "trap" cX4_trap 1 (some .int) 0 0 enI 0 [(0, av x0)] [] σ (Num_trap σ x0)
  unfold Num_trap
  refine g_aload_n 0 0 dX4_trap_0 rfl rfl ?_
  refine g_getI fdX4_21 dX4_trap_1 ?_
  exact g_ireturn rfl dX4_trap_4
theorem V.dX10_init_0 : decode cX10_init 0 = .ok (.aload_n 0, 1) := by decide +kernel
theorem V.dX10_init_1 : decode cX10_init 1 = .ok (.invokespecial 1, 3) := by decide +kernel
theorem V.dX10_init_4 : decode cX10_init 4 = .ok (.aload_n 0, 1) := by decide +kernel
theorem V.dX10_init_5 : decode cX10_init 5 = .ok (.new 7, 3) := by decide +kernel
theorem V.dX10_init_8 : decode cX10_init 8 = .ok (.dup, 1) := by decide +kernel
theorem V.dX10_init_9 : decode cX10_init 9 = .ok (.invokespecial 9, 3) := by decide +kernel
theorem V.dX10_init_12 : decode cX10_init 12 = .ok (.putfield 10, 3) := by decide +kernel
theorem V.dX10_init_15 : decode cX10_init 15 = .ok (.aload_n 0, 1) := by decide +kernel
theorem V.dX10_init_16 : decode cX10_init 16 = .ok (.new 7, 3) := by decide +kernel
theorem V.dX10_init_19 : decode cX10_init 19 = .ok (.dup, 1) := by decide +kernel
theorem V.dX10_init_20 : decode cX10_init 20 = .ok (.invokespecial 9, 3) := by decide +kernel
theorem V.dX10_init_23 : decode cX10_init 23 = .ok (.putfield 16, 3) := by decide +kernel
theorem V.dX10_init_26 : decode cX10_init 26 = .ok (.aload_n 0, 1) := by decide +kernel
theorem V.dX10_init_27 : decode cX10_init 27 = .ok (.new 7, 3) := by decide +kernel
theorem V.dX10_init_30 : decode cX10_init 30 = .ok (.dup, 1) := by decide +kernel
theorem V.dX10_init_31 : decode cX10_init 31 = .ok (.invokespecial 9, 3) := by decide +kernel
theorem V.dX10_init_34 : decode cX10_init 34 = .ok (.putfield 19, 3) := by decide +kernel
theorem V.dX10_init_37 : decode cX10_init 37 = .ok (.aload_n 0, 1) := by decide +kernel
theorem V.dX10_init_38 : decode cX10_init 38 = .ok (.new 7, 3) := by decide +kernel
theorem V.dX10_init_41 : decode cX10_init 41 = .ok (.dup, 1) := by decide +kernel
theorem V.dX10_init_42 : decode cX10_init 42 = .ok (.invokespecial 9, 3) := by decide +kernel
theorem V.dX10_init_45 : decode cX10_init 45 = .ok (.putfield 22, 3) := by decide +kernel
theorem V.dX10_init_48 : decode cX10_init 48 = .ok (.aload_n 0, 1) := by decide +kernel
theorem V.dX10_init_49 : decode cX10_init 49 = .ok (.new 7, 3) := by decide +kernel
theorem V.dX10_init_52 : decode cX10_init 52 = .ok (.dup, 1) := by decide +kernel
theorem V.dX10_init_53 : decode cX10_init 53 = .ok (.invokespecial 9, 3) := by decide +kernel
theorem V.dX10_init_56 : decode cX10_init 56 = .ok (.putfield 25, 3) := by decide +kernel
theorem V.dX10_init_59 : decode cX10_init 59 = .ok (.aload_n 0, 1) := by decide +kernel
theorem V.dX10_init_60 : decode cX10_init 60 = .ok (.new 7, 3) := by decide +kernel
theorem V.dX10_init_63 : decode cX10_init 63 = .ok (.dup, 1) := by decide +kernel
theorem V.dX10_init_64 : decode cX10_init 64 = .ok (.invokespecial 9, 3) := by decide +kernel
theorem V.dX10_init_67 : decode cX10_init 67 = .ok (.putfield 28, 3) := by decide +kernel
theorem V.dX10_init_70 : decode cX10_init 70 = .ok (.return_, 1) := by decide +kernel
theorem V.ndX10_7 : ND RX10 7 3 2 := ⟨(RX3, TX3, 2), tyX3, rfl, rfl, in_X3, tyX3_ok, by decide, q769, q409, q363⟩
theorem V.mdX10_9 : MD RX10 9 yX3_init cX3_init 1 none 0 := ⟨Or.inr ⟨_, q770⟩, q363, q412, by decide, by decide, by decide +kernel⟩
theorem V.fpX10_10 : FP RX10 "<init>" 10 10 0 (.object "ModuleEngine$Row") := ⟨(RX10, TX10, 8), tyX10, rfl, rfl, in_X10, by decide, tyX10_ok, nmX10, rfl, Or.inr ⟨rfl, rfl, rfl, q771⟩⟩
theorem V.fpX10_16 : FP RX10 "<init>" 16 10 1 (.object "ModuleEngine$Row") := ⟨(RX10, TX10, 8), tyX10, rfl, rfl, in_X10, by decide, tyX10_ok, nmX10, rfl, Or.inr ⟨rfl, rfl, rfl, q774⟩⟩
theorem V.fpX10_19 : FP RX10 "<init>" 19 10 2 (.object "ModuleEngine$Row") := ⟨(RX10, TX10, 8), tyX10, rfl, rfl, in_X10, by decide, tyX10_ok, nmX10, rfl, Or.inr ⟨rfl, rfl, rfl, q777⟩⟩
theorem V.fpX10_22 : FP RX10 "<init>" 22 10 3 (.object "ModuleEngine$Row") := ⟨(RX10, TX10, 8), tyX10, rfl, rfl, in_X10, by decide, tyX10_ok, nmX10, rfl, Or.inr ⟨rfl, rfl, rfl, q780⟩⟩
theorem V.fpX10_25 : FP RX10 "<init>" 25 10 4 (.object "ModuleEngine$Row") := ⟨(RX10, TX10, 8), tyX10, rfl, rfl, in_X10, by decide, tyX10_ok, nmX10, rfl, Or.inr ⟨rfl, rfl, rfl, q783⟩⟩
theorem V.fpX10_28 : FP RX10 "<init>" 28 10 5 (.object "ModuleEngine$Row") := ⟨(RX10, TX10, 8), tyX10, rfl, rfl, in_X10, by decide, tyX10_ok, nmX10, rfl, Or.inr ⟨rfl, rfl, rfl, q786⟩⟩
/-! ModuleEngine$Spaces.<init>()V -/
def V.Spc_init (σ : HS) (x0 : Nat) : Option (Unit × HS) :=
  ck (¬ x0 = 0) <|
  newr σ fun a1 σ2 =>
  ck (tg σ2 x0 = 11) <| bn (sR σ2 x0 0 a1) fun σ3 =>
  newr σ3 fun a4 σ5 =>
  ck (tg σ5 x0 = 11) <| bn (sR σ5 x0 1 a4) fun σ6 =>
  newr σ6 fun a7 σ8 =>
  ck (tg σ8 x0 = 11) <| bn (sR σ8 x0 2 a7) fun σ9 =>
  newr σ9 fun a10 σ11 =>
  ck (tg σ11 x0 = 11) <| bn (sR σ11 x0 3 a10) fun σ12 =>
  newr σ12 fun a13 σ14 =>
  ck (tg σ14 x0 = 11) <| bn (sR σ14 x0 4 a13) fun σ15 =>
  newr σ15 fun a16 σ17 =>
  ck (tg σ17 x0 = 11) <| bn (sR σ17 x0 5 a16) fun σ18 =>
  some ((), σ18)
theorem V.ctX10_init (x0 : Nat) : Ct yX10_init  cX10_init 1 none 2 44 eV [av x0] (fun σ => Spc_init σ x0) := by
  refine Ct.of (own := RX10) (nm := "<init>") (desc := "()V") rfl (by decide) (Nat.le_of_ble_eq_true rfl) (by decide) (fun X σ => ?_)
  show G X RX10 "<init>" cX10_init 1 none 2 44 enV 0 [(0, av x0)] [] σ (Spc_init σ x0)
  unfold Spc_init
  refine g_aload_n 0 0 dX10_init_0 rfl rfl ?_
  refine g_objInit q768 (Nat.le_of_ble_eq_true rfl) (Nat.le_of_ble_eq_true rfl) dX10_init_1 ?_
  refine g_aload_n 0 0 dX10_init_4 rfl rfl ?_
  refine g_newr ndX10_7 q411 mdX10_9 (Nat.le_of_ble_eq_true rfl) (Nat.le_of_ble_eq_true rfl) (Nat.le_of_ble_eq_true rfl) dX10_init_5 dX10_init_8 dX10_init_9 (fun a1 σ2 => ?_)
  refine g_putR fpX10_10 rfl dX10_init_12 (fun σ3 => ?_)
  refine g_aload_n 0 0 dX10_init_15 rfl rfl ?_
  refine g_newr ndX10_7 q411 mdX10_9 (Nat.le_of_ble_eq_true rfl) (Nat.le_of_ble_eq_true rfl) (Nat.le_of_ble_eq_true rfl) dX10_init_16 dX10_init_19 dX10_init_20 (fun a4 σ5 => ?_)
  refine g_putR fpX10_16 rfl dX10_init_23 (fun σ6 => ?_)
  refine g_aload_n 0 0 dX10_init_26 rfl rfl ?_
  refine g_newr ndX10_7 q411 mdX10_9 (Nat.le_of_ble_eq_true rfl) (Nat.le_of_ble_eq_true rfl) (Nat.le_of_ble_eq_true rfl) dX10_init_27 dX10_init_30 dX10_init_31 (fun a7 σ8 => ?_)
  refine g_putR fpX10_19 rfl dX10_init_34 (fun σ9 => ?_)
  refine g_aload_n 0 0 dX10_init_37 rfl rfl ?_
  refine g_newr ndX10_7 q411 mdX10_9 (Nat.le_of_ble_eq_true rfl) (Nat.le_of_ble_eq_true rfl) (Nat.le_of_ble_eq_true rfl) dX10_init_38 dX10_init_41 dX10_init_42 (fun a10 σ11 => ?_)
  refine g_putR fpX10_22 rfl dX10_init_45 (fun σ12 => ?_)
  refine g_aload_n 0 0 dX10_init_48 rfl rfl ?_
  refine g_newr ndX10_7 q411 mdX10_9 (Nat.le_of_ble_eq_true rfl) (Nat.le_of_ble_eq_true rfl) (Nat.le_of_ble_eq_true rfl) dX10_init_49 dX10_init_52 dX10_init_53 (fun a13 σ14 => ?_)
  refine g_putR fpX10_25 rfl dX10_init_56 (fun σ15 => ?_)
  refine g_aload_n 0 0 dX10_init_59 rfl rfl ?_
  refine g_newr ndX10_7 q411 mdX10_9 (Nat.le_of_ble_eq_true rfl) (Nat.le_of_ble_eq_true rfl) (Nat.le_of_ble_eq_true rfl) dX10_init_60 dX10_init_63 dX10_init_64 (fun a16 σ17 => ?_)
  refine g_putR fpX10_28 rfl dX10_init_67 (fun σ18 => ?_)
  exact g_return rfl dX10_init_70
theorem V.dX6_init_0 : decode cX6_init 0 = .ok (.aload_n 0, 1) := by decide +kernel
theorem V.dX6_init_1 : decode cX6_init 1 = .ok (.invokespecial 1, 3) := by decide +kernel
theorem V.dX6_init_4 : decode cX6_init 4 = .ok (.aload_n 0, 1) := by decide +kernel
theorem V.dX6_init_5 : decode cX6_init 5 = .ok (.sipush 1024, 3) := by decide +kernel
theorem V.dX6_init_8 : decode cX6_init 8 = .ok (.newarray .int, 2) := by decide +kernel
theorem V.dX6_init_10 : decode cX6_init 10 = .ok (.putfield 7, 3) := by decide +kernel
theorem V.dX6_init_13 : decode cX6_init 13 = .ok (.aload_n 0, 1) := by decide +kernel
theorem V.dX6_init_14 : decode cX6_init 14 = .ok (.new 13, 3) := by decide +kernel
theorem V.dX6_init_17 : decode cX6_init 17 = .ok (.dup, 1) := by decide +kernel
theorem V.dX6_init_18 : decode cX6_init 18 = .ok (.invokespecial 15, 3) := by decide +kernel
theorem V.dX6_init_21 : decode cX6_init 21 = .ok (.putfield 16, 3) := by decide +kernel
theorem V.dX6_init_24 : decode cX6_init 24 = .ok (.aload_n 0, 1) := by decide +kernel
theorem V.dX6_init_25 : decode cX6_init 25 = .ok (.new 13, 3) := by decide +kernel
theorem V.dX6_init_28 : decode cX6_init 28 = .ok (.dup, 1) := by decide +kernel
theorem V.dX6_init_29 : decode cX6_init 29 = .ok (.invokespecial 15, 3) := by decide +kernel
theorem V.dX6_init_32 : decode cX6_init 32 = .ok (.putfield 20, 3) := by decide +kernel
theorem V.dX6_init_35 : decode cX6_init 35 = .ok (.aload_n 0, 1) := by decide +kernel
theorem V.dX6_init_36 : decode cX6_init 36 = .ok (.new 13, 3) := by decide +kernel
theorem V.dX6_init_39 : decode cX6_init 39 = .ok (.dup, 1) := by decide +kernel
theorem V.dX6_init_40 : decode cX6_init 40 = .ok (.invokespecial 15, 3) := by decide +kernel
theorem V.dX6_init_43 : decode cX6_init 43 = .ok (.putfield 23, 3) := by decide +kernel
theorem V.dX6_init_46 : decode cX6_init 46 = .ok (.aload_n 0, 1) := by decide +kernel
theorem V.dX6_init_47 : decode cX6_init 47 = .ok (.new 13, 3) := by decide +kernel
theorem V.dX6_init_50 : decode cX6_init 50 = .ok (.dup, 1) := by decide +kernel
theorem V.dX6_init_51 : decode cX6_init 51 = .ok (.invokespecial 15, 3) := by decide +kernel
theorem V.dX6_init_54 : decode cX6_init 54 = .ok (.putfield 26, 3) := by decide +kernel
theorem V.dX6_init_57 : decode cX6_init 57 = .ok (.aload_n 0, 1) := by decide +kernel
theorem V.dX6_init_58 : decode cX6_init 58 = .ok (.new 13, 3) := by decide +kernel
theorem V.dX6_init_61 : decode cX6_init 61 = .ok (.dup, 1) := by decide +kernel
theorem V.dX6_init_62 : decode cX6_init 62 = .ok (.invokespecial 15, 3) := by decide +kernel
theorem V.dX6_init_65 : decode cX6_init 65 = .ok (.putfield 29, 3) := by decide +kernel
theorem V.dX6_init_68 : decode cX6_init 68 = .ok (.aload_n 0, 1) := by decide +kernel
theorem V.dX6_init_69 : decode cX6_init 69 = .ok (.sipush 201, 3) := by decide +kernel
theorem V.dX6_init_72 : decode cX6_init 72 = .ok (.newarray .int, 2) := by decide +kernel
theorem V.dX6_init_74 : decode cX6_init 74 = .ok (.putfield 32, 3) := by decide +kernel
theorem V.dX6_init_77 : decode cX6_init 77 = .ok (.aload_n 0, 1) := by decide +kernel
theorem V.dX6_init_78 : decode cX6_init 78 = .ok (.sipush 201, 3) := by decide +kernel
theorem V.dX6_init_81 : decode cX6_init 81 = .ok (.newarray .int, 2) := by decide +kernel
theorem V.dX6_init_83 : decode cX6_init 83 = .ok (.putfield 35, 3) := by decide +kernel
theorem V.dX6_init_86 : decode cX6_init 86 = .ok (.aload_n 0, 1) := by decide +kernel
theorem V.dX6_init_87 : decode cX6_init 87 = .ok (.sipush 201, 3) := by decide +kernel
theorem V.dX6_init_90 : decode cX6_init 90 = .ok (.newarray .int, 2) := by decide +kernel
theorem V.dX6_init_92 : decode cX6_init 92 = .ok (.putfield 38, 3) := by decide +kernel
theorem V.dX6_init_95 : decode cX6_init 95 = .ok (.aload_n 0, 1) := by decide +kernel
theorem V.dX6_init_96 : decode cX6_init 96 = .ok (.sipush 201, 3) := by decide +kernel
theorem V.dX6_init_99 : decode cX6_init 99 = .ok (.newarray .int, 2) := by decide +kernel
theorem V.dX6_init_101 : decode cX6_init 101 = .ok (.putfield 41, 3) := by decide +kernel
theorem V.dX6_init_104 : decode cX6_init 104 = .ok (.aload_n 0, 1) := by decide +kernel
theorem V.dX6_init_105 : decode cX6_init 105 = .ok (.sipush 201, 3) := by decide +kernel
theorem V.dX6_init_108 : decode cX6_init 108 = .ok (.newarray .int, 2) := by decide +kernel
theorem V.dX6_init_110 : decode cX6_init 110 = .ok (.putfield 44, 3) := by decide +kernel
theorem V.dX6_init_113 : decode cX6_init 113 = .ok (.aload_n 0, 1) := by decide +kernel
theorem V.dX6_init_114 : decode cX6_init 114 = .ok (.sipush 201, 3) := by decide +kernel
theorem V.dX6_init_117 : decode cX6_init 117 = .ok (.newarray .int, 2) := by decide +kernel
theorem V.dX6_init_119 : decode cX6_init 119 = .ok (.putfield 47, 3) := by decide +kernel
theorem V.dX6_init_122 : decode cX6_init 122 = .ok (.aload_n 0, 1) := by decide +kernel
theorem V.dX6_init_123 : decode cX6_init 123 = .ok (.sipush 201, 3) := by decide +kernel
theorem V.dX6_init_126 : decode cX6_init 126 = .ok (.newarray .int, 2) := by decide +kernel
theorem V.dX6_init_128 : decode cX6_init 128 = .ok (.putfield 50, 3) := by decide +kernel
theorem V.dX6_init_131 : decode cX6_init 131 = .ok (.aload_n 0, 1) := by decide +kernel
theorem V.dX6_init_132 : decode cX6_init 132 = .ok (.aload_n 1, 1) := by decide +kernel
theorem V.dX6_init_133 : decode cX6_init 133 = .ok (.putfield 53, 3) := by decide +kernel
theorem V.dX6_init_136 : decode cX6_init 136 = .ok (.return_, 1) := by decide +kernel
theorem V.fpX6_7 {nm : String} : FP RX6 nm 7 6 1 (.array .int) := ⟨(RX6, TX6, 18), tyX6, rfl, rfl, in_X6, by decide, tyX6_ok, nmX6, rfl, Or.inl ⟨rfl, Or.inl q627⟩⟩
theorem V.ndX6_13 : ND RX6 13 3 2 := ⟨(RX3, TX3, 2), tyX3, rfl, rfl, in_X3, tyX3_ok, by decide, q624, q409, q363⟩
theorem V.mdX6_15 : MD RX6 15 yX3_init cX3_init 1 none 0 := ⟨Or.inr ⟨_, q625⟩, q363, q412, by decide, by decide, by decide +kernel⟩
theorem V.fpX6_16 : FP RX6 "<init>" 16 6 3 (.object "ModuleEngine$Row") := ⟨(RX6, TX6, 18), tyX6, rfl, rfl, in_X6, by decide, tyX6_ok, nmX6, rfl, Or.inr ⟨rfl, rfl, rfl, q629⟩⟩
theorem V.fpX6_20 : FP RX6 "<init>" 20 6 4 (.object "ModuleEngine$Row") := ⟨(RX6, TX6, 18), tyX6, rfl, rfl, in_X6, by decide, tyX6_ok, nmX6, rfl, Or.inr ⟨rfl, rfl, rfl, q632⟩⟩
theorem V.fpX6_23 : FP RX6 "<init>" 23 6 5 (.object "ModuleEngine$Row") := ⟨(RX6, TX6, 18), tyX6, rfl, rfl, in_X6, by decide, tyX6_ok, nmX6, rfl, Or.inr ⟨rfl, rfl, rfl, q633⟩⟩
theorem V.fpX6_26 : FP RX6 "<init>" 26 6 6 (.object "ModuleEngine$Row") := ⟨(RX6, TX6, 18), tyX6, rfl, rfl, in_X6, by decide, tyX6_ok, nmX6, rfl, Or.inr ⟨rfl, rfl, rfl, q634⟩⟩
theorem V.fpX6_29 : FP RX6 "<init>" 29 6 7 (.object "ModuleEngine$Row") := ⟨(RX6, TX6, 18), tyX6, rfl, rfl, in_X6, by decide, tyX6_ok, nmX6, rfl, Or.inr ⟨rfl, rfl, rfl, q635⟩⟩
theorem V.fpX6_32 : FP RX6 "<init>" 32 6 9 (.array .int) := ⟨(RX6, TX6, 18), tyX6, rfl, rfl, in_X6, by decide, tyX6_ok, nmX6, rfl, Or.inr ⟨rfl, rfl, rfl, q637⟩⟩
theorem V.fpX6_35 : FP RX6 "<init>" 35 6 10 (.array .int) := ⟨(RX6, TX6, 18), tyX6, rfl, rfl, in_X6, by decide, tyX6_ok, nmX6, rfl, Or.inr ⟨rfl, rfl, rfl, q638⟩⟩
theorem V.fpX6_38 : FP RX6 "<init>" 38 6 11 (.array .int) := ⟨(RX6, TX6, 18), tyX6, rfl, rfl, in_X6, by decide, tyX6_ok, nmX6, rfl, Or.inr ⟨rfl, rfl, rfl, q639⟩⟩
theorem V.fpX6_41 : FP RX6 "<init>" 41 6 12 (.array .int) := ⟨(RX6, TX6, 18), tyX6, rfl, rfl, in_X6, by decide, tyX6_ok, nmX6, rfl, Or.inr ⟨rfl, rfl, rfl, q640⟩⟩
theorem V.fpX6_44 : FP RX6 "<init>" 44 6 13 (.array .int) := ⟨(RX6, TX6, 18), tyX6, rfl, rfl, in_X6, by decide, tyX6_ok, nmX6, rfl, Or.inr ⟨rfl, rfl, rfl, q641⟩⟩
theorem V.fpX6_47 : FP RX6 "<init>" 47 6 14 (.array .int) := ⟨(RX6, TX6, 18), tyX6, rfl, rfl, in_X6, by decide, tyX6_ok, nmX6, rfl, Or.inr ⟨rfl, rfl, rfl, q642⟩⟩
theorem V.fpX6_50 : FP RX6 "<init>" 50 6 15 (.array .int) := ⟨(RX6, TX6, 18), tyX6, rfl, rfl, in_X6, by decide, tyX6_ok, nmX6, rfl, Or.inr ⟨rfl, rfl, rfl, q643⟩⟩
theorem V.fpX6_53 : FP RX6 "<init>" 53 6 0 (.object "ModuleEngine$Numbers") := ⟨(RX6, TX6, 18), tyX6, rfl, rfl, in_X6, by decide, tyX6_ok, nmX6, rfl, Or.inr ⟨rfl, rfl, rfl, q626⟩⟩
/-! ModuleEngine$Flat.<init>(LModuleEngine$Numbers;)V -/
def V.Flt_init (σ : HS) (x0 : Nat) (x1 : Nat) : Option (Unit × HS) :=
  ck (¬ x0 = 0) <|
  ck (lenok (1024 : Int32)) <| newa σ 100 (1024 : Int32) fun a1 σ2 =>
  ck (tg σ2 x0 = 7) <| bn (sR σ2 x0 1 a1) fun σ3 =>
  newr σ3 fun a4 σ5 =>
  ck (tg σ5 x0 = 7) <| bn (sR σ5 x0 3 a4) fun σ6 =>
  newr σ6 fun a7 σ8 =>
  ck (tg σ8 x0 = 7) <| bn (sR σ8 x0 4 a7) fun σ9 =>
  newr σ9 fun a10 σ11 =>
  ck (tg σ11 x0 = 7) <| bn (sR σ11 x0 5 a10) fun σ12 =>
  newr σ12 fun a13 σ14 =>
  ck (tg σ14 x0 = 7) <| bn (sR σ14 x0 6 a13) fun σ15 =>
  newr σ15 fun a16 σ17 =>
  ck (tg σ17 x0 = 7) <| bn (sR σ17 x0 7 a16) fun σ18 =>
  ck (lenok (201 : Int32)) <| newa σ18 100 (201 : Int32) fun a19 σ20 =>
  ck (tg σ20 x0 = 7) <| bn (sR σ20 x0 9 a19) fun σ21 =>
  ck (lenok (201 : Int32)) <| newa σ21 100 (201 : Int32) fun a22 σ23 =>
  ck (tg σ23 x0 = 7) <| bn (sR σ23 x0 10 a22) fun σ24 =>
  ck (lenok (201 : Int32)) <| newa σ24 100 (201 : Int32) fun a25 σ26 =>
  ck (tg σ26 x0 = 7) <| bn (sR σ26 x0 11 a25) fun σ27 =>
  ck (lenok (201 : Int32)) <| newa σ27 100 (201 : Int32) fun a28 σ29 =>
  ck (tg σ29 x0 = 7) <| bn (sR σ29 x0 12 a28) fun σ30 =>
  ck (lenok (201 : Int32)) <| newa σ30 100 (201 : Int32) fun a31 σ32 =>
  ck (tg σ32 x0 = 7) <| bn (sR σ32 x0 13 a31) fun σ33 =>
  ck (lenok (201 : Int32)) <| newa σ33 100 (201 : Int32) fun a34 σ35 =>
  ck (tg σ35 x0 = 7) <| bn (sR σ35 x0 14 a34) fun σ36 =>
  ck (lenok (201 : Int32)) <| newa σ36 100 (201 : Int32) fun a37 σ38 =>
  ck (tg σ38 x0 = 7) <| bn (sR σ38 x0 15 a37) fun σ39 =>
  ck (tg σ39 x0 = 7) <| bn (sR σ39 x0 0 x1) fun σ40 =>
  some ((), σ40)
theorem V.ctX6_init (x0 : Nat) (x1 : Nat) : Ct yX6_init  cX6_init 2 none 2 44 eV [av x0, av x1] (fun σ => Flt_init σ x0 x1) := by
  refine Ct.of (own := RX6) (nm := "<init>") (desc := "(LModuleEngine$Numbers;)V") rfl (by decide) (Nat.le_of_ble_eq_true rfl) (by decide) (fun X σ => ?_)
  show G X RX6 "<init>" cX6_init 2 none 2 44 enV 0 [(0, av x0), (1, av x1)] [] σ (Flt_init σ x0 x1)
  unfold Flt_init
  refine g_aload_n 0 0 dX6_init_0 rfl rfl ?_
  refine g_objInit q623 (Nat.le_of_ble_eq_true rfl) (Nat.le_of_ble_eq_true rfl) dX6_init_1 ?_
  refine g_aload_n 0 0 dX6_init_4 rfl rfl ?_
  refine g_sipush (v := 1024) dX6_init_5 (by decide) ?_
  refine g_na_int dX6_init_8 (fun a1 σ2 => ?_)
  refine g_putR fpX6_7 rfl dX6_init_10 (fun σ3 => ?_)
  refine g_aload_n 0 0 dX6_init_13 rfl rfl ?_
  refine g_newr ndX6_13 q411 mdX6_15 (Nat.le_of_ble_eq_true rfl) (Nat.le_of_ble_eq_true rfl) (Nat.le_of_ble_eq_true rfl) dX6_init_14 dX6_init_17 dX6_init_18 (fun a4 σ5 => ?_)
  refine g_putR fpX6_16 rfl dX6_init_21 (fun σ6 => ?_)
  refine g_aload_n 0 0 dX6_init_24 rfl rfl ?_
  refine g_newr ndX6_13 q411 mdX6_15 (Nat.le_of_ble_eq_true rfl) (Nat.le_of_ble_eq_true rfl) (Nat.le_of_ble_eq_true rfl) dX6_init_25 dX6_init_28 dX6_init_29 (fun a7 σ8 => ?_)
  refine g_putR fpX6_20 rfl dX6_init_32 (fun σ9 => ?_)
  refine g_aload_n 0 0 dX6_init_35 rfl rfl ?_
  refine g_newr ndX6_13 q411 mdX6_15 (Nat.le_of_ble_eq_true rfl) (Nat.le_of_ble_eq_true rfl) (Nat.le_of_ble_eq_true rfl) dX6_init_36 dX6_init_39 dX6_init_40 (fun a10 σ11 => ?_)
  refine g_putR fpX6_23 rfl dX6_init_43 (fun σ12 => ?_)
  refine g_aload_n 0 0 dX6_init_46 rfl rfl ?_
  refine g_newr ndX6_13 q411 mdX6_15 (Nat.le_of_ble_eq_true rfl) (Nat.le_of_ble_eq_true rfl) (Nat.le_of_ble_eq_true rfl) dX6_init_47 dX6_init_50 dX6_init_51 (fun a13 σ14 => ?_)
  refine g_putR fpX6_26 rfl dX6_init_54 (fun σ15 => ?_)
  refine g_aload_n 0 0 dX6_init_57 rfl rfl ?_
  refine g_newr ndX6_13 q411 mdX6_15 (Nat.le_of_ble_eq_true rfl) (Nat.le_of_ble_eq_true rfl) (Nat.le_of_ble_eq_true rfl) dX6_init_58 dX6_init_61 dX6_init_62 (fun a16 σ17 => ?_)
  refine g_putR fpX6_29 rfl dX6_init_65 (fun σ18 => ?_)
  refine g_aload_n 0 0 dX6_init_68 rfl rfl ?_
  refine g_sipush (v := 201) dX6_init_69 (by decide) ?_
  refine g_na_int dX6_init_72 (fun a19 σ20 => ?_)
  refine g_putR fpX6_32 rfl dX6_init_74 (fun σ21 => ?_)
  refine g_aload_n 0 0 dX6_init_77 rfl rfl ?_
  refine g_sipush (v := 201) dX6_init_78 (by decide) ?_
  refine g_na_int dX6_init_81 (fun a22 σ23 => ?_)
  refine g_putR fpX6_35 rfl dX6_init_83 (fun σ24 => ?_)
  refine g_aload_n 0 0 dX6_init_86 rfl rfl ?_
  refine g_sipush (v := 201) dX6_init_87 (by decide) ?_
  refine g_na_int dX6_init_90 (fun a25 σ26 => ?_)
  refine g_putR fpX6_38 rfl dX6_init_92 (fun σ27 => ?_)
  refine g_aload_n 0 0 dX6_init_95 rfl rfl ?_
  refine g_sipush (v := 201) dX6_init_96 (by decide) ?_
  refine g_na_int dX6_init_99 (fun a28 σ29 => ?_)
  refine g_putR fpX6_41 rfl dX6_init_101 (fun σ30 => ?_)
  refine g_aload_n 0 0 dX6_init_104 rfl rfl ?_
  refine g_sipush (v := 201) dX6_init_105 (by decide) ?_
  refine g_na_int dX6_init_108 (fun a31 σ32 => ?_)
  refine g_putR fpX6_44 rfl dX6_init_110 (fun σ33 => ?_)
  refine g_aload_n 0 0 dX6_init_113 rfl rfl ?_
  refine g_sipush (v := 201) dX6_init_114 (by decide) ?_
  refine g_na_int dX6_init_117 (fun a34 σ35 => ?_)
  refine g_putR fpX6_47 rfl dX6_init_119 (fun σ36 => ?_)
  refine g_aload_n 0 0 dX6_init_122 rfl rfl ?_
  refine g_sipush (v := 201) dX6_init_123 (by decide) ?_
  refine g_na_int dX6_init_126 (fun a37 σ38 => ?_)
  refine g_putR fpX6_50 rfl dX6_init_128 (fun σ39 => ?_)
  refine g_aload_n 0 0 dX6_init_131 rfl rfl ?_
  refine g_aload_n 1 1 dX6_init_132 rfl rfl ?_
  refine g_putR fpX6_53 rfl dX6_init_133 (fun σ40 => ?_)
  exact g_return rfl dX6_init_136
theorem V.dX6_many_0 : decode cX6_many 0 = .ok (.aload_n 0, 1) := by decide +kernel
theorem V.dX6_many_1 : decode cX6_many 1 = .ok (.getfield 16, 3) := by decide +kernel
theorem V.dX6_many_4 : decode cX6_many 4 = .ok (.invokevirtual 57, 3) := by decide +kernel
theorem V.dX6_many_7 : decode cX6_many 7 = .ok (.ireturn, 1) := by decide +kernel
theorem V.fdX6_16 : FD RX6 16 6 3 2 := ⟨(RX6, TX6, 18), tyX6, rfl, rfl, in_X6, by decide, Or.inl q629, rfl⟩
theorem V.mdX6_57 : MD RX6 57 yX3_size cX3_size 1 (some .int) 0 := ⟨Or.inl q1530, q363, q1423, by decide, by decide, by decide +kernel⟩
/-! ModuleEngine$Flat.many()I -/
def V.Flt_many (σ : HS) (x0 : Nat) : Option (Int32 × HS) :=
  ck (tg σ x0 = 7) <|
  ck (tg σ (gR σ x0 3) = 4) <| cl (Row_size σ (gR σ x0 3) ) fun r2 σ1 =>
  some (r2, σ1)
theorem V.ctX6_many (x0 : Nat) : Ct yX6_many  cX6_many 1 (some .int) 1 20 eI [av x0] (fun σ => Flt_many σ x0) := by
  refine Ct.of (own := RX6) (nm := "many") (desc := "()I") rfl (by decide) (Nat.le_of_ble_eq_true rfl) (by decide) (fun X σ => ?_)
  show G X RX6 "many" cX6_many 1 (some .int) 1 20 enI 0 [(0, av x0)] [] σ (Flt_many σ x0)
  unfold Flt_many
  refine g_aload_n 0 0 dX6_many_0 rfl rfl ?_
  refine g_getR fdX6_16 dX6_many_1 ?_
  refine g_callV (fc := fun sς => Row_size sς (gR σ x0 3) ) (ci := 3) (as := []) rfl rfl rfl q1421 q1422 mdX6_57 (ctX3_size (gR σ x0 3) ) rfl (Nat.le_of_ble_eq_true rfl) (Nat.le_of_ble_eq_true rfl) (Nat.le_of_ble_eq_true rfl) pu_I dX6_many_4 (fun r2 σ1 => ?_)
  exact g_ireturn rfl dX6_many_7
theorem V.dX6_label_0 : decode cX6_label 0 = .ok (.aload_n 0, 1) := by decide +kernel
theorem V.dX6_label_1 : decode cX6_label 1 = .ok (.getfield 32, 3) := by decide +kernel
theorem V.dX6_label_4 : decode cX6_label 4 = .ok (.aload_n 0, 1) := by decide +kernel
theorem V.dX6_label_5 : decode cX6_label 5 = .ok (.getfield 79, 3) := by decide +kernel
theorem V.dX6_label_8 : decode cX6_label 8 = .ok (.iload_n 1, 1) := by decide +kernel
theorem V.dX6_label_9 : decode cX6_label 9 = .ok (.iastore, 1) := by decide +kernel
theorem V.dX6_label_10 : decode cX6_label 10 = .ok (.aload_n 0, 1) := by decide +kernel
theorem V.dX6_label_11 : decode cX6_label 11 = .ok (.getfield 35, 3) := by decide +kernel
theorem V.dX6_label_14 : decode cX6_label 14 = .ok (.aload_n 0, 1) := by decide +kernel
theorem V.dX6_label_15 : decode cX6_label 15 = .ok (.getfield 79, 3) := by decide +kernel
theorem V.dX6_label_18 : decode cX6_label 18 = .ok (.iload_n 2, 1) := by decide +kernel
theorem V.dX6_label_19 : decode cX6_label 19 = .ok (.iastore, 1) := by decide +kernel
theorem V.dX6_label_20 : decode cX6_label 20 = .ok (.aload_n 0, 1) := by decide +kernel
theorem V.dX6_label_21 : decode cX6_label 21 = .ok (.getfield 38, 3) := by decide +kernel
theorem V.dX6_label_24 : decode cX6_label 24 = .ok (.aload_n 0, 1) := by decide +kernel
theorem V.dX6_label_25 : decode cX6_label 25 = .ok (.getfield 79, 3) := by decide +kernel
theorem V.dX6_label_28 : decode cX6_label 28 = .ok (.iload_n 3, 1) := by decide +kernel
theorem V.dX6_label_29 : decode cX6_label 29 = .ok (.iastore, 1) := by decide +kernel
theorem V.dX6_label_30 : decode cX6_label 30 = .ok (.aload_n 0, 1) := by decide +kernel
theorem V.dX6_label_31 : decode cX6_label 31 = .ok (.getfield 41, 3) := by decide +kernel
theorem V.dX6_label_34 : decode cX6_label 34 = .ok (.aload_n 0, 1) := by decide +kernel
theorem V.dX6_label_35 : decode cX6_label 35 = .ok (.getfield 79, 3) := by decide +kernel
theorem V.dX6_label_38 : decode cX6_label 38 = .ok (.aload_n 0, 1) := by decide +kernel
theorem V.dX6_label_39 : decode cX6_label 39 = .ok (.getfield 82, 3) := by decide +kernel
theorem V.dX6_label_42 : decode cX6_label 42 = .ok (.iastore, 1) := by decide +kernel
theorem V.dX6_label_43 : decode cX6_label 43 = .ok (.aload_n 0, 1) := by decide +kernel
theorem V.dX6_label_44 : decode cX6_label 44 = .ok (.getfield 44, 3) := by decide +kernel
theorem V.dX6_label_47 : decode cX6_label 47 = .ok (.aload_n 0, 1) := by decide +kernel
theorem V.dX6_label_48 : decode cX6_label 48 = .ok (.getfield 79, 3) := by decide +kernel
theorem V.dX6_label_51 : decode cX6_label 51 = .ok (.aload_n 0, 1) := by decide +kernel
theorem V.dX6_label_52 : decode cX6_label 52 = .ok (.getfield 68, 3) := by decide +kernel
theorem V.dX6_label_55 : decode cX6_label 55 = .ok (.iastore, 1) := by decide +kernel
theorem V.dX6_label_56 : decode cX6_label 56 = .ok (.aload_n 0, 1) := by decide +kernel
theorem V.dX6_label_57 : decode cX6_label 57 = .ok (.getfield 47, 3) := by decide +kernel
theorem V.dX6_label_60 : decode cX6_label 60 = .ok (.aload_n 0, 1) := by decide +kernel
theorem V.dX6_label_61 : decode cX6_label 61 = .ok (.getfield 79, 3) := by decide +kernel
theorem V.dX6_label_64 : decode cX6_label 64 = .ok (.iconst (-1), 1) := by decide +kernel
theorem V.dX6_label_65 : decode cX6_label 65 = .ok (.iastore, 1) := by decide +kernel
theorem V.dX6_label_66 : decode cX6_label 66 = .ok (.aload_n 0, 1) := by decide +kernel
theorem V.dX6_label_67 : decode cX6_label 67 = .ok (.getfield 50, 3) := by decide +kernel
theorem V.dX6_label_70 : decode cX6_label 70 = .ok (.aload_n 0, 1) := by decide +kernel
theorem V.dX6_label_71 : decode cX6_label 71 = .ok (.getfield 79, 3) := by decide +kernel
theorem V.dX6_label_74 : decode cX6_label 74 = .ok (.iconst (-1), 1) := by decide +kernel
theorem V.dX6_label_75 : decode cX6_label 75 = .ok (.iastore, 1) := by decide +kernel
theorem V.dX6_label_76 : decode cX6_label 76 = .ok (.aload_n 0, 1) := by decide +kernel
theorem V.dX6_label_77 : decode cX6_label 77 = .ok (.dup, 1) := by decide +kernel
theorem V.dX6_label_78 : decode cX6_label 78 = .ok (.getfield 79, 3) := by decide +kernel
theorem V.dX6_label_81 : decode cX6_label 81 = .ok (.iconst 1, 1) := by decide +kernel
theorem V.dX6_label_82 : decode cX6_label 82 = .ok (.iadd, 1) := by decide +kernel
theorem V.dX6_label_83 : decode cX6_label 83 = .ok (.putfield 79, 3) := by decide +kernel
theorem V.dX6_label_86 : decode cX6_label 86 = .ok (.return_, 1) := by decide +kernel
theorem V.fdX6_32 : FD RX6 32 6 9 2 := ⟨(RX6, TX6, 18), tyX6, rfl, rfl, in_X6, by decide, Or.inl q637, rfl⟩
theorem V.fdX6_79 : FD RX6 79 6 16 0 := ⟨(RX6, TX6, 18), tyX6, rfl, rfl, in_X6, by decide, Or.inl q644, rfl⟩
theorem V.fdX6_35 : FD RX6 35 6 10 2 := ⟨(RX6, TX6, 18), tyX6, rfl, rfl, in_X6, by decide, Or.inl q638, rfl⟩
theorem V.fdX6_38 : FD RX6 38 6 11 2 := ⟨(RX6, TX6, 18), tyX6, rfl, rfl, in_X6, by decide, Or.inl q639, rfl⟩
theorem V.fdX6_41 : FD RX6 41 6 12 2 := ⟨(RX6, TX6, 18), tyX6, rfl, rfl, in_X6, by decide, Or.inl q640, rfl⟩
theorem V.fdX6_82 : FD RX6 82 6 17 0 := ⟨(RX6, TX6, 18), tyX6, rfl, rfl, in_X6, by decide, Or.inl q645, rfl⟩
theorem V.fdX6_44 : FD RX6 44 6 13 2 := ⟨(RX6, TX6, 18), tyX6, rfl, rfl, in_X6, by decide, Or.inl q641, rfl⟩
theorem V.fdX6_68 : FD RX6 68 6 2 0 := ⟨(RX6, TX6, 18), tyX6, rfl, rfl, in_X6, by decide, Or.inl q628, rfl⟩
theorem V.fdX6_47 : FD RX6 47 6 14 2 := ⟨(RX6, TX6, 18), tyX6, rfl, rfl, in_X6, by decide, Or.inl q642, rfl⟩
theorem V.fdX6_50 : FD RX6 50 6 15 2 := ⟨(RX6, TX6, 18), tyX6, rfl, rfl, in_X6, by decide, Or.inl q643, rfl⟩
theorem V.fpX6_79 {nm : String} : FP RX6 nm 79 6 16 (.int) := ⟨(RX6, TX6, 18), tyX6, rfl, rfl, in_X6, by decide, tyX6_ok, nmX6, rfl, Or.inl ⟨rfl, Or.inl q644⟩⟩
/-! ModuleEngine$Flat.label(III)V -/
def V.Flt_label (σ : HS) (x0 : Nat) (x1 : Int32) (x2 : Int32) (x3 : Int32) : Option (Unit × HS) :=
  ck (tg σ x0 = 7) <|
  ck (tg σ x0 = 7) <|
  ck (tg σ (gR σ x0 9) = 100 ∧ inb (gI σ x0 16) (ln σ (gR σ x0 9))) <| bn (sI σ (gR σ x0 9) (ix (gI σ x0 16)) x1) fun σ1 =>
  ck (tg σ1 x0 = 7) <|
  ck (tg σ1 x0 = 7) <|
  ck (tg σ1 (gR σ1 x0 10) = 100 ∧ inb (gI σ1 x0 16) (ln σ1 (gR σ1 x0 10))) <| bn (sI σ1 (gR σ1 x0 10) (ix (gI σ1 x0 16)) x2) fun σ2 =>
  ck (tg σ2 x0 = 7) <|
  ck (tg σ2 x0 = 7) <|
  ck (tg σ2 (gR σ2 x0 11) = 100 ∧ inb (gI σ2 x0 16) (ln σ2 (gR σ2 x0 11))) <| bn (sI σ2 (gR σ2 x0 11) (ix (gI σ2 x0 16)) x3) fun σ3 =>
  ck (tg σ3 x0 = 7) <|
  ck (tg σ3 x0 = 7) <|
  ck (tg σ3 x0 = 7) <|
  ck (tg σ3 (gR σ3 x0 12) = 100 ∧ inb (gI σ3 x0 16) (ln σ3 (gR σ3 x0 12))) <| bn (sI σ3 (gR σ3 x0 12) (ix (gI σ3 x0 16)) (gI σ3 x0 17)) fun σ4 =>
  ck (tg σ4 x0 = 7) <|
  ck (tg σ4 x0 = 7) <|
  ck (tg σ4 x0 = 7) <|
  ck (tg σ4 (gR σ4 x0 13) = 100 ∧ inb (gI σ4 x0 16) (ln σ4 (gR σ4 x0 13))) <| bn (sI σ4 (gR σ4 x0 13) (ix (gI σ4 x0 16)) (gI σ4 x0 2)) fun σ5 =>
  ck (tg σ5 x0 = 7) <|
  ck (tg σ5 x0 = 7) <|
  ck (tg σ5 (gR σ5 x0 14) = 100 ∧ inb (gI σ5 x0 16) (ln σ5 (gR σ5 x0 14))) <| bn (sI σ5 (gR σ5 x0 14) (ix (gI σ5 x0 16)) (-1 : Int32)) fun σ6 =>
  ck (tg σ6 x0 = 7) <|
  ck (tg σ6 x0 = 7) <|
  ck (tg σ6 (gR σ6 x0 15) = 100 ∧ inb (gI σ6 x0 16) (ln σ6 (gR σ6 x0 15))) <| bn (sI σ6 (gR σ6 x0 15) (ix (gI σ6 x0 16)) (-1 : Int32)) fun σ7 =>
  ck (tg σ7 x0 = 7) <|
  ck (tg σ7 x0 = 7) <| bn (sI σ7 x0 16 ((gI σ7 x0 16) + (1 : Int32))) fun σ8 =>
  some ((), σ8)
theorem V.ctX6_label (x0 : Nat) (x1 : Int32) (x2 : Int32) (x3 : Int32) : Ct yX6_label  cX6_label 4 none 0 0 eV [av x0, iv x1, iv x2, iv x3] (fun σ => Flt_label σ x0 x1 x2 x3) := by
  refine Ct.of (own := RX6) (nm := "label") (desc := "(III)V") rfl (by decide) (Nat.le_of_ble_eq_true rfl) (by decide) (fun X σ => ?_)
  show G X RX6 "label" cX6_label 4 none 0 0 enV 0 [(0, av x0), (1, iv x1), (2, iv x2), (3, iv x3)] [] σ (Flt_label σ x0 x1 x2 x3)
  unfold Flt_label
  refine g_aload_n 0 0 dX6_label_0 rfl rfl ?_
  refine g_getR fdX6_32 dX6_label_1 ?_
  refine g_aload_n 0 0 dX6_label_4 rfl rfl ?_
  refine g_getI fdX6_79 dX6_label_5 ?_
  refine g_iload_n 1 1 dX6_label_8 rfl rfl ?_
  refine g_iastore dX6_label_9 (fun σ1 => ?_)
  refine g_aload_n 0 0 dX6_label_10 rfl rfl ?_
  refine g_getR fdX6_35 dX6_label_11 ?_
  refine g_aload_n 0 0 dX6_label_14 rfl rfl ?_
  refine g_getI fdX6_79 dX6_label_15 ?_
  refine g_iload_n 2 2 dX6_label_18 rfl rfl ?_
  refine g_iastore dX6_label_19 (fun σ2 => ?_)
  refine g_aload_n 0 0 dX6_label_20 rfl rfl ?_
  refine g_getR fdX6_38 dX6_label_21 ?_
  refine g_aload_n 0 0 dX6_label_24 rfl rfl ?_
  refine g_getI fdX6_79 dX6_label_25 ?_
  refine g_iload_n 3 3 dX6_label_28 rfl rfl ?_
  refine g_iastore dX6_label_29 (fun σ3 => ?_)
  refine g_aload_n 0 0 dX6_label_30 rfl rfl ?_
  refine g_getR fdX6_41 dX6_label_31 ?_
  refine g_aload_n 0 0 dX6_label_34 rfl rfl ?_
  refine g_getI fdX6_79 dX6_label_35 ?_
  refine g_aload_n 0 0 dX6_label_38 rfl rfl ?_
  refine g_getI fdX6_82 dX6_label_39 ?_
  refine g_iastore dX6_label_42 (fun σ4 => ?_)
  refine g_aload_n 0 0 dX6_label_43 rfl rfl ?_
  refine g_getR fdX6_44 dX6_label_44 ?_
  refine g_aload_n 0 0 dX6_label_47 rfl rfl ?_
  refine g_getI fdX6_79 dX6_label_48 ?_
  refine g_aload_n 0 0 dX6_label_51 rfl rfl ?_
  refine g_getI fdX6_68 dX6_label_52 ?_
  refine g_iastore dX6_label_55 (fun σ5 => ?_)
  refine g_aload_n 0 0 dX6_label_56 rfl rfl ?_
  refine g_getR fdX6_47 dX6_label_57 ?_
  refine g_aload_n 0 0 dX6_label_60 rfl rfl ?_
  refine g_getI fdX6_79 dX6_label_61 ?_
  refine g_iconst (v := (-1)) dX6_label_64 (by decide) ?_
  refine g_iastore dX6_label_65 (fun σ6 => ?_)
  refine g_aload_n 0 0 dX6_label_66 rfl rfl ?_
  refine g_getR fdX6_50 dX6_label_67 ?_
  refine g_aload_n 0 0 dX6_label_70 rfl rfl ?_
  refine g_getI fdX6_79 dX6_label_71 ?_
  refine g_iconst (v := (-1)) dX6_label_74 (by decide) ?_
  refine g_iastore dX6_label_75 (fun σ7 => ?_)
  refine g_aload_n 0 0 dX6_label_76 rfl rfl ?_
  refine g_dup dX6_label_77 rfl ?_
  refine g_getI fdX6_79 dX6_label_78 ?_
  refine g_iconst (v := 1) dX6_label_81 (by decide) ?_
  refine g_iadd dX6_label_82 ?_
  refine g_putI fpX6_79 dX6_label_83 (fun σ8 => ?_)
  exact g_return rfl dX6_label_86
theorem V.dX6_begin_0 : decode cX6_begin 0 = .ok (.aload_n 0, 1) := by decide +kernel
theorem V.dX6_begin_1 : decode cX6_begin 1 = .ok (.getfield 16, 3) := by decide +kernel
theorem V.dX6_begin_4 : decode cX6_begin 4 = .ok (.aload_n 0, 1) := by decide +kernel
theorem V.dX6_begin_5 : decode cX6_begin 5 = .ok (.getfield 68, 3) := by decide +kernel
theorem V.dX6_begin_8 : decode cX6_begin 8 = .ok (.invokevirtual 72, 3) := by decide +kernel
theorem V.dX6_begin_11 : decode cX6_begin 11 = .ok (.aload_n 0, 1) := by decide +kernel
theorem V.dX6_begin_12 : decode cX6_begin 12 = .ok (.getfield 20, 3) := by decide +kernel
theorem V.dX6_begin_15 : decode cX6_begin 15 = .ok (.iload_n 1, 1) := by decide +kernel
theorem V.dX6_begin_16 : decode cX6_begin 16 = .ok (.invokevirtual 72, 3) := by decide +kernel
theorem V.dX6_begin_19 : decode cX6_begin 19 = .ok (.aload_n 0, 1) := by decide +kernel
theorem V.dX6_begin_20 : decode cX6_begin 20 = .ok (.getfield 23, 3) := by decide +kernel
theorem V.dX6_begin_23 : decode cX6_begin 23 = .ok (.iload_n 2, 1) := by decide +kernel
theorem V.dX6_begin_24 : decode cX6_begin 24 = .ok (.invokevirtual 72, 3) := by decide +kernel
theorem V.dX6_begin_27 : decode cX6_begin 27 = .ok (.aload_n 0, 1) := by decide +kernel
theorem V.dX6_begin_28 : decode cX6_begin 28 = .ok (.getfield 26, 3) := by decide +kernel
theorem V.dX6_begin_31 : decode cX6_begin 31 = .ok (.iload_n 3, 1) := by decide +kernel
theorem V.dX6_begin_32 : decode cX6_begin 32 = .ok (.invokevirtual 72, 3) := by decide +kernel
theorem V.dX6_begin_35 : decode cX6_begin 35 = .ok (.aload_n 0, 1) := by decide +kernel
theorem V.dX6_begin_36 : decode cX6_begin 36 = .ok (.iconst 0, 1) := by decide +kernel
theorem V.dX6_begin_37 : decode cX6_begin 37 = .ok (.putfield 76, 3) := by decide +kernel
theorem V.dX6_begin_40 : decode cX6_begin 40 = .ok (.aload_n 0, 1) := by decide +kernel
theorem V.dX6_begin_41 : decode cX6_begin 41 = .ok (.iconst 0, 1) := by decide +kernel
theorem V.dX6_begin_42 : decode cX6_begin 42 = .ok (.putfield 79, 3) := by decide +kernel
theorem V.dX6_begin_45 : decode cX6_begin 45 = .ok (.aload_n 0, 1) := by decide +kernel
theorem V.dX6_begin_46 : decode cX6_begin 46 = .ok (.iconst 0, 1) := by decide +kernel
theorem V.dX6_begin_47 : decode cX6_begin 47 = .ok (.putfield 82, 3) := by decide +kernel
theorem V.dX6_begin_50 : decode cX6_begin 50 = .ok (.aload_n 0, 1) := by decide +kernel
theorem V.dX6_begin_51 : decode cX6_begin 51 = .ok (.iconst 2, 1) := by decide +kernel
theorem V.dX6_begin_52 : decode cX6_begin 52 = .ok (.iconst 0, 1) := by decide +kernel
theorem V.dX6_begin_53 : decode cX6_begin 53 = .ok (.iload_n 2, 1) := by decide +kernel
theorem V.dX6_begin_54 : decode cX6_begin 54 = .ok (.invokevirtual 85, 3) := by decide +kernel
theorem V.dX6_begin_57 : decode cX6_begin 57 = .ok (.return_, 1) := by decide +kernel
theorem V.mdX6_72 : MD RX6 72 yX3_add cX3_add 4 none 1 := ⟨Or.inl q2030, q363, q1407, by decide, by decide, by decide +kernel⟩
theorem V.fdX6_20 : FD RX6 20 6 4 2 := ⟨(RX6, TX6, 18), tyX6, rfl, rfl, in_X6, by decide, Or.inl q632, rfl⟩
theorem V.fdX6_23 : FD RX6 23 6 5 2 := ⟨(RX6, TX6, 18), tyX6, rfl, rfl, in_X6, by decide, Or.inl q633, rfl⟩
theorem V.fdX6_26 : FD RX6 26 6 6 2 := ⟨(RX6, TX6, 18), tyX6, rfl, rfl, in_X6, by decide, Or.inl q634, rfl⟩
theorem V.fpX6_76 {nm : String} : FP RX6 nm 76 6 8 (.int) := ⟨(RX6, TX6, 18), tyX6, rfl, rfl, in_X6, by decide, tyX6_ok, nmX6, rfl, Or.inl ⟨rfl, Or.inl q636⟩⟩
theorem V.fpX6_82 {nm : String} : FP RX6 nm 82 6 17 (.int) := ⟨(RX6, TX6, 18), tyX6, rfl, rfl, in_X6, by decide, tyX6_ok, nmX6, rfl, Or.inl ⟨rfl, Or.inl q645⟩⟩
theorem V.mdX6_85 : MD RX6 85 yX6_label cX6_label 4 none 3 := ⟨Or.inl q2031, q366, q2034, by decide, by decide, by decide +kernel⟩
/-! ModuleEngine$Flat.begin(III)V -/
def V.Flt_begin (σ : HS) (x0 : Nat) (x1 : Int32) (x2 : Int32) (x3 : Int32) : Option (Unit × HS) :=
  ck (tg σ x0 = 7) <|
  ck (tg σ x0 = 7) <|
  ck (tg σ (gR σ x0 3) = 4) <| cl (Row_add σ (gR σ x0 3) (gI σ x0 2)) fun _ σ1 =>
  ck (tg σ1 x0 = 7) <|
  ck (tg σ1 (gR σ1 x0 4) = 4) <| cl (Row_add σ1 (gR σ1 x0 4) x1) fun _ σ2 =>
  ck (tg σ2 x0 = 7) <|
  ck (tg σ2 (gR σ2 x0 5) = 4) <| cl (Row_add σ2 (gR σ2 x0 5) x2) fun _ σ3 =>
  ck (tg σ3 x0 = 7) <|
  ck (tg σ3 (gR σ3 x0 6) = 4) <| cl (Row_add σ3 (gR σ3 x0 6) x3) fun _ σ4 =>
  ck (tg σ4 x0 = 7) <| bn (sI σ4 x0 8 (0 : Int32)) fun σ5 =>
  ck (tg σ5 x0 = 7) <| bn (sI σ5 x0 16 (0 : Int32)) fun σ6 =>
  ck (tg σ6 x0 = 7) <| bn (sI σ6 x0 17 (0 : Int32)) fun σ7 =>
  ck (tg σ7 x0 = 7) <| cl (Flt_label σ7 x0 (2 : Int32) (0 : Int32) x2) fun _ σ8 =>
  some ((), σ8)
theorem V.ctX6_begin (x0 : Nat) (x1 : Int32) (x2 : Int32) (x3 : Int32) : Ct yX6_begin  cX6_begin 4 none 1 23 eV [av x0, iv x1, iv x2, iv x3] (fun σ => Flt_begin σ x0 x1 x2 x3) := by
  refine Ct.of (own := RX6) (nm := "begin") (desc := "(III)V") rfl (by decide) (Nat.le_of_ble_eq_true rfl) (by decide) (fun X σ => ?_)
  show G X RX6 "begin" cX6_begin 4 none 1 23 enV 0 [(0, av x0), (1, iv x1), (2, iv x2), (3, iv x3)] [] σ (Flt_begin σ x0 x1 x2 x3)
  unfold Flt_begin
  refine g_aload_n 0 0 dX6_begin_0 rfl rfl ?_
  refine g_getR fdX6_16 dX6_begin_1 ?_
  refine g_aload_n 0 0 dX6_begin_4 rfl rfl ?_
  refine g_getI fdX6_68 dX6_begin_5 ?_
  refine g_callV (fc := fun sς => Row_add sς (gR σ x0 3) (gI σ x0 2)) (ci := 3) (as := [iv (gI σ x0 2)]) rfl rfl rfl q1405 q1406 mdX6_72 (ctX3_add (gR σ x0 3) (gI σ x0 2)) rfl (Nat.le_of_ble_eq_true rfl) (Nat.le_of_ble_eq_true rfl) (Nat.le_of_ble_eq_true rfl) pu_V dX6_begin_8 (fun _ σ1 => ?_)
  refine g_aload_n 0 0 dX6_begin_11 rfl rfl ?_
  refine g_getR fdX6_20 dX6_begin_12 ?_
  refine g_iload_n 1 1 dX6_begin_15 rfl rfl ?_
  refine g_callV (fc := fun sς => Row_add sς (gR σ1 x0 4) x1) (ci := 3) (as := [iv x1]) rfl rfl rfl q1405 q1406 mdX6_72 (ctX3_add (gR σ1 x0 4) x1) rfl (Nat.le_of_ble_eq_true rfl) (Nat.le_of_ble_eq_true rfl) (Nat.le_of_ble_eq_true rfl) pu_V dX6_begin_16 (fun _ σ2 => ?_)
  refine g_aload_n 0 0 dX6_begin_19 rfl rfl ?_
  refine g_getR fdX6_23 dX6_begin_20 ?_
  refine g_iload_n 2 2 dX6_begin_23 rfl rfl ?_
  refine g_callV (fc := fun sς => Row_add sς (gR σ2 x0 5) x2) (ci := 3) (as := [iv x2]) rfl rfl rfl q1405 q1406 mdX6_72 (ctX3_add (gR σ2 x0 5) x2) rfl (Nat.le_of_ble_eq_true rfl) (Nat.le_of_ble_eq_true rfl) (Nat.le_of_ble_eq_true rfl) pu_V dX6_begin_24 (fun _ σ3 => ?_)
  refine g_aload_n 0 0 dX6_begin_27 rfl rfl ?_
  refine g_getR fdX6_26 dX6_begin_28 ?_
  refine g_iload_n 3 3 dX6_begin_31 rfl rfl ?_
  refine g_callV (fc := fun sς => Row_add sς (gR σ3 x0 6) x3) (ci := 3) (as := [iv x3]) rfl rfl rfl q1405 q1406 mdX6_72 (ctX3_add (gR σ3 x0 6) x3) rfl (Nat.le_of_ble_eq_true rfl) (Nat.le_of_ble_eq_true rfl) (Nat.le_of_ble_eq_true rfl) pu_V dX6_begin_32 (fun _ σ4 => ?_)
  refine g_aload_n 0 0 dX6_begin_35 rfl rfl ?_
  refine g_iconst (v := 0) dX6_begin_36 (by decide) ?_
  refine g_putI fpX6_76 dX6_begin_37 (fun σ5 => ?_)
  refine g_aload_n 0 0 dX6_begin_40 rfl rfl ?_
  refine g_iconst (v := 0) dX6_begin_41 (by decide) ?_
  refine g_putI fpX6_79 dX6_begin_42 (fun σ6 => ?_)
  refine g_aload_n 0 0 dX6_begin_45 rfl rfl ?_
  refine g_iconst (v := 0) dX6_begin_46 (by decide) ?_
  refine g_putI fpX6_82 dX6_begin_47 (fun σ7 => ?_)
  refine g_aload_n 0 0 dX6_begin_50 rfl rfl ?_
  refine g_iconst (v := 2) dX6_begin_51 (by decide) ?_
  refine g_iconst (v := 0) dX6_begin_52 (by decide) ?_
  refine g_iload_n 2 2 dX6_begin_53 rfl rfl ?_
  refine g_callV (fc := fun sς => Flt_label sς x0 (2 : Int32) (0 : Int32) x2) (ci := 6) (as := [iv (2 : Int32), iv (0 : Int32), iv x2]) rfl rfl rfl q2033 qs117 mdX6_85 (ctX6_label x0 (2 : Int32) (0 : Int32) x2) rfl (Nat.le_of_ble_eq_true rfl) (Nat.le_of_ble_eq_true rfl) (Nat.le_of_ble_eq_true rfl) pu_V dX6_begin_54 (fun _ σ8 => ?_)
  exact g_return rfl dX6_begin_57
theorem V.dX6_emit_0 : decode cX6_emit 0 = .ok (.iconst 4, 1) := by decide +kernel
theorem V.dX6_emit_1 : decode cX6_emit 1 = .ok (.aload_n 0, 1) := by decide +kernel
theorem V.dX6_emit_2 : decode cX6_emit 2 = .ok (.getfield 68, 3) := by decide +kernel
theorem V.dX6_emit_5 : decode cX6_emit 5 = .ok (.iconst 1, 1) := by decide +kernel
theorem V.dX6_emit_6 : decode cX6_emit 6 = .ok (.iadd, 1) := by decide +kernel
theorem V.dX6_emit_7 : decode cX6_emit 7 = .ok (.imul, 1) := by decide +kernel
theorem V.dX6_emit_8 : decode cX6_emit 8 = .ok (.aload_n 0, 1) := by decide +kernel
theorem V.dX6_emit_9 : decode cX6_emit 9 = .ok (.getfield 7, 3) := by decide +kernel
theorem V.dX6_emit_12 : decode cX6_emit 12 = .ok (.arraylength, 1) := by decide +kernel
theorem V.dX6_emit_13 : decode cX6_emit 13 = .ok (.if_icmp .le 52, 3) := by decide +kernel
theorem V.dX6_emit_16 : decode cX6_emit 16 = .ok (.iconst 2, 1) := by decide +kernel
theorem V.dX6_emit_17 : decode cX6_emit 17 = .ok (.aload_n 0, 1) := by decide +kernel
theorem V.dX6_emit_18 : decode cX6_emit 18 = .ok (.getfield 7, 3) := by decide +kernel
theorem V.dX6_emit_21 : decode cX6_emit 21 = .ok (.arraylength, 1) := by decide +kernel
theorem V.dX6_emit_22 : decode cX6_emit 22 = .ok (.imul, 1) := by decide +kernel
theorem V.dX6_emit_23 : decode cX6_emit 23 = .ok (.newarray .int, 2) := by decide +kernel
theorem V.dX6_emit_25 : decode cX6_emit 25 = .ok (.astore 5, 2) := by decide +kernel
theorem V.dX6_emit_27 : decode cX6_emit 27 = .ok (.iconst 0, 1) := by decide +kernel
theorem V.dX6_emit_28 : decode cX6_emit 28 = .ok (.istore 6, 2) := by decide +kernel
theorem V.dX6_emit_30 : decode cX6_emit 30 = .ok (.iload 6, 2) := by decide +kernel
theorem V.dX6_emit_32 : decode cX6_emit 32 = .ok (.iconst 4, 1) := by decide +kernel
theorem V.dX6_emit_33 : decode cX6_emit 33 = .ok (.aload_n 0, 1) := by decide +kernel
theorem V.dX6_emit_34 : decode cX6_emit 34 = .ok (.getfield 68, 3) := by decide +kernel
theorem V.dX6_emit_37 : decode cX6_emit 37 = .ok (.imul, 1) := by decide +kernel
theorem V.dX6_emit_38 : decode cX6_emit 38 = .ok (.if_icmp .ge 21, 3) := by decide +kernel
theorem V.dX6_emit_41 : decode cX6_emit 41 = .ok (.aload 5, 2) := by decide +kernel
theorem V.dX6_emit_43 : decode cX6_emit 43 = .ok (.iload 6, 2) := by decide +kernel
theorem V.dX6_emit_45 : decode cX6_emit 45 = .ok (.aload_n 0, 1) := by decide +kernel
theorem V.dX6_emit_46 : decode cX6_emit 46 = .ok (.getfield 7, 3) := by decide +kernel
theorem V.dX6_emit_49 : decode cX6_emit 49 = .ok (.iload 6, 2) := by decide +kernel
theorem V.dX6_emit_51 : decode cX6_emit 51 = .ok (.iaload, 1) := by decide +kernel
theorem V.dX6_emit_52 : decode cX6_emit 52 = .ok (.iastore, 1) := by decide +kernel
theorem V.dX6_emit_53 : decode cX6_emit 53 = .ok (.iinc 6 1, 3) := by decide +kernel
theorem V.dX6_emit_56 : decode cX6_emit 56 = .ok (.goto (-26), 3) := by decide +kernel
theorem V.dX6_emit_59 : decode cX6_emit 59 = .ok (.aload_n 0, 1) := by decide +kernel
theorem V.dX6_emit_60 : decode cX6_emit 60 = .ok (.aload 5, 2) := by decide +kernel
theorem V.dX6_emit_62 : decode cX6_emit 62 = .ok (.putfield 7, 3) := by decide +kernel
theorem V.dX6_emit_65 : decode cX6_emit 65 = .ok (.aload_n 0, 1) := by decide +kernel
theorem V.dX6_emit_66 : decode cX6_emit 66 = .ok (.getfield 68, 3) := by decide +kernel
theorem V.dX6_emit_69 : decode cX6_emit 69 = .ok (.istore 5, 2) := by decide +kernel
theorem V.dX6_emit_71 : decode cX6_emit 71 = .ok (.aload_n 0, 1) := by decide +kernel
theorem V.dX6_emit_72 : decode cX6_emit 72 = .ok (.getfield 7, 3) := by decide +kernel
theorem V.dX6_emit_75 : decode cX6_emit 75 = .ok (.iconst 4, 1) := by decide +kernel
theorem V.dX6_emit_76 : decode cX6_emit 76 = .ok (.iload 5, 2) := by decide +kernel
theorem V.dX6_emit_78 : decode cX6_emit 78 = .ok (.imul, 1) := by decide +kernel
theorem V.dX6_emit_79 : decode cX6_emit 79 = .ok (.iload_n 1, 1) := by decide +kernel
theorem V.dX6_emit_80 : decode cX6_emit 80 = .ok (.iastore, 1) := by decide +kernel
theorem V.dX6_emit_81 : decode cX6_emit 81 = .ok (.aload_n 0, 1) := by decide +kernel
theorem V.dX6_emit_82 : decode cX6_emit 82 = .ok (.getfield 7, 3) := by decide +kernel
theorem V.dX6_emit_85 : decode cX6_emit 85 = .ok (.iconst 4, 1) := by decide +kernel
theorem V.dX6_emit_86 : decode cX6_emit 86 = .ok (.iload 5, 2) := by decide +kernel
theorem V.dX6_emit_88 : decode cX6_emit 88 = .ok (.imul, 1) := by decide +kernel
theorem V.dX6_emit_89 : decode cX6_emit 89 = .ok (.iconst 1, 1) := by decide +kernel
theorem V.dX6_emit_90 : decode cX6_emit 90 = .ok (.iadd, 1) := by decide +kernel
theorem V.dX6_emit_91 : decode cX6_emit 91 = .ok (.iload_n 2, 1) := by decide +kernel
theorem V.dX6_emit_92 : decode cX6_emit 92 = .ok (.iastore, 1) := by decide +kernel
theorem V.dX6_emit_93 : decode cX6_emit 93 = .ok (.aload_n 0, 1) := by decide +kernel
theorem V.dX6_emit_94 : decode cX6_emit 94 = .ok (.getfield 7, 3) := by decide +kernel
theorem V.dX6_emit_97 : decode cX6_emit 97 = .ok (.iconst 4, 1) := by decide +kernel
theorem V.dX6_emit_98 : decode cX6_emit 98 = .ok (.iload 5, 2) := by decide +kernel
theorem V.dX6_emit_100 : decode cX6_emit 100 = .ok (.imul, 1) := by decide +kernel
theorem V.dX6_emit_101 : decode cX6_emit 101 = .ok (.iconst 2, 1) := by decide +kernel
theorem V.dX6_emit_102 : decode cX6_emit 102 = .ok (.iadd, 1) := by decide +kernel
theorem V.dX6_emit_103 : decode cX6_emit 103 = .ok (.iload_n 3, 1) := by decide +kernel
theorem V.dX6_emit_104 : decode cX6_emit 104 = .ok (.iastore, 1) := by decide +kernel
theorem V.dX6_emit_105 : decode cX6_emit 105 = .ok (.aload_n 0, 1) := by decide +kernel
theorem V.dX6_emit_106 : decode cX6_emit 106 = .ok (.getfield 7, 3) := by decide +kernel
theorem V.dX6_emit_109 : decode cX6_emit 109 = .ok (.iconst 4, 1) := by decide +kernel
theorem V.dX6_emit_110 : decode cX6_emit 110 = .ok (.iload 5, 2) := by decide +kernel
theorem V.dX6_emit_112 : decode cX6_emit 112 = .ok (.imul, 1) := by decide +kernel
theorem V.dX6_emit_113 : decode cX6_emit 113 = .ok (.iconst 3, 1) := by decide +kernel
theorem V.dX6_emit_114 : decode cX6_emit 114 = .ok (.iadd, 1) := by decide +kernel
theorem V.dX6_emit_115 : decode cX6_emit 115 = .ok (.iload 4, 2) := by decide +kernel
theorem V.dX6_emit_117 : decode cX6_emit 117 = .ok (.iastore, 1) := by decide +kernel
theorem V.dX6_emit_118 : decode cX6_emit 118 = .ok (.aload_n 0, 1) := by decide +kernel
theorem V.dX6_emit_119 : decode cX6_emit 119 = .ok (.dup, 1) := by decide +kernel
theorem V.dX6_emit_120 : decode cX6_emit 120 = .ok (.getfield 68, 3) := by decide +kernel
theorem V.dX6_emit_123 : decode cX6_emit 123 = .ok (.iconst 1, 1) := by decide +kernel
theorem V.dX6_emit_124 : decode cX6_emit 124 = .ok (.iadd, 1) := by decide +kernel
theorem V.dX6_emit_125 : decode cX6_emit 125 = .ok (.putfield 68, 3) := by decide +kernel
theorem V.dX6_emit_128 : decode cX6_emit 128 = .ok (.iload 5, 2) := by decide +kernel
theorem V.dX6_emit_130 : decode cX6_emit 130 = .ok (.ireturn, 1) := by decide +kernel
theorem V.fdX6_7 : FD RX6 7 6 1 2 := ⟨(RX6, TX6, 18), tyX6, rfl, rfl, in_X6, by decide, Or.inl q627, rfl⟩
theorem V.fpX6_68 {nm : String} : FP RX6 nm 68 6 2 (.int) := ⟨(RX6, TX6, 18), tyX6, rfl, rfl, in_X6, by decide, tyX6_ok, nmX6, rfl, Or.inl ⟨rfl, Or.inl q628⟩⟩
/-! ModuleEngine$Flat.emit(IIII)I -/
def V.Flt_emit_p65  (σ : HS) (x0 : Nat) (x1 : Int32) (x2 : Int32) (x3 : Int32) (x4 : Int32) : Option (Int32 × HS) :=
  ck (tg σ x0 = 7) <|
  bn (gI σ x0 2) fun y1 =>
  ck (tg σ x0 = 7) <|
  ck (tg σ (gR σ x0 1) = 100 ∧ inb ((4 : Int32) * y1) (ln σ (gR σ x0 1))) <| bn (sI σ (gR σ x0 1) (ix ((4 : Int32) * y1)) x1) fun σ2 =>
  ck (tg σ2 x0 = 7) <|
  ck (tg σ2 (gR σ2 x0 1) = 100 ∧ inb (((4 : Int32) * y1) + (1 : Int32)) (ln σ2 (gR σ2 x0 1))) <| bn (sI σ2 (gR σ2 x0 1) (ix (((4 : Int32) * y1) + (1 : Int32))) x2) fun σ3 =>
  ck (tg σ3 x0 = 7) <|
  ck (tg σ3 (gR σ3 x0 1) = 100 ∧ inb (((4 : Int32) * y1) + (2 : Int32)) (ln σ3 (gR σ3 x0 1))) <| bn (sI σ3 (gR σ3 x0 1) (ix (((4 : Int32) * y1) + (2 : Int32))) x3) fun σ4 =>
  ck (tg σ4 x0 = 7) <|
  ck (tg σ4 (gR σ4 x0 1) = 100 ∧ inb (((4 : Int32) * y1) + (3 : Int32)) (ln σ4 (gR σ4 x0 1))) <| bn (sI σ4 (gR σ4 x0 1) (ix (((4 : Int32) * y1) + (3 : Int32))) x4) fun σ5 =>
  ck (tg σ5 x0 = 7) <|
  ck (tg σ5 x0 = 7) <| bn (sI σ5 x0 2 ((gI σ5 x0 2) + (1 : Int32))) fun σ6 =>
  some (y1, σ6)
theorem V.gX6_emit_p65 {X : CX}  (σ : HS) (x0 : Nat) (x1 : Int32) (x2 : Int32) (x3 : Int32) (x4 : Int32) : G X RX6 "emit" cX6_emit 7 (some .int) 0 0 enI 65 [(0, av x0), (1, iv x1), (2, iv x2), (3, iv x3), (4, iv x4)] [] σ (Flt_emit_p65 σ x0 x1 x2 x3 x4) := by
  unfold Flt_emit_p65
  refine g_aload_n 0 0 dX6_emit_65 rfl rfl ?_
  refine g_getI fdX6_68 dX6_emit_66 ?_
  refine g_nmI (fun y1 => ?_)
  refine g_istore dX6_emit_69 (by decide) rfl ?_
  refine g_aload_n 0 1 dX6_emit_71 rfl rfl ?_
  refine g_getR fdX6_7 dX6_emit_72 ?_
  refine g_iconst (v := 4) dX6_emit_75 (by decide) ?_
  refine g_iload 0 dX6_emit_76 rfl ?_
  refine g_imul dX6_emit_78 ?_
  refine g_iload_n 1 2 dX6_emit_79 rfl rfl ?_
  refine g_iastore dX6_emit_80 (fun σ2 => ?_)
  refine g_aload_n 0 1 dX6_emit_81 rfl rfl ?_
  refine g_getR fdX6_7 dX6_emit_82 ?_
  refine g_iconst (v := 4) dX6_emit_85 (by decide) ?_
  refine g_iload 0 dX6_emit_86 rfl ?_
  refine g_imul dX6_emit_88 ?_
  refine g_iconst (v := 1) dX6_emit_89 (by decide) ?_
  refine g_iadd dX6_emit_90 ?_
  refine g_iload_n 2 3 dX6_emit_91 rfl rfl ?_
  refine g_iastore dX6_emit_92 (fun σ3 => ?_)
  refine g_aload_n 0 1 dX6_emit_93 rfl rfl ?_
  refine g_getR fdX6_7 dX6_emit_94 ?_
  refine g_iconst (v := 4) dX6_emit_97 (by decide) ?_
  refine g_iload 0 dX6_emit_98 rfl ?_
  refine g_imul dX6_emit_100 ?_
  refine g_iconst (v := 2) dX6_emit_101 (by decide) ?_
  refine g_iadd dX6_emit_102 ?_
  refine g_iload_n 3 4 dX6_emit_103 rfl rfl ?_
  refine g_iastore dX6_emit_104 (fun σ4 => ?_)
  refine g_aload_n 0 1 dX6_emit_105 rfl rfl ?_
  refine g_getR fdX6_7 dX6_emit_106 ?_
  refine g_iconst (v := 4) dX6_emit_109 (by decide) ?_
  refine g_iload 0 dX6_emit_110 rfl ?_
  refine g_imul dX6_emit_112 ?_
  refine g_iconst (v := 3) dX6_emit_113 (by decide) ?_
  refine g_iadd dX6_emit_114 ?_
  refine g_iload 5 dX6_emit_115 rfl ?_
  refine g_iastore dX6_emit_117 (fun σ5 => ?_)
  refine g_aload_n 0 1 dX6_emit_118 rfl rfl ?_
  refine g_dup dX6_emit_119 rfl ?_
  refine g_getI fdX6_68 dX6_emit_120 ?_
  refine g_iconst (v := 1) dX6_emit_123 (by decide) ?_
  refine g_iadd dX6_emit_124 ?_
  refine g_putI fpX6_68 dX6_emit_125 (fun σ6 => ?_)
  refine g_iload 0 dX6_emit_128 rfl ?_
  exact g_ireturn rfl dX6_emit_130
def V.Flt_emit_p30  : Nat → HS → Nat → Int32 → Int32 → Int32 → Int32 → Nat → Int32 → Option (Int32 × HS)
  | 0, _, _, _, _, _, _, _, _ => none
  | n + 1, σ, x0, x1, x2, x3, x4, x5, x6 =>
    ck (tg σ x0 = 7) <|
    if ((4 : Int32) * (gI σ x0 2)) ≤ x6 then (
      ck (tg σ x0 = 7) <| bn (sR σ x0 1 x5) fun σ1 =>
      Flt_emit_p65 σ1 x0 x1 x2 x3 x4)
    else (
      ck (tg σ x0 = 7) <|
      ck (tg σ (gR σ x0 1) = 100 ∧ inb x6 (ln σ (gR σ x0 1))) <|
      ck (tg σ x5 = 100 ∧ inb x6 (ln σ x5)) <| bn (sI σ x5 (ix x6) (gI σ (gR σ x0 1) (ix x6))) fun σ2 =>
      bn (x6 + (1 : Int32)) fun y3 =>
      Flt_emit_p30 n σ2 x0 x1 x2 x3 x4 x5 y3)
theorem V.gX6_emit_p30 {X : CX}  : ∀ (n : Nat) (σ : HS) (x0 : Nat) (x1 : Int32) (x2 : Int32) (x3 : Int32) (x4 : Int32) (x5 : Nat) (x6 : Int32), G X RX6 "emit" cX6_emit 7 (some .int) 0 0 enI 30 [(0, av x0), (1, iv x1), (2, iv x2), (3, iv x3), (4, iv x4), (5, av x5), (6, iv x6)] [] σ (Flt_emit_p30 n σ x0 x1 x2 x3 x4 x5 x6)
  | 0, σ, x0, x1, x2, x3, x4, x5, x6 => by rw [Flt_emit_p30]; exact G.nul
  | n + 1, σ, x0, x1, x2, x3, x4, x5, x6 => by
    rw [Flt_emit_p30]
    refine g_iload 6 dX6_emit_30 rfl ?_
    refine g_iconst (v := 4) dX6_emit_32 (by decide) ?_
    refine g_aload_n 0 0 dX6_emit_33 rfl rfl ?_
    refine g_getI fdX6_68 dX6_emit_34 ?_
    refine g_imul dX6_emit_37 ?_
    refine g_icmp_ge 59 dX6_emit_38 (by decide) ?_ ?_
    · refine g_aload_n 0 0 dX6_emit_59 rfl rfl ?_
      refine g_aload 5 dX6_emit_60 rfl ?_
      refine g_putR fpX6_7 rfl dX6_emit_62 (fun σ1 => ?_)
      refine G.sub [0, 1, 2, 3, 4] rfl ?_
      exact gX6_emit_p65 _ _ _ _ _ _
    · refine g_aload 5 dX6_emit_41 rfl ?_
      refine g_iload 6 dX6_emit_43 rfl ?_
      refine g_aload_n 0 0 dX6_emit_45 rfl rfl ?_
      refine g_getR fdX6_7 dX6_emit_46 ?_
      refine g_iload 6 dX6_emit_49 rfl ?_
      refine g_iaload dX6_emit_51 ?_
      refine g_iastore dX6_emit_52 (fun σ2 => ?_)
      refine g_iincB (w := 1) 6 dX6_emit_53 rfl (by decide) (by decide) (fun _ => rfl) (fun y3 => ?_)
      refine g_goto 30 dX6_emit_56 (by decide) ?_
      refine G.sub [1, 2, 3, 4, 5, 6, 0] rfl ?_
      exact gX6_emit_p30 n _ _ _ _ _ _ _ _
def V.Flt_emit (σ : HS) (x0 : Nat) (x1 : Int32) (x2 : Int32) (x3 : Int32) (x4 : Int32) : Option (Int32 × HS) :=
  ck (tg σ x0 = 7) <|
  ck (tg σ x0 = 7) <|
  ck (tg σ (gR σ x0 1) = 100) <|
  if ((4 : Int32) * ((gI σ x0 2) + (1 : Int32))) ≤ (nI (ln σ (gR σ x0 1))) then (
    Flt_emit_p65 σ x0 x1 x2 x3 x4)
  else (
    ck (tg σ x0 = 7) <|
    ck (tg σ (gR σ x0 1) = 100) <|
    ck (lenok ((2 : Int32) * (nI (ln σ (gR σ x0 1))))) <| newa σ 100 ((2 : Int32) * (nI (ln σ (gR σ x0 1)))) fun a1 σ2 =>
    Flt_emit_p30 FU σ2 x0 x1 x2 x3 x4 a1 (0 : Int32))
theorem V.ctX6_emit (x0 : Nat) (x1 : Int32) (x2 : Int32) (x3 : Int32) (x4 : Int32) : Ct yX6_emit  cX6_emit 7 (some .int) 0 0 eI [av x0, iv x1, iv x2, iv x3, iv x4] (fun σ => Flt_emit σ x0 x1 x2 x3 x4) := by
  refine Ct.of (own := RX6) (nm := "emit") (desc := "(IIII)I") rfl (by decide) (Nat.le_of_ble_eq_true rfl) (by decide) (fun X σ => ?_)
  show G X RX6 "emit" cX6_emit 7 (some .int) 0 0 enI 0 [(0, av x0), (1, iv x1), (2, iv x2), (3, iv x3), (4, iv x4)] [] σ (Flt_emit σ x0 x1 x2 x3 x4)
  unfold Flt_emit
  refine g_iconst (v := 4) dX6_emit_0 (by decide) ?_
  refine g_aload_n 0 0 dX6_emit_1 rfl rfl ?_
  refine g_getI fdX6_68 dX6_emit_2 ?_
  refine g_iconst (v := 1) dX6_emit_5 (by decide) ?_
  refine g_iadd dX6_emit_6 ?_
  refine g_imul dX6_emit_7 ?_
  refine g_aload_n 0 0 dX6_emit_8 rfl rfl ?_
  refine g_getR fdX6_7 dX6_emit_9 ?_
  refine g_alen 0 rfl dX6_emit_12 ?_
  refine g_icmp_le 65 dX6_emit_13 (by decide) ?_ ?_
  · exact gX6_emit_p65 _ _ _ _ _ _
  · refine g_iconst (v := 2) dX6_emit_16 (by decide) ?_
    refine g_aload_n 0 0 dX6_emit_17 rfl rfl ?_
    refine g_getR fdX6_7 dX6_emit_18 ?_
    refine g_alen 0 rfl dX6_emit_21 ?_
    refine g_imul dX6_emit_22 ?_
    refine g_na_int dX6_emit_23 (fun a1 σ2 => ?_)
    refine g_astore dX6_emit_25 (by decide) rfl ?_
    refine g_iconst (v := 0) dX6_emit_27 (by decide) ?_
    refine g_istore dX6_emit_28 (by decide) rfl ?_
    refine G.sub [2, 3, 4, 5, 6, 1, 0] rfl ?_
    exact gX6_emit_p30 FU _ _ _ _ _ _ _ _
theorem V.dX6_die_0 : decode cX6_die 0 = .ok (.aload_n 0, 1) := by decide +kernel
theorem V.dX6_die_1 : decode cX6_die 1 = .ok (.aload_n 0, 1) := by decide +kernel
theorem V.dX6_die_2 : decode cX6_die 2 = .ok (.getfield 41, 3) := by decide +kernel
theorem V.dX6_die_5 : decode cX6_die 5 = .ok (.aload_n 0, 1) := by decide +kernel
theorem V.dX6_die_6 : decode cX6_die 6 = .ok (.getfield 79, 3) := by decide +kernel
theorem V.dX6_die_9 : decode cX6_die 9 = .ok (.iconst 1, 1) := by decide +kernel
theorem V.dX6_die_10 : decode cX6_die 10 = .ok (.isub, 1) := by decide +kernel
theorem V.dX6_die_11 : decode cX6_die 11 = .ok (.iaload, 1) := by decide +kernel
theorem V.dX6_die_12 : decode cX6_die 12 = .ok (.putfield 82, 3) := by decide +kernel
theorem V.dX6_die_15 : decode cX6_die 15 = .ok (.return_, 1) := by decide +kernel
/-! ModuleEngine$Flat.die()V -/
def V.Flt_die (σ : HS) (x0 : Nat) : Option (Unit × HS) :=
  ck (tg σ x0 = 7) <|
  ck (tg σ x0 = 7) <|
  ck (tg σ (gR σ x0 12) = 100 ∧ inb ((gI σ x0 16) - (1 : Int32)) (ln σ (gR σ x0 12))) <|
  ck (tg σ x0 = 7) <| bn (sI σ x0 17 (gI σ (gR σ x0 12) (ix ((gI σ x0 16) - (1 : Int32))))) fun σ1 =>
  some ((), σ1)
theorem V.ctX6_die (x0 : Nat) : Ct yX6_die  cX6_die 1 none 0 0 eV [av x0] (fun σ => Flt_die σ x0) := by
  refine Ct.of (own := RX6) (nm := "die") (desc := "()V") rfl (by decide) (Nat.le_of_ble_eq_true rfl) (by decide) (fun X σ => ?_)
  show G X RX6 "die" cX6_die 1 none 0 0 enV 0 [(0, av x0)] [] σ (Flt_die σ x0)
  unfold Flt_die
  refine g_aload_n 0 0 dX6_die_0 rfl rfl ?_
  refine g_aload_n 0 0 dX6_die_1 rfl rfl ?_
  refine g_getR fdX6_41 dX6_die_2 ?_
  refine g_aload_n 0 0 dX6_die_5 rfl rfl ?_
  refine g_getI fdX6_79 dX6_die_6 ?_
  refine g_iconst (v := 1) dX6_die_9 (by decide) ?_
  refine g_isub dX6_die_10 ?_
  refine g_iaload dX6_die_11 ?_
  refine g_putI fpX6_82 dX6_die_12 (fun σ1 => ?_)
  exact g_return rfl dX6_die_15
theorem V.dX6_stop_0 : decode cX6_stop 0 = .ok (.aload_n 0, 1) := by decide +kernel
theorem V.dX6_stop_1 : decode cX6_stop 1 = .ok (.iconst 0, 1) := by decide +kernel
theorem V.dX6_stop_2 : decode cX6_stop 2 = .ok (.iconst 0, 1) := by decide +kernel
theorem V.dX6_stop_3 : decode cX6_stop 3 = .ok (.iconst 0, 1) := by decide +kernel
theorem V.dX6_stop_4 : decode cX6_stop 4 = .ok (.iconst 0, 1) := by decide +kernel
theorem V.dX6_stop_5 : decode cX6_stop 5 = .ok (.invokevirtual 92, 3) := by decide +kernel
theorem V.dX6_stop_8 : decode cX6_stop 8 = .ok (.pop, 1) := by decide +kernel
theorem V.dX6_stop_9 : decode cX6_stop 9 = .ok (.aload_n 0, 1) := by decide +kernel
theorem V.dX6_stop_10 : decode cX6_stop 10 = .ok (.invokevirtual 112, 3) := by decide +kernel
theorem V.dX6_stop_13 : decode cX6_stop 13 = .ok (.return_, 1) := by decide +kernel
theorem V.mdX6_92 : MD RX6 92 yX6_emit cX6_emit 7 (some .int) 4 := ⟨Or.inl q2043, q366, q2046, by decide, by decide, by decide +kernel⟩
theorem V.mdX6_112 : MD RX6 112 yX6_die cX6_die 1 none 0 := ⟨Or.inl q2047, q366, q2050, by decide, by decide, by decide +kernel⟩
/-! ModuleEngine$Flat.stop()V -/
def V.Flt_stop (σ : HS) (x0 : Nat) : Option (Unit × HS) :=
  ck (tg σ x0 = 7) <| cl (Flt_emit σ x0 (0 : Int32) (0 : Int32) (0 : Int32) (0 : Int32)) fun r2 σ1 =>
  ck (tg σ1 x0 = 7) <| cl (Flt_die σ1 x0 ) fun _ σ3 =>
  some ((), σ3)
theorem V.ctX6_stop (x0 : Nat) : Ct yX6_stop  cX6_stop 1 none 1 26 eV [av x0] (fun σ => Flt_stop σ x0) := by
  refine Ct.of (own := RX6) (nm := "stop") (desc := "()V") rfl (by decide) (Nat.le_of_ble_eq_true rfl) (by decide) (fun X σ => ?_)
  show G X RX6 "stop" cX6_stop 1 none 1 26 enV 0 [(0, av x0)] [] σ (Flt_stop σ x0)
  unfold Flt_stop
  refine g_aload_n 0 0 dX6_stop_0 rfl rfl ?_
  refine g_iconst (v := 0) dX6_stop_1 (by decide) ?_
  refine g_iconst (v := 0) dX6_stop_2 (by decide) ?_
  refine g_iconst (v := 0) dX6_stop_3 (by decide) ?_
  refine g_iconst (v := 0) dX6_stop_4 (by decide) ?_
  refine g_callV (fc := fun sς => Flt_emit sς x0 (0 : Int32) (0 : Int32) (0 : Int32) (0 : Int32)) (ci := 6) (as := [iv (0 : Int32), iv (0 : Int32), iv (0 : Int32), iv (0 : Int32)]) rfl rfl rfl q2045 qs119 mdX6_92 (ctX6_emit x0 (0 : Int32) (0 : Int32) (0 : Int32) (0 : Int32)) rfl (Nat.le_of_ble_eq_true rfl) (Nat.le_of_ble_eq_true rfl) (Nat.le_of_ble_eq_true rfl) pu_I dX6_stop_5 (fun r2 σ1 => ?_)
  refine g_pop dX6_stop_8 rfl ?_
  refine g_aload_n 0 0 dX6_stop_9 rfl rfl ?_
  refine g_callV (fc := fun sς => Flt_die sς x0 ) (ci := 6) (as := []) rfl rfl rfl q2049 qs120 mdX6_112 (ctX6_die x0 ) rfl (Nat.le_of_ble_eq_true rfl) (Nat.le_of_ble_eq_true rfl) (Nat.le_of_ble_eq_true rfl) pu_V dX6_stop_10 (fun _ σ3 => ?_)
  exact g_return rfl dX6_stop_13
theorem V.dX6_take_0 : decode cX6_take 0 = .ok (.aload_n 0, 1) := by decide +kernel
theorem V.dX6_take_1 : decode cX6_take 1 = .ok (.getfield 82, 3) := by decide +kernel
theorem V.dX6_take_4 : decode cX6_take 4 = .ok (.aload_n 0, 1) := by decide +kernel
theorem V.dX6_take_5 : decode cX6_take 5 = .ok (.getfield 41, 3) := by decide +kernel
theorem V.dX6_take_8 : decode cX6_take 8 = .ok (.aload_n 0, 1) := by decide +kernel
theorem V.dX6_take_9 : decode cX6_take 9 = .ok (.getfield 79, 3) := by decide +kernel
theorem V.dX6_take_12 : decode cX6_take 12 = .ok (.iconst 1, 1) := by decide +kernel
theorem V.dX6_take_13 : decode cX6_take 13 = .ok (.isub, 1) := by decide +kernel
theorem V.dX6_take_14 : decode cX6_take 14 = .ok (.iaload, 1) := by decide +kernel
theorem V.dX6_take_15 : decode cX6_take 15 = .ok (.isub, 1) := by decide +kernel
theorem V.dX6_take_16 : decode cX6_take 16 = .ok (.istore_n 2, 1) := by decide +kernel
theorem V.dX6_take_17 : decode cX6_take 17 = .ok (.aload_n 0, 1) := by decide +kernel
theorem V.dX6_take_18 : decode cX6_take 18 = .ok (.dup, 1) := by decide +kernel
theorem V.dX6_take_19 : decode cX6_take 19 = .ok (.getfield 82, 3) := by decide +kernel
theorem V.dX6_take_22 : decode cX6_take 22 = .ok (.iload_n 2, 1) := by decide +kernel
theorem V.dX6_take_23 : decode cX6_take 23 = .ok (.iload_n 1, 1) := by decide +kernel
theorem V.dX6_take_24 : decode cX6_take 24 = .ok (.if_icmp .ge 7, 3) := by decide +kernel
theorem V.dX6_take_27 : decode cX6_take 27 = .ok (.iload_n 2, 1) := by decide +kernel
theorem V.dX6_take_28 : decode cX6_take 28 = .ok (.goto 4, 3) := by decide +kernel
theorem V.dX6_take_31 : decode cX6_take 31 = .ok (.iload_n 1, 1) := by decide +kernel
theorem V.dX6_take_32 : decode cX6_take 32 = .ok (.isub, 1) := by decide +kernel
theorem V.dX6_take_33 : decode cX6_take 33 = .ok (.putfield 82, 3) := by decide +kernel
theorem V.dX6_take_36 : decode cX6_take 36 = .ok (.return_, 1) := by decide +kernel
/-! ModuleEngine$Flat.take(I)V -/
def V.Flt_take_p32  (σ : HS) (s0 : Int32) (s1 : Int32) (s2 : Nat) : Option (Unit × HS) :=
  ck (tg σ s2 = 7) <| bn (sI σ s2 17 (s1 - s0)) fun σ1 =>
  some ((), σ1)
theorem V.gX6_take_p32 {X : CX}  (σ : HS) (s0 : Int32) (s1 : Int32) (s2 : Nat) : G X RX6 "take" cX6_take 3 none 0 0 enV 32 [] [iv s0, iv s1, av s2] σ (Flt_take_p32 σ s0 s1 s2) := by
  unfold Flt_take_p32
  refine g_isub dX6_take_32 ?_
  refine g_putI fpX6_82 dX6_take_33 (fun σ1 => ?_)
  exact g_return rfl dX6_take_36
def V.Flt_take (σ : HS) (x0 : Nat) (x1 : Int32) : Option (Unit × HS) :=
  ck (tg σ x0 = 7) <|
  ck (tg σ x0 = 7) <|
  ck (tg σ x0 = 7) <|
  ck (tg σ (gR σ x0 12) = 100 ∧ inb ((gI σ x0 16) - (1 : Int32)) (ln σ (gR σ x0 12))) <|
  bn ((gI σ x0 17) - (gI σ (gR σ x0 12) (ix ((gI σ x0 16) - (1 : Int32))))) fun y1 =>
  ck (tg σ x0 = 7) <|
  if x1 ≤ y1 then (
    Flt_take_p32 σ x1 (gI σ x0 17) x0)
  else (
    Flt_take_p32 σ y1 (gI σ x0 17) x0)
theorem V.ctX6_take (x0 : Nat) (x1 : Int32) : Ct yX6_take  cX6_take 3 none 0 0 eV [av x0, iv x1] (fun σ => Flt_take σ x0 x1) := by
  refine Ct.of (own := RX6) (nm := "take") (desc := "(I)V") rfl (by decide) (Nat.le_of_ble_eq_true rfl) (by decide) (fun X σ => ?_)
  show G X RX6 "take" cX6_take 3 none 0 0 enV 0 [(0, av x0), (1, iv x1)] [] σ (Flt_take σ x0 x1)
  unfold Flt_take
  refine g_aload_n 0 0 dX6_take_0 rfl rfl ?_
  refine g_getI fdX6_82 dX6_take_1 ?_
  refine g_aload_n 0 0 dX6_take_4 rfl rfl ?_
  refine g_getR fdX6_41 dX6_take_5 ?_
  refine g_aload_n 0 0 dX6_take_8 rfl rfl ?_
  refine g_getI fdX6_79 dX6_take_9 ?_
  refine g_iconst (v := 1) dX6_take_12 (by decide) ?_
  refine g_isub dX6_take_13 ?_
  refine g_iaload dX6_take_14 ?_
  refine g_isub dX6_take_15 ?_
  refine g_nmI (fun y1 => ?_)
  refine g_istore_n 2 dX6_take_16 rfl (by decide) rfl ?_
  refine g_aload_n 0 1 dX6_take_17 rfl rfl ?_
  refine g_dup dX6_take_18 rfl ?_
  refine g_getI fdX6_82 dX6_take_19 ?_
  refine g_iload_n 2 0 dX6_take_22 rfl rfl ?_
  refine g_iload_n 1 2 dX6_take_23 rfl rfl ?_
  refine g_icmp_ge 31 dX6_take_24 (by decide) ?_ ?_
  · refine g_iload_n 1 2 dX6_take_31 rfl rfl ?_
    refine G.sub [] rfl ?_
    exact gX6_take_p32 _ _ _ _
  · refine g_iload_n 2 0 dX6_take_27 rfl rfl ?_
    refine g_goto 32 dX6_take_28 (by decide) ?_
    refine G.sub [] rfl ?_
    exact gX6_take_p32 _ _ _ _
theorem V.dX6_put_0 : decode cX6_put 0 = .ok (.aload_n 0, 1) := by decide +kernel
theorem V.dX6_put_1 : decode cX6_put 1 = .ok (.dup, 1) := by decide +kernel
theorem V.dX6_put_2 : decode cX6_put 2 = .ok (.getfield 82, 3) := by decide +kernel
theorem V.dX6_put_5 : decode cX6_put 5 = .ok (.iload_n 1, 1) := by decide +kernel
theorem V.dX6_put_6 : decode cX6_put 6 = .ok (.iadd, 1) := by decide +kernel
theorem V.dX6_put_7 : decode cX6_put 7 = .ok (.putfield 82, 3) := by decide +kernel
theorem V.dX6_put_10 : decode cX6_put 10 = .ok (.return_, 1) := by decide +kernel
/-! ModuleEngine$Flat.put(I)V -/
def V.Flt_put (σ : HS) (x0 : Nat) (x1 : Int32) : Option (Unit × HS) :=
  ck (tg σ x0 = 7) <|
  ck (tg σ x0 = 7) <| bn (sI σ x0 17 ((gI σ x0 17) + x1)) fun σ1 =>
  some ((), σ1)
theorem V.ctX6_put (x0 : Nat) (x1 : Int32) : Ct yX6_put  cX6_put 2 none 0 0 eV [av x0, iv x1] (fun σ => Flt_put σ x0 x1) := by
  refine Ct.of (own := RX6) (nm := "put") (desc := "(I)V") rfl (by decide) (Nat.le_of_ble_eq_true rfl) (by decide) (fun X σ => ?_)
  show G X RX6 "put" cX6_put 2 none 0 0 enV 0 [(0, av x0), (1, iv x1)] [] σ (Flt_put σ x0 x1)
  unfold Flt_put
  refine g_aload_n 0 0 dX6_put_0 rfl rfl ?_
  refine g_dup dX6_put_1 rfl ?_
  refine g_getI fdX6_82 dX6_put_2 ?_
  refine g_iload_n 1 1 dX6_put_5 rfl rfl ?_
  refine g_iadd dX6_put_6 ?_
  refine g_putI fpX6_82 dX6_put_7 (fun σ1 => ?_)
  exact g_return rfl dX6_put_10
theorem V.dX6_count_0 : decode cX6_count 0 = .ok (.aload_n 0, 1) := by decide +kernel
theorem V.dX6_count_1 : decode cX6_count 1 = .ok (.aload_n 0, 1) := by decide +kernel
theorem V.dX6_count_2 : decode cX6_count 2 = .ok (.getfield 82, 3) := by decide +kernel
theorem V.dX6_count_5 : decode cX6_count 5 = .ok (.aload_n 0, 1) := by decide +kernel
theorem V.dX6_count_6 : decode cX6_count 6 = .ok (.getfield 76, 3) := by decide +kernel
theorem V.dX6_count_9 : decode cX6_count 9 = .ok (.if_icmp .le 10, 3) := by decide +kernel
theorem V.dX6_count_12 : decode cX6_count 12 = .ok (.aload_n 0, 1) := by decide +kernel
theorem V.dX6_count_13 : decode cX6_count 13 = .ok (.getfield 82, 3) := by decide +kernel
theorem V.dX6_count_16 : decode cX6_count 16 = .ok (.goto 7, 3) := by decide +kernel
theorem V.dX6_count_19 : decode cX6_count 19 = .ok (.aload_n 0, 1) := by decide +kernel
theorem V.dX6_count_20 : decode cX6_count 20 = .ok (.getfield 76, 3) := by decide +kernel
theorem V.dX6_count_23 : decode cX6_count 23 = .ok (.putfield 76, 3) := by decide +kernel
theorem V.dX6_count_26 : decode cX6_count 26 = .ok (.return_, 1) := by decide +kernel
theorem V.fdX6_76 : FD RX6 76 6 8 0 := ⟨(RX6, TX6, 18), tyX6, rfl, rfl, in_X6, by decide, Or.inl q636, rfl⟩
/-! ModuleEngine$Flat.count()V -/
def V.Flt_count_p23  (σ : HS) (s0 : Int32) (s1 : Nat) : Option (Unit × HS) :=
  ck (tg σ s1 = 7) <| bn (sI σ s1 8 s0) fun σ1 =>
  some ((), σ1)
theorem V.gX6_count_p23 {X : CX}  (σ : HS) (s0 : Int32) (s1 : Nat) : G X RX6 "count" cX6_count 1 none 0 0 enV 23 [] [iv s0, av s1] σ (Flt_count_p23 σ s0 s1) := by
  unfold Flt_count_p23
  refine g_putI fpX6_76 dX6_count_23 (fun σ1 => ?_)
  exact g_return rfl dX6_count_26
def V.Flt_count (σ : HS) (x0 : Nat) : Option (Unit × HS) :=
  ck (tg σ x0 = 7) <|
  ck (tg σ x0 = 7) <|
  if (gI σ x0 17) ≤ (gI σ x0 8) then (
    ck (tg σ x0 = 7) <|
    Flt_count_p23 σ (gI σ x0 8) x0)
  else (
    ck (tg σ x0 = 7) <|
    Flt_count_p23 σ (gI σ x0 17) x0)
theorem V.ctX6_count (x0 : Nat) : Ct yX6_count  cX6_count 1 none 0 0 eV [av x0] (fun σ => Flt_count σ x0) := by
  refine Ct.of (own := RX6) (nm := "count") (desc := "()V") rfl (by decide) (Nat.le_of_ble_eq_true rfl) (by decide) (fun X σ => ?_)
  show G X RX6 "count" cX6_count 1 none 0 0 enV 0 [(0, av x0)] [] σ (Flt_count σ x0)
  unfold Flt_count
  refine g_aload_n 0 0 dX6_count_0 rfl rfl ?_
  refine g_aload_n 0 0 dX6_count_1 rfl rfl ?_
  refine g_getI fdX6_82 dX6_count_2 ?_
  refine g_aload_n 0 0 dX6_count_5 rfl rfl ?_
  refine g_getI fdX6_76 dX6_count_6 ?_
  refine g_icmp_le 19 dX6_count_9 (by decide) ?_ ?_
  · refine g_aload_n 0 0 dX6_count_19 rfl rfl ?_
    refine g_getI fdX6_76 dX6_count_20 ?_
    refine G.sub [] rfl ?_
    exact gX6_count_p23 _ _ _
  · refine g_aload_n 0 0 dX6_count_12 rfl rfl ?_
    refine g_getI fdX6_82 dX6_count_13 ?_
    refine g_goto 23 dX6_count_16 (by decide) ?_
    refine G.sub [] rfl ?_
    exact gX6_count_p23 _ _ _
theorem V.dX6_open_0 : decode cX6_open 0 = .ok (.iload_n 1, 1) := by decide +kernel
theorem V.dX6_open_1 : decode cX6_open 1 = .ok (.iconst 4, 1) := by decide +kernel
theorem V.dX6_open_2 : decode cX6_open 2 = .ok (.if_icmp .ne 8, 3) := by decide +kernel
theorem V.dX6_open_5 : decode cX6_open 5 = .ok (.aload_n 0, 1) := by decide +kernel
theorem V.dX6_open_6 : decode cX6_open 6 = .ok (.iconst 1, 1) := by decide +kernel
theorem V.dX6_open_7 : decode cX6_open 7 = .ok (.invokevirtual 96, 3) := by decide +kernel
theorem V.dX6_open_10 : decode cX6_open 10 = .ok (.iload_n 1, 1) := by decide +kernel
theorem V.dX6_open_11 : decode cX6_open 11 = .ok (.iconst 4, 1) := by decide +kernel
theorem V.dX6_open_12 : decode cX6_open 12 = .ok (.if_icmp .ne 14, 3) := by decide +kernel
theorem V.dX6_open_15 : decode cX6_open 15 = .ok (.aload_n 0, 1) := by decide +kernel
theorem V.dX6_open_16 : decode cX6_open 16 = .ok (.iconst 4, 1) := by decide +kernel
theorem V.dX6_open_17 : decode cX6_open 17 = .ok (.iconst 0, 1) := by decide +kernel
theorem V.dX6_open_18 : decode cX6_open 18 = .ok (.iconst 0, 1) := by decide +kernel
theorem V.dX6_open_19 : decode cX6_open 19 = .ok (.iconst 0, 1) := by decide +kernel
theorem V.dX6_open_20 : decode cX6_open 20 = .ok (.invokevirtual 92, 3) := by decide +kernel
theorem V.dX6_open_23 : decode cX6_open 23 = .ok (.goto 4, 3) := by decide +kernel
theorem V.dX6_open_26 : decode cX6_open 26 = .ok (.iconst (-1), 1) := by decide +kernel
theorem V.dX6_open_27 : decode cX6_open 27 = .ok (.istore 4, 2) := by decide +kernel
theorem V.dX6_open_29 : decode cX6_open 29 = .ok (.aload_n 0, 1) := by decide +kernel
theorem V.dX6_open_30 : decode cX6_open 30 = .ok (.iload_n 2, 1) := by decide +kernel
theorem V.dX6_open_31 : decode cX6_open 31 = .ok (.invokevirtual 96, 3) := by decide +kernel
theorem V.dX6_open_34 : decode cX6_open 34 = .ok (.aload_n 0, 1) := by decide +kernel
theorem V.dX6_open_35 : decode cX6_open 35 = .ok (.iload_n 1, 1) := by decide +kernel
theorem V.dX6_open_36 : decode cX6_open 36 = .ok (.iload_n 2, 1) := by decide +kernel
theorem V.dX6_open_37 : decode cX6_open 37 = .ok (.iload_n 3, 1) := by decide +kernel
theorem V.dX6_open_38 : decode cX6_open 38 = .ok (.invokevirtual 85, 3) := by decide +kernel
theorem V.dX6_open_41 : decode cX6_open 41 = .ok (.aload_n 0, 1) := by decide +kernel
theorem V.dX6_open_42 : decode cX6_open 42 = .ok (.getfield 50, 3) := by decide +kernel
theorem V.dX6_open_45 : decode cX6_open 45 = .ok (.aload_n 0, 1) := by decide +kernel
theorem V.dX6_open_46 : decode cX6_open 46 = .ok (.getfield 79, 3) := by decide +kernel
theorem V.dX6_open_49 : decode cX6_open 49 = .ok (.iconst 1, 1) := by decide +kernel
theorem V.dX6_open_50 : decode cX6_open 50 = .ok (.isub, 1) := by decide +kernel
theorem V.dX6_open_51 : decode cX6_open 51 = .ok (.iload 4, 2) := by decide +kernel
theorem V.dX6_open_53 : decode cX6_open 53 = .ok (.iastore, 1) := by decide +kernel
theorem V.dX6_open_54 : decode cX6_open 54 = .ok (.aload_n 0, 1) := by decide +kernel
theorem V.dX6_open_55 : decode cX6_open 55 = .ok (.iload_n 2, 1) := by decide +kernel
theorem V.dX6_open_56 : decode cX6_open 56 = .ok (.invokevirtual 99, 3) := by decide +kernel
theorem V.dX6_open_59 : decode cX6_open 59 = .ok (.aload_n 0, 1) := by decide +kernel
theorem V.dX6_open_60 : decode cX6_open 60 = .ok (.invokevirtual 102, 3) := by decide +kernel
theorem V.dX6_open_63 : decode cX6_open 63 = .ok (.return_, 1) := by decide +kernel
theorem V.mdX6_96 : MD RX6 96 yX6_take cX6_take 3 none 1 := ⟨Or.inl q2059, q366, q2062, by decide, by decide, by decide +kernel⟩
theorem V.mdX6_99 : MD RX6 99 yX6_put cX6_put 2 none 1 := ⟨Or.inl q2063, q366, q2066, by decide, by decide, by decide +kernel⟩
theorem V.mdX6_102 : MD RX6 102 yX6_count cX6_count 1 none 0 := ⟨Or.inl q2067, q366, q2070, by decide, by decide, by decide +kernel⟩
/-! ModuleEngine$Flat.open(III)V -/
def V.Flt_open_p27  (σ : HS) (x0 : Nat) (x1 : Int32) (x2 : Int32) (x3 : Int32) (s0 : Int32) : Option (Unit × HS) :=
  ck (tg σ x0 = 7) <| cl (Flt_take σ x0 x2) fun _ σ1 =>
  ck (tg σ1 x0 = 7) <| cl (Flt_label σ1 x0 x1 x2 x3) fun _ σ2 =>
  ck (tg σ2 x0 = 7) <|
  ck (tg σ2 x0 = 7) <|
  ck (tg σ2 (gR σ2 x0 15) = 100 ∧ inb ((gI σ2 x0 16) - (1 : Int32)) (ln σ2 (gR σ2 x0 15))) <| bn (sI σ2 (gR σ2 x0 15) (ix ((gI σ2 x0 16) - (1 : Int32))) s0) fun σ3 =>
  ck (tg σ3 x0 = 7) <| cl (Flt_put σ3 x0 x2) fun _ σ4 =>
  ck (tg σ4 x0 = 7) <| cl (Flt_count σ4 x0 ) fun _ σ5 =>
  some ((), σ5)
theorem V.gX6_open_p27 {X : CX}  (σ : HS) (x0 : Nat) (x1 : Int32) (x2 : Int32) (x3 : Int32) (s0 : Int32) : G X RX6 "open" cX6_open 5 none 1 26 enV 27 [(0, av x0), (1, iv x1), (2, iv x2), (3, iv x3)] [iv s0] σ (Flt_open_p27 σ x0 x1 x2 x3 s0) := by
  unfold Flt_open_p27
  refine g_istore dX6_open_27 (by decide) rfl ?_
  refine g_aload_n 0 1 dX6_open_29 rfl rfl ?_
  refine g_iload_n 2 3 dX6_open_30 rfl rfl ?_
  refine g_callV (fc := fun sς => Flt_take sς x0 x2) (ci := 6) (as := [iv x2]) rfl rfl rfl q2061 qs122 mdX6_96 (ctX6_take x0 x2) rfl (Nat.le_of_ble_eq_true rfl) (Nat.le_of_ble_eq_true rfl) (Nat.le_of_ble_eq_true rfl) pu_V dX6_open_31 (fun _ σ1 => ?_)
  refine g_aload_n 0 1 dX6_open_34 rfl rfl ?_
  refine g_iload_n 1 2 dX6_open_35 rfl rfl ?_
  refine g_iload_n 2 3 dX6_open_36 rfl rfl ?_
  refine g_iload_n 3 4 dX6_open_37 rfl rfl ?_
  refine g_callV (fc := fun sς => Flt_label sς x0 x1 x2 x3) (ci := 6) (as := [iv x1, iv x2, iv x3]) rfl rfl rfl q2033 qs117 mdX6_85 (ctX6_label x0 x1 x2 x3) rfl (Nat.le_of_ble_eq_true rfl) (Nat.le_of_ble_eq_true rfl) (Nat.le_of_ble_eq_true rfl) pu_V dX6_open_38 (fun _ σ2 => ?_)
  refine g_aload_n 0 1 dX6_open_41 rfl rfl ?_
  refine g_getR fdX6_50 dX6_open_42 ?_
  refine g_aload_n 0 1 dX6_open_45 rfl rfl ?_
  refine g_getI fdX6_79 dX6_open_46 ?_
  refine g_iconst (v := 1) dX6_open_49 (by decide) ?_
  refine g_isub dX6_open_50 ?_
  refine g_iload 0 dX6_open_51 rfl ?_
  refine g_iastore dX6_open_53 (fun σ3 => ?_)
  refine g_aload_n 0 1 dX6_open_54 rfl rfl ?_
  refine g_iload_n 2 3 dX6_open_55 rfl rfl ?_
  refine g_callV (fc := fun sς => Flt_put sς x0 x2) (ci := 6) (as := [iv x2]) rfl rfl rfl q2065 qs123 mdX6_99 (ctX6_put x0 x2) rfl (Nat.le_of_ble_eq_true rfl) (Nat.le_of_ble_eq_true rfl) (Nat.le_of_ble_eq_true rfl) pu_V dX6_open_56 (fun _ σ4 => ?_)
  refine g_aload_n 0 1 dX6_open_59 rfl rfl ?_
  refine g_callV (fc := fun sς => Flt_count sς x0 ) (ci := 6) (as := []) rfl rfl rfl q2069 qs124 mdX6_102 (ctX6_count x0 ) rfl (Nat.le_of_ble_eq_true rfl) (Nat.le_of_ble_eq_true rfl) (Nat.le_of_ble_eq_true rfl) pu_V dX6_open_60 (fun _ σ5 => ?_)
  exact g_return rfl dX6_open_63
def V.Flt_open_p10  (σ : HS) (x0 : Nat) (x1 : Int32) (x2 : Int32) (x3 : Int32) : Option (Unit × HS) :=
  if x1 = (4 : Int32) then (
    ck (tg σ x0 = 7) <| cl (Flt_emit σ x0 (4 : Int32) (0 : Int32) (0 : Int32) (0 : Int32)) fun r2 σ1 =>
    Flt_open_p27 σ1 x0 x1 x2 x3 r2)
  else (
    Flt_open_p27 σ x0 x1 x2 x3 (-1 : Int32))
theorem V.gX6_open_p10 {X : CX}  (σ : HS) (x0 : Nat) (x1 : Int32) (x2 : Int32) (x3 : Int32) : G X RX6 "open" cX6_open 5 none 1 26 enV 10 [(0, av x0), (1, iv x1), (2, iv x2), (3, iv x3)] [] σ (Flt_open_p10 σ x0 x1 x2 x3) := by
  unfold Flt_open_p10
  refine g_iload_n 1 1 dX6_open_10 rfl rfl ?_
  refine g_iconst (v := 4) dX6_open_11 (by decide) ?_
  refine g_icmp_ne 26 dX6_open_12 (by decide) ?_ ?_
  · refine g_iconst (v := (-1)) dX6_open_26 (by decide) ?_
    exact gX6_open_p27 _ _ _ _ _ _
  · refine g_aload_n 0 0 dX6_open_15 rfl rfl ?_
    refine g_iconst (v := 4) dX6_open_16 (by decide) ?_
    refine g_iconst (v := 0) dX6_open_17 (by decide) ?_
    refine g_iconst (v := 0) dX6_open_18 (by decide) ?_
    refine g_iconst (v := 0) dX6_open_19 (by decide) ?_
    refine g_callV (fc := fun sς => Flt_emit sς x0 (4 : Int32) (0 : Int32) (0 : Int32) (0 : Int32)) (ci := 6) (as := [iv (4 : Int32), iv (0 : Int32), iv (0 : Int32), iv (0 : Int32)]) rfl rfl rfl q2045 qs119 mdX6_92 (ctX6_emit x0 (4 : Int32) (0 : Int32) (0 : Int32) (0 : Int32)) rfl (Nat.le_of_ble_eq_true rfl) (Nat.le_of_ble_eq_true rfl) (Nat.le_of_ble_eq_true rfl) pu_I dX6_open_20 (fun r2 σ1 => ?_)
    refine g_goto 27 dX6_open_23 (by decide) ?_
    exact gX6_open_p27 _ _ _ _ _ _
def V.Flt_open (σ : HS) (x0 : Nat) (x1 : Int32) (x2 : Int32) (x3 : Int32) : Option (Unit × HS) :=
  if x1 = (4 : Int32) then (
    ck (tg σ x0 = 7) <| cl (Flt_take σ x0 (1 : Int32)) fun _ σ1 =>
    Flt_open_p10 σ1 x0 x1 x2 x3)
  else (
    Flt_open_p10 σ x0 x1 x2 x3)
theorem V.ctX6_open (x0 : Nat) (x1 : Int32) (x2 : Int32) (x3 : Int32) : Ct yX6_open  cX6_open 5 none 1 26 eV [av x0, iv x1, iv x2, iv x3] (fun σ => Flt_open σ x0 x1 x2 x3) := by
  refine Ct.of (own := RX6) (nm := "open") (desc := "(III)V") rfl (by decide) (Nat.le_of_ble_eq_true rfl) (by decide) (fun X σ => ?_)
  show G X RX6 "open" cX6_open 5 none 1 26 enV 0 [(0, av x0), (1, iv x1), (2, iv x2), (3, iv x3)] [] σ (Flt_open σ x0 x1 x2 x3)
  unfold Flt_open
  refine g_iload_n 1 1 dX6_open_0 rfl rfl ?_
  refine g_iconst (v := 4) dX6_open_1 (by decide) ?_
  refine g_icmp_ne 10 dX6_open_2 (by decide) ?_ ?_
  · exact gX6_open_p10 _ _ _ _ _
  · refine g_aload_n 0 0 dX6_open_5 rfl rfl ?_
    refine g_iconst (v := 1) dX6_open_6 (by decide) ?_
    refine g_callV (fc := fun sς => Flt_take sς x0 (1 : Int32)) (ci := 6) (as := [iv (1 : Int32)]) rfl rfl rfl q2061 qs122 mdX6_96 (ctX6_take x0 (1 : Int32)) rfl (Nat.le_of_ble_eq_true rfl) (Nat.le_of_ble_eq_true rfl) (Nat.le_of_ble_eq_true rfl) pu_V dX6_open_7 (fun _ σ1 => ?_)
    exact gX6_open_p10 _ _ _ _ _
theorem V.dX6_otherPart_0 : decode cX6_otherPart 0 = .ok (.aload_n 0, 1) := by decide +kernel
theorem V.dX6_otherPart_1 : decode cX6_otherPart 1 = .ok (.getfield 79, 3) := by decide +kernel
theorem V.dX6_otherPart_4 : decode cX6_otherPart 4 = .ok (.iconst 1, 1) := by decide +kernel
theorem V.dX6_otherPart_5 : decode cX6_otherPart 5 = .ok (.isub, 1) := by decide +kernel
theorem V.dX6_otherPart_6 : decode cX6_otherPart 6 = .ok (.istore_n 1, 1) := by decide +kernel
theorem V.dX6_otherPart_7 : decode cX6_otherPart 7 = .ok (.aload_n 0, 1) := by decide +kernel
theorem V.dX6_otherPart_8 : decode cX6_otherPart 8 = .ok (.iconst 5, 1) := by decide +kernel
theorem V.dX6_otherPart_9 : decode cX6_otherPart 9 = .ok (.aload_n 0, 1) := by decide +kernel
theorem V.dX6_otherPart_10 : decode cX6_otherPart 10 = .ok (.getfield 47, 3) := by decide +kernel
theorem V.dX6_otherPart_13 : decode cX6_otherPart 13 = .ok (.iload_n 1, 1) := by decide +kernel
theorem V.dX6_otherPart_14 : decode cX6_otherPart 14 = .ok (.iaload, 1) := by decide +kernel
theorem V.dX6_otherPart_15 : decode cX6_otherPart 15 = .ok (.iconst 0, 1) := by decide +kernel
theorem V.dX6_otherPart_16 : decode cX6_otherPart 16 = .ok (.iconst 0, 1) := by decide +kernel
theorem V.dX6_otherPart_17 : decode cX6_otherPart 17 = .ok (.invokevirtual 92, 3) := by decide +kernel
theorem V.dX6_otherPart_20 : decode cX6_otherPart 20 = .ok (.istore_n 2, 1) := by decide +kernel
theorem V.dX6_otherPart_21 : decode cX6_otherPart 21 = .ok (.aload_n 0, 1) := by decide +kernel
theorem V.dX6_otherPart_22 : decode cX6_otherPart 22 = .ok (.getfield 47, 3) := by decide +kernel
theorem V.dX6_otherPart_25 : decode cX6_otherPart 25 = .ok (.iload_n 1, 1) := by decide +kernel
theorem V.dX6_otherPart_26 : decode cX6_otherPart 26 = .ok (.iload_n 2, 1) := by decide +kernel
theorem V.dX6_otherPart_27 : decode cX6_otherPart 27 = .ok (.iastore, 1) := by decide +kernel
theorem V.dX6_otherPart_28 : decode cX6_otherPart 28 = .ok (.aload_n 0, 1) := by decide +kernel
theorem V.dX6_otherPart_29 : decode cX6_otherPart 29 = .ok (.getfield 7, 3) := by decide +kernel
theorem V.dX6_otherPart_32 : decode cX6_otherPart 32 = .ok (.iconst 4, 1) := by decide +kernel
theorem V.dX6_otherPart_33 : decode cX6_otherPart 33 = .ok (.aload_n 0, 1) := by decide +kernel
theorem V.dX6_otherPart_34 : decode cX6_otherPart 34 = .ok (.getfield 50, 3) := by decide +kernel
theorem V.dX6_otherPart_37 : decode cX6_otherPart 37 = .ok (.iload_n 1, 1) := by decide +kernel
theorem V.dX6_otherPart_38 : decode cX6_otherPart 38 = .ok (.iaload, 1) := by decide +kernel
theorem V.dX6_otherPart_39 : decode cX6_otherPart 39 = .ok (.imul, 1) := by decide +kernel
theorem V.dX6_otherPart_40 : decode cX6_otherPart 40 = .ok (.iconst 1, 1) := by decide +kernel
theorem V.dX6_otherPart_41 : decode cX6_otherPart 41 = .ok (.iadd, 1) := by decide +kernel
theorem V.dX6_otherPart_42 : decode cX6_otherPart 42 = .ok (.aload_n 0, 1) := by decide +kernel
theorem V.dX6_otherPart_43 : decode cX6_otherPart 43 = .ok (.getfield 68, 3) := by decide +kernel
theorem V.dX6_otherPart_46 : decode cX6_otherPart 46 = .ok (.iastore, 1) := by decide +kernel
theorem V.dX6_otherPart_47 : decode cX6_otherPart 47 = .ok (.aload_n 0, 1) := by decide +kernel
theorem V.dX6_otherPart_48 : decode cX6_otherPart 48 = .ok (.getfield 32, 3) := by decide +kernel
theorem V.dX6_otherPart_51 : decode cX6_otherPart 51 = .ok (.iload_n 1, 1) := by decide +kernel
theorem V.dX6_otherPart_52 : decode cX6_otherPart 52 = .ok (.iconst 5, 1) := by decide +kernel
theorem V.dX6_otherPart_53 : decode cX6_otherPart 53 = .ok (.iastore, 1) := by decide +kernel
theorem V.dX6_otherPart_54 : decode cX6_otherPart 54 = .ok (.aload_n 0, 1) := by decide +kernel
theorem V.dX6_otherPart_55 : decode cX6_otherPart 55 = .ok (.aload_n 0, 1) := by decide +kernel
theorem V.dX6_otherPart_56 : decode cX6_otherPart 56 = .ok (.getfield 41, 3) := by decide +kernel
theorem V.dX6_otherPart_59 : decode cX6_otherPart 59 = .ok (.iload_n 1, 1) := by decide +kernel
theorem V.dX6_otherPart_60 : decode cX6_otherPart 60 = .ok (.iaload, 1) := by decide +kernel
theorem V.dX6_otherPart_61 : decode cX6_otherPart 61 = .ok (.putfield 82, 3) := by decide +kernel
theorem V.dX6_otherPart_64 : decode cX6_otherPart 64 = .ok (.aload_n 0, 1) := by decide +kernel
theorem V.dX6_otherPart_65 : decode cX6_otherPart 65 = .ok (.aload_n 0, 1) := by decide +kernel
theorem V.dX6_otherPart_66 : decode cX6_otherPart 66 = .ok (.getfield 35, 3) := by decide +kernel
theorem V.dX6_otherPart_69 : decode cX6_otherPart 69 = .ok (.iload_n 1, 1) := by decide +kernel
theorem V.dX6_otherPart_70 : decode cX6_otherPart 70 = .ok (.iaload, 1) := by decide +kernel
theorem V.dX6_otherPart_71 : decode cX6_otherPart 71 = .ok (.invokevirtual 99, 3) := by decide +kernel
theorem V.dX6_otherPart_74 : decode cX6_otherPart 74 = .ok (.aload_n 0, 1) := by decide +kernel
theorem V.dX6_otherPart_75 : decode cX6_otherPart 75 = .ok (.invokevirtual 102, 3) := by decide +kernel
theorem V.dX6_otherPart_78 : decode cX6_otherPart 78 = .ok (.return_, 1) := by decide +kernel
/-! ModuleEngine$Flat.otherPart()V -/
def V.Flt_otherPart (σ : HS) (x0 : Nat) : Option (Unit × HS) :=
  ck (tg σ x0 = 7) <|
  bn ((gI σ x0 16) - (1 : Int32)) fun y1 =>
  ck (tg σ x0 = 7) <|
  ck (tg σ (gR σ x0 14) = 100 ∧ inb y1 (ln σ (gR σ x0 14))) <|
  ck (tg σ x0 = 7) <| cl (Flt_emit σ x0 (5 : Int32) (gI σ (gR σ x0 14) (ix y1)) (0 : Int32) (0 : Int32)) fun r3 σ2 =>
  ck (tg σ2 x0 = 7) <|
  ck (tg σ2 (gR σ2 x0 14) = 100 ∧ inb y1 (ln σ2 (gR σ2 x0 14))) <| bn (sI σ2 (gR σ2 x0 14) (ix y1) r3) fun σ4 =>
  ck (tg σ4 x0 = 7) <|
  ck (tg σ4 x0 = 7) <|
  ck (tg σ4 (gR σ4 x0 15) = 100 ∧ inb y1 (ln σ4 (gR σ4 x0 15))) <|
  ck (tg σ4 x0 = 7) <|
  ck (tg σ4 (gR σ4 x0 1) = 100 ∧ inb (((4 : Int32) * (gI σ4 (gR σ4 x0 15) (ix y1))) + (1 : Int32)) (ln σ4 (gR σ4 x0 1))) <| bn (sI σ4 (gR σ4 x0 1) (ix (((4 : Int32) * (gI σ4 (gR σ4 x0 15) (ix y1))) + (1 : Int32))) (gI σ4 x0 2)) fun σ5 =>
  ck (tg σ5 x0 = 7) <|
  ck (tg σ5 (gR σ5 x0 9) = 100 ∧ inb y1 (ln σ5 (gR σ5 x0 9))) <| bn (sI σ5 (gR σ5 x0 9) (ix y1) (5 : Int32)) fun σ6 =>
  ck (tg σ6 x0 = 7) <|
  ck (tg σ6 (gR σ6 x0 12) = 100 ∧ inb y1 (ln σ6 (gR σ6 x0 12))) <|
  ck (tg σ6 x0 = 7) <| bn (sI σ6 x0 17 (gI σ6 (gR σ6 x0 12) (ix y1))) fun σ7 =>
  ck (tg σ7 x0 = 7) <|
  ck (tg σ7 (gR σ7 x0 10) = 100 ∧ inb y1 (ln σ7 (gR σ7 x0 10))) <|
  ck (tg σ7 x0 = 7) <| cl (Flt_put σ7 x0 (gI σ7 (gR σ7 x0 10) (ix y1))) fun _ σ8 =>
  ck (tg σ8 x0 = 7) <| cl (Flt_count σ8 x0 ) fun _ σ9 =>
  some ((), σ9)
theorem V.ctX6_otherPart (x0 : Nat) : Ct yX6_otherPart  cX6_otherPart 3 none 1 26 eV [av x0] (fun σ => Flt_otherPart σ x0) := by
  refine Ct.of (own := RX6) (nm := "otherPart") (desc := "()V") rfl (by decide) (Nat.le_of_ble_eq_true rfl) (by decide) (fun X σ => ?_)
  show G X RX6 "otherPart" cX6_otherPart 3 none 1 26 enV 0 [(0, av x0)] [] σ (Flt_otherPart σ x0)
  unfold Flt_otherPart
  refine g_aload_n 0 0 dX6_otherPart_0 rfl rfl ?_
  refine g_getI fdX6_79 dX6_otherPart_1 ?_
  refine g_iconst (v := 1) dX6_otherPart_4 (by decide) ?_
  refine g_isub dX6_otherPart_5 ?_
  refine g_nmI (fun y1 => ?_)
  refine g_istore_n 1 dX6_otherPart_6 rfl (by decide) rfl ?_
  refine g_aload_n 0 1 dX6_otherPart_7 rfl rfl ?_
  refine g_iconst (v := 5) dX6_otherPart_8 (by decide) ?_
  refine g_aload_n 0 1 dX6_otherPart_9 rfl rfl ?_
  refine g_getR fdX6_47 dX6_otherPart_10 ?_
  refine g_iload_n 1 0 dX6_otherPart_13 rfl rfl ?_
  refine g_iaload dX6_otherPart_14 ?_
  refine g_iconst (v := 0) dX6_otherPart_15 (by decide) ?_
  refine g_iconst (v := 0) dX6_otherPart_16 (by decide) ?_
  refine g_callV (fc := fun sς => Flt_emit sς x0 (5 : Int32) (gI σ (gR σ x0 14) (ix y1)) (0 : Int32) (0 : Int32)) (ci := 6) (as := [iv (5 : Int32), iv (gI σ (gR σ x0 14) (ix y1)), iv (0 : Int32), iv (0 : Int32)]) rfl rfl rfl q2045 qs119 mdX6_92 (ctX6_emit x0 (5 : Int32) (gI σ (gR σ x0 14) (ix y1)) (0 : Int32) (0 : Int32)) rfl (Nat.le_of_ble_eq_true rfl) (Nat.le_of_ble_eq_true rfl) (Nat.le_of_ble_eq_true rfl) pu_I dX6_otherPart_17 (fun r3 σ2 => ?_)
  refine g_istore_n 2 dX6_otherPart_20 rfl (by decide) rfl ?_
  refine g_aload_n 0 2 dX6_otherPart_21 rfl rfl ?_
  refine g_getR fdX6_47 dX6_otherPart_22 ?_
  refine g_iload_n 1 1 dX6_otherPart_25 rfl rfl ?_
  refine g_iload_n 2 0 dX6_otherPart_26 rfl rfl ?_
  refine g_iastore dX6_otherPart_27 (fun σ4 => ?_)
  refine g_aload_n 0 2 dX6_otherPart_28 rfl rfl ?_
  refine g_getR fdX6_7 dX6_otherPart_29 ?_
  refine g_iconst (v := 4) dX6_otherPart_32 (by decide) ?_
  refine g_aload_n 0 2 dX6_otherPart_33 rfl rfl ?_
  refine g_getR fdX6_50 dX6_otherPart_34 ?_
  refine g_iload_n 1 1 dX6_otherPart_37 rfl rfl ?_
  refine g_iaload dX6_otherPart_38 ?_
  refine g_imul dX6_otherPart_39 ?_
  refine g_iconst (v := 1) dX6_otherPart_40 (by decide) ?_
  refine g_iadd dX6_otherPart_41 ?_
  refine g_aload_n 0 2 dX6_otherPart_42 rfl rfl ?_
  refine g_getI fdX6_68 dX6_otherPart_43 ?_
  refine g_iastore dX6_otherPart_46 (fun σ5 => ?_)
  refine g_aload_n 0 2 dX6_otherPart_47 rfl rfl ?_
  refine g_getR fdX6_32 dX6_otherPart_48 ?_
  refine g_iload_n 1 1 dX6_otherPart_51 rfl rfl ?_
  refine g_iconst (v := 5) dX6_otherPart_52 (by decide) ?_
  refine g_iastore dX6_otherPart_53 (fun σ6 => ?_)
  refine g_aload_n 0 2 dX6_otherPart_54 rfl rfl ?_
  refine g_aload_n 0 2 dX6_otherPart_55 rfl rfl ?_
  refine g_getR fdX6_41 dX6_otherPart_56 ?_
  refine g_iload_n 1 1 dX6_otherPart_59 rfl rfl ?_
  refine g_iaload dX6_otherPart_60 ?_
  refine g_putI fpX6_82 dX6_otherPart_61 (fun σ7 => ?_)
  refine g_aload_n 0 2 dX6_otherPart_64 rfl rfl ?_
  refine g_aload_n 0 2 dX6_otherPart_65 rfl rfl ?_
  refine g_getR fdX6_35 dX6_otherPart_66 ?_
  refine g_iload_n 1 1 dX6_otherPart_69 rfl rfl ?_
  refine g_iaload dX6_otherPart_70 ?_
  refine g_callV (fc := fun sς => Flt_put sς x0 (gI σ7 (gR σ7 x0 10) (ix y1))) (ci := 6) (as := [iv (gI σ7 (gR σ7 x0 10) (ix y1))]) rfl rfl rfl q2065 qs123 mdX6_99 (ctX6_put x0 (gI σ7 (gR σ7 x0 10) (ix y1))) rfl (Nat.le_of_ble_eq_true rfl) (Nat.le_of_ble_eq_true rfl) (Nat.le_of_ble_eq_true rfl) pu_V dX6_otherPart_71 (fun _ σ8 => ?_)
  refine g_aload_n 0 2 dX6_otherPart_74 rfl rfl ?_
  refine g_callV (fc := fun sς => Flt_count sς x0 ) (ci := 6) (as := []) rfl rfl rfl q2069 qs124 mdX6_102 (ctX6_count x0 ) rfl (Nat.le_of_ble_eq_true rfl) (Nat.le_of_ble_eq_true rfl) (Nat.le_of_ble_eq_true rfl) pu_V dX6_otherPart_75 (fun _ σ9 => ?_)
  exact g_return rfl dX6_otherPart_78
theorem V.dX6_patch_0 : decode cX6_patch 0 = .ok (.aload_n 0, 1) := by decide +kernel
theorem V.dX6_patch_1 : decode cX6_patch 1 = .ok (.getfield 47, 3) := by decide +kernel
theorem V.dX6_patch_4 : decode cX6_patch 4 = .ok (.iload_n 1, 1) := by decide +kernel
theorem V.dX6_patch_5 : decode cX6_patch 5 = .ok (.iaload, 1) := by decide +kernel
theorem V.dX6_patch_6 : decode cX6_patch 6 = .ok (.istore_n 2, 1) := by decide +kernel
theorem V.dX6_patch_7 : decode cX6_patch 7 = .ok (.iload_n 2, 1) := by decide +kernel
theorem V.dX6_patch_8 : decode cX6_patch 8 = .ok (.ifCond .lt 33, 3) := by decide +kernel
theorem V.dX6_patch_11 : decode cX6_patch 11 = .ok (.aload_n 0, 1) := by decide +kernel
theorem V.dX6_patch_12 : decode cX6_patch 12 = .ok (.getfield 7, 3) := by decide +kernel
theorem V.dX6_patch_15 : decode cX6_patch 15 = .ok (.iconst 4, 1) := by decide +kernel
theorem V.dX6_patch_16 : decode cX6_patch 16 = .ok (.iload_n 2, 1) := by decide +kernel
theorem V.dX6_patch_17 : decode cX6_patch 17 = .ok (.imul, 1) := by decide +kernel
theorem V.dX6_patch_18 : decode cX6_patch 18 = .ok (.iconst 1, 1) := by decide +kernel
theorem V.dX6_patch_19 : decode cX6_patch 19 = .ok (.iadd, 1) := by decide +kernel
theorem V.dX6_patch_20 : decode cX6_patch 20 = .ok (.iaload, 1) := by decide +kernel
theorem V.dX6_patch_21 : decode cX6_patch 21 = .ok (.istore_n 3, 1) := by decide +kernel
theorem V.dX6_patch_22 : decode cX6_patch 22 = .ok (.aload_n 0, 1) := by decide +kernel
theorem V.dX6_patch_23 : decode cX6_patch 23 = .ok (.getfield 7, 3) := by decide +kernel
theorem V.dX6_patch_26 : decode cX6_patch 26 = .ok (.iconst 4, 1) := by decide +kernel
theorem V.dX6_patch_27 : decode cX6_patch 27 = .ok (.iload_n 2, 1) := by decide +kernel
theorem V.dX6_patch_28 : decode cX6_patch 28 = .ok (.imul, 1) := by decide +kernel
theorem V.dX6_patch_29 : decode cX6_patch 29 = .ok (.iconst 1, 1) := by decide +kernel
theorem V.dX6_patch_30 : decode cX6_patch 30 = .ok (.iadd, 1) := by decide +kernel
theorem V.dX6_patch_31 : decode cX6_patch 31 = .ok (.aload_n 0, 1) := by decide +kernel
theorem V.dX6_patch_32 : decode cX6_patch 32 = .ok (.getfield 68, 3) := by decide +kernel
theorem V.dX6_patch_35 : decode cX6_patch 35 = .ok (.iastore, 1) := by decide +kernel
theorem V.dX6_patch_36 : decode cX6_patch 36 = .ok (.iload_n 3, 1) := by decide +kernel
theorem V.dX6_patch_37 : decode cX6_patch 37 = .ok (.istore_n 2, 1) := by decide +kernel
theorem V.dX6_patch_38 : decode cX6_patch 38 = .ok (.goto (-31), 3) := by decide +kernel
theorem V.dX6_patch_41 : decode cX6_patch 41 = .ok (.return_, 1) := by decide +kernel
/-! ModuleEngine$Flat.patch(I)V -/
def V.Flt_patch_p7  : Nat → HS → Nat → Int32 → Option (Unit × HS)
  | 0, _, _, _ => none
  | n + 1, σ, x0, x2 =>
    if x2 < 0 then (
      some ((), σ))
    else (
      ck (tg σ x0 = 7) <|
      ck (tg σ (gR σ x0 1) = 100 ∧ inb (((4 : Int32) * x2) + (1 : Int32)) (ln σ (gR σ x0 1))) <|
      bn (gI σ (gR σ x0 1) (ix (((4 : Int32) * x2) + (1 : Int32)))) fun y1 =>
      ck (tg σ x0 = 7) <|
      ck (tg σ x0 = 7) <|
      ck (tg σ (gR σ x0 1) = 100 ∧ inb (((4 : Int32) * x2) + (1 : Int32)) (ln σ (gR σ x0 1))) <| bn (sI σ (gR σ x0 1) (ix (((4 : Int32) * x2) + (1 : Int32))) (gI σ x0 2)) fun σ2 =>
      Flt_patch_p7 n σ2 x0 y1)
theorem V.gX6_patch_p7 {X : CX}  : ∀ (n : Nat) (σ : HS) (x0 : Nat) (x2 : Int32), G X RX6 "patch" cX6_patch 4 none 0 0 enV 7 [(0, av x0), (2, iv x2)] [] σ (Flt_patch_p7 n σ x0 x2)
  | 0, σ, x0, x2 => by rw [Flt_patch_p7]; exact G.nul
  | n + 1, σ, x0, x2 => by
    rw [Flt_patch_p7]
    refine g_iload_n 2 1 dX6_patch_7 rfl rfl ?_
    refine g_if_lt 41 dX6_patch_8 (by decide) ?_ ?_
    · exact g_return rfl dX6_patch_41
    · refine g_aload_n 0 0 dX6_patch_11 rfl rfl ?_
      refine g_getR fdX6_7 dX6_patch_12 ?_
      refine g_iconst (v := 4) dX6_patch_15 (by decide) ?_
      refine g_iload_n 2 1 dX6_patch_16 rfl rfl ?_
      refine g_imul dX6_patch_17 ?_
      refine g_iconst (v := 1) dX6_patch_18 (by decide) ?_
      refine g_iadd dX6_patch_19 ?_
      refine g_iaload dX6_patch_20 ?_
      refine g_nmI (fun y1 => ?_)
      refine g_istore_n 3 dX6_patch_21 rfl (by decide) rfl ?_
      refine g_aload_n 0 1 dX6_patch_22 rfl rfl ?_
      refine g_getR fdX6_7 dX6_patch_23 ?_
      refine g_iconst (v := 4) dX6_patch_26 (by decide) ?_
      refine g_iload_n 2 2 dX6_patch_27 rfl rfl ?_
      refine g_imul dX6_patch_28 ?_
      refine g_iconst (v := 1) dX6_patch_29 (by decide) ?_
      refine g_iadd dX6_patch_30 ?_
      refine g_aload_n 0 1 dX6_patch_31 rfl rfl ?_
      refine g_getI fdX6_68 dX6_patch_32 ?_
      refine g_iastore dX6_patch_35 (fun σ2 => ?_)
      refine g_iload_n 3 0 dX6_patch_36 rfl rfl ?_
      refine g_istore_n 2 dX6_patch_37 rfl (by decide) rfl ?_
      refine g_goto 7 dX6_patch_38 (by decide) ?_
      refine G.sub [2, 0] rfl ?_
      exact gX6_patch_p7 n _ _ _
def V.Flt_patch (σ : HS) (x0 : Nat) (x1 : Int32) : Option (Unit × HS) :=
  ck (tg σ x0 = 7) <|
  ck (tg σ (gR σ x0 14) = 100 ∧ inb x1 (ln σ (gR σ x0 14))) <|
  bn (gI σ (gR σ x0 14) (ix x1)) fun y1 =>
  Flt_patch_p7 FU σ x0 y1
theorem V.ctX6_patch (x0 : Nat) (x1 : Int32) : Ct yX6_patch  cX6_patch 4 none 0 0 eV [av x0, iv x1] (fun σ => Flt_patch σ x0 x1) := by
  refine Ct.of (own := RX6) (nm := "patch") (desc := "(I)V") rfl (by decide) (Nat.le_of_ble_eq_true rfl) (by decide) (fun X σ => ?_)
  show G X RX6 "patch" cX6_patch 4 none 0 0 enV 0 [(0, av x0), (1, iv x1)] [] σ (Flt_patch σ x0 x1)
  unfold Flt_patch
  refine g_aload_n 0 0 dX6_patch_0 rfl rfl ?_
  refine g_getR fdX6_47 dX6_patch_1 ?_
  refine g_iload_n 1 1 dX6_patch_4 rfl rfl ?_
  refine g_iaload dX6_patch_5 ?_
  refine g_nmI (fun y1 => ?_)
  refine g_istore_n 2 dX6_patch_6 rfl (by decide) rfl ?_
  refine G.sub [1, 0] rfl ?_
  exact gX6_patch_p7 FU _ _ _
theorem V.dX6_close_0 : decode cX6_close 0 = .ok (.aload_n 0, 1) := by decide +kernel
theorem V.dX6_close_1 : decode cX6_close 1 = .ok (.getfield 79, 3) := by decide +kernel
theorem V.dX6_close_4 : decode cX6_close 4 = .ok (.iconst 1, 1) := by decide +kernel
theorem V.dX6_close_5 : decode cX6_close 5 = .ok (.isub, 1) := by decide +kernel
theorem V.dX6_close_6 : decode cX6_close 6 = .ok (.istore_n 1, 1) := by decide +kernel
theorem V.dX6_close_7 : decode cX6_close 7 = .ok (.aload_n 0, 1) := by decide +kernel
theorem V.dX6_close_8 : decode cX6_close 8 = .ok (.getfield 32, 3) := by decide +kernel
theorem V.dX6_close_11 : decode cX6_close 11 = .ok (.iload_n 1, 1) := by decide +kernel
theorem V.dX6_close_12 : decode cX6_close 12 = .ok (.iaload, 1) := by decide +kernel
theorem V.dX6_close_13 : decode cX6_close 13 = .ok (.iconst 4, 1) := by decide +kernel
theorem V.dX6_close_14 : decode cX6_close 14 = .ok (.if_icmp .ne 22, 3) := by decide +kernel
theorem V.dX6_close_17 : decode cX6_close 17 = .ok (.aload_n 0, 1) := by decide +kernel
theorem V.dX6_close_18 : decode cX6_close 18 = .ok (.getfield 7, 3) := by decide +kernel
theorem V.dX6_close_21 : decode cX6_close 21 = .ok (.iconst 4, 1) := by decide +kernel
theorem V.dX6_close_22 : decode cX6_close 22 = .ok (.aload_n 0, 1) := by decide +kernel
theorem V.dX6_close_23 : decode cX6_close 23 = .ok (.getfield 50, 3) := by decide +kernel
theorem V.dX6_close_26 : decode cX6_close 26 = .ok (.iload_n 1, 1) := by decide +kernel
theorem V.dX6_close_27 : decode cX6_close 27 = .ok (.iaload, 1) := by decide +kernel
theorem V.dX6_close_28 : decode cX6_close 28 = .ok (.imul, 1) := by decide +kernel
theorem V.dX6_close_29 : decode cX6_close 29 = .ok (.iconst 1, 1) := by decide +kernel
theorem V.dX6_close_30 : decode cX6_close 30 = .ok (.iadd, 1) := by decide +kernel
theorem V.dX6_close_31 : decode cX6_close 31 = .ok (.aload_n 0, 1) := by decide +kernel
theorem V.dX6_close_32 : decode cX6_close 32 = .ok (.getfield 68, 3) := by decide +kernel
theorem V.dX6_close_35 : decode cX6_close 35 = .ok (.iastore, 1) := by decide +kernel
theorem V.dX6_close_36 : decode cX6_close 36 = .ok (.aload_n 0, 1) := by decide +kernel
theorem V.dX6_close_37 : decode cX6_close 37 = .ok (.iload_n 1, 1) := by decide +kernel
theorem V.dX6_close_38 : decode cX6_close 38 = .ok (.invokevirtual 105, 3) := by decide +kernel
theorem V.dX6_close_41 : decode cX6_close 41 = .ok (.aload_n 0, 1) := by decide +kernel
theorem V.dX6_close_42 : decode cX6_close 42 = .ok (.aload_n 0, 1) := by decide +kernel
theorem V.dX6_close_43 : decode cX6_close 43 = .ok (.getfield 41, 3) := by decide +kernel
theorem V.dX6_close_46 : decode cX6_close 46 = .ok (.iload_n 1, 1) := by decide +kernel
theorem V.dX6_close_47 : decode cX6_close 47 = .ok (.iaload, 1) := by decide +kernel
theorem V.dX6_close_48 : decode cX6_close 48 = .ok (.putfield 82, 3) := by decide +kernel
theorem V.dX6_close_51 : decode cX6_close 51 = .ok (.aload_n 0, 1) := by decide +kernel
theorem V.dX6_close_52 : decode cX6_close 52 = .ok (.dup, 1) := by decide +kernel
theorem V.dX6_close_53 : decode cX6_close 53 = .ok (.getfield 79, 3) := by decide +kernel
theorem V.dX6_close_56 : decode cX6_close 56 = .ok (.iconst 1, 1) := by decide +kernel
theorem V.dX6_close_57 : decode cX6_close 57 = .ok (.isub, 1) := by decide +kernel
theorem V.dX6_close_58 : decode cX6_close 58 = .ok (.putfield 79, 3) := by decide +kernel
theorem V.dX6_close_61 : decode cX6_close 61 = .ok (.aload_n 0, 1) := by decide +kernel
theorem V.dX6_close_62 : decode cX6_close 62 = .ok (.getfield 79, 3) := by decide +kernel
theorem V.dX6_close_65 : decode cX6_close 65 = .ok (.ifCond .le 19, 3) := by decide +kernel
theorem V.dX6_close_68 : decode cX6_close 68 = .ok (.aload_n 0, 1) := by decide +kernel
theorem V.dX6_close_69 : decode cX6_close 69 = .ok (.aload_n 0, 1) := by decide +kernel
theorem V.dX6_close_70 : decode cX6_close 70 = .ok (.getfield 38, 3) := by decide +kernel
theorem V.dX6_close_73 : decode cX6_close 73 = .ok (.iload_n 1, 1) := by decide +kernel
theorem V.dX6_close_74 : decode cX6_close 74 = .ok (.iaload, 1) := by decide +kernel
theorem V.dX6_close_75 : decode cX6_close 75 = .ok (.invokevirtual 99, 3) := by decide +kernel
theorem V.dX6_close_78 : decode cX6_close 78 = .ok (.aload_n 0, 1) := by decide +kernel
theorem V.dX6_close_79 : decode cX6_close 79 = .ok (.invokevirtual 102, 3) := by decide +kernel
theorem V.dX6_close_82 : decode cX6_close 82 = .ok (.iconst 0, 1) := by decide +kernel
theorem V.dX6_close_83 : decode cX6_close 83 = .ok (.ireturn, 1) := by decide +kernel
theorem V.dX6_close_84 : decode cX6_close 84 = .ok (.aload_n 0, 1) := by decide +kernel
theorem V.dX6_close_85 : decode cX6_close 85 = .ok (.bipush 11, 2) := by decide +kernel
theorem V.dX6_close_87 : decode cX6_close 87 = .ok (.aload_n 0, 1) := by decide +kernel
theorem V.dX6_close_88 : decode cX6_close 88 = .ok (.getfield 38, 3) := by decide +kernel
theorem V.dX6_close_91 : decode cX6_close 91 = .ok (.iconst 0, 1) := by decide +kernel
theorem V.dX6_close_92 : decode cX6_close 92 = .ok (.iaload, 1) := by decide +kernel
theorem V.dX6_close_93 : decode cX6_close 93 = .ok (.iconst 0, 1) := by decide +kernel
theorem V.dX6_close_94 : decode cX6_close 94 = .ok (.iconst 0, 1) := by decide +kernel
theorem V.dX6_close_95 : decode cX6_close 95 = .ok (.invokevirtual 92, 3) := by decide +kernel
theorem V.dX6_close_98 : decode cX6_close 98 = .ok (.pop, 1) := by decide +kernel
theorem V.dX6_close_99 : decode cX6_close 99 = .ok (.aload_n 0, 1) := by decide +kernel
theorem V.dX6_close_100 : decode cX6_close 100 = .ok (.getfield 29, 3) := by decide +kernel
theorem V.dX6_close_103 : decode cX6_close 103 = .ok (.aload_n 0, 1) := by decide +kernel
theorem V.dX6_close_104 : decode cX6_close 104 = .ok (.getfield 76, 3) := by decide +kernel
theorem V.dX6_close_107 : decode cX6_close 107 = .ok (.invokevirtual 72, 3) := by decide +kernel
theorem V.dX6_close_110 : decode cX6_close 110 = .ok (.iconst 1, 1) := by decide +kernel
theorem V.dX6_close_111 : decode cX6_close 111 = .ok (.ireturn, 1) := by decide +kernel
theorem V.mdX6_105 : MD RX6 105 yX6_patch cX6_patch 4 none 1 := ⟨Or.inl q2079, q366, q2082, by decide, by decide, by decide +kernel⟩
theorem V.fdX6_29 : FD RX6 29 6 7 2 := ⟨(RX6, TX6, 18), tyX6, rfl, rfl, in_X6, by decide, Or.inl q635, rfl⟩
/-! ModuleEngine$Flat.close()Z -/
def V.Flt_close_p36  (σ : HS) (x0 : Nat) (x1 : Int32) : Option (Int32 × HS) :=
  ck (tg σ x0 = 7) <| cl (Flt_patch σ x0 x1) fun _ σ1 =>
  ck (tg σ1 x0 = 7) <|
  ck (tg σ1 (gR σ1 x0 12) = 100 ∧ inb x1 (ln σ1 (gR σ1 x0 12))) <|
  ck (tg σ1 x0 = 7) <| bn (sI σ1 x0 17 (gI σ1 (gR σ1 x0 12) (ix x1))) fun σ2 =>
  ck (tg σ2 x0 = 7) <|
  ck (tg σ2 x0 = 7) <| bn (sI σ2 x0 16 ((gI σ2 x0 16) - (1 : Int32))) fun σ3 =>
  ck (tg σ3 x0 = 7) <|
  if (gI σ3 x0 16) ≤ 0 then (
    ck (tg σ3 x0 = 7) <|
    ck (tg σ3 (gR σ3 x0 11) = 100 ∧ inb (0 : Int32) (ln σ3 (gR σ3 x0 11))) <|
    ck (tg σ3 x0 = 7) <| cl (Flt_emit σ3 x0 (11 : Int32) (gI σ3 (gR σ3 x0 11) (ix (0 : Int32))) (0 : Int32) (0 : Int32)) fun r5 σ4 =>
    ck (tg σ4 x0 = 7) <|
    ck (tg σ4 x0 = 7) <|
    ck (tg σ4 (gR σ4 x0 7) = 4) <| cl (Row_add σ4 (gR σ4 x0 7) (gI σ4 x0 8)) fun _ σ6 =>
    some ((1 : Int32), σ6))
  else (
    ck (tg σ3 x0 = 7) <|
    ck (tg σ3 (gR σ3 x0 11) = 100 ∧ inb x1 (ln σ3 (gR σ3 x0 11))) <|
    ck (tg σ3 x0 = 7) <| cl (Flt_put σ3 x0 (gI σ3 (gR σ3 x0 11) (ix x1))) fun _ σ7 =>
    ck (tg σ7 x0 = 7) <| cl (Flt_count σ7 x0 ) fun _ σ8 =>
    some ((0 : Int32), σ8))
theorem V.gX6_close_p36 {X : CX}  (σ : HS) (x0 : Nat) (x1 : Int32) : G X RX6 "close" cX6_close 2 (some .boolean) 1 26 enI 36 [(0, av x0), (1, iv x1)] [] σ (Flt_close_p36 σ x0 x1) := by
  unfold Flt_close_p36
  refine g_aload_n 0 0 dX6_close_36 rfl rfl ?_
  refine g_iload_n 1 1 dX6_close_37 rfl rfl ?_
  refine g_callV (fc := fun sς => Flt_patch sς x0 x1) (ci := 6) (as := [iv x1]) rfl rfl rfl q2081 qs125 mdX6_105 (ctX6_patch x0 x1) rfl (Nat.le_of_ble_eq_true rfl) (Nat.le_of_ble_eq_true rfl) (Nat.le_of_ble_eq_true rfl) pu_V dX6_close_38 (fun _ σ1 => ?_)
  refine g_aload_n 0 0 dX6_close_41 rfl rfl ?_
  refine g_aload_n 0 0 dX6_close_42 rfl rfl ?_
  refine g_getR fdX6_41 dX6_close_43 ?_
  refine g_iload_n 1 1 dX6_close_46 rfl rfl ?_
  refine g_iaload dX6_close_47 ?_
  refine g_putI fpX6_82 dX6_close_48 (fun σ2 => ?_)
  refine g_aload_n 0 0 dX6_close_51 rfl rfl ?_
  refine g_dup dX6_close_52 rfl ?_
  refine g_getI fdX6_79 dX6_close_53 ?_
  refine g_iconst (v := 1) dX6_close_56 (by decide) ?_
  refine g_isub dX6_close_57 ?_
  refine g_putI fpX6_79 dX6_close_58 (fun σ3 => ?_)
  refine g_aload_n 0 0 dX6_close_61 rfl rfl ?_
  refine g_getI fdX6_79 dX6_close_62 ?_
  refine g_if_le 84 dX6_close_65 (by decide) ?_ ?_
  · refine g_aload_n 0 0 dX6_close_84 rfl rfl ?_
    refine g_bipush (v := 11) dX6_close_85 (by decide) ?_
    refine g_aload_n 0 0 dX6_close_87 rfl rfl ?_
    refine g_getR fdX6_38 dX6_close_88 ?_
    refine g_iconst (v := 0) dX6_close_91 (by decide) ?_
    refine g_iaload dX6_close_92 ?_
    refine g_iconst (v := 0) dX6_close_93 (by decide) ?_
    refine g_iconst (v := 0) dX6_close_94 (by decide) ?_
    refine g_callV (fc := fun sς => Flt_emit sς x0 (11 : Int32) (gI σ3 (gR σ3 x0 11) (ix (0 : Int32))) (0 : Int32) (0 : Int32)) (ci := 6) (as := [iv (11 : Int32), iv (gI σ3 (gR σ3 x0 11) (ix (0 : Int32))), iv (0 : Int32), iv (0 : Int32)]) rfl rfl rfl q2045 qs119 mdX6_92 (ctX6_emit x0 (11 : Int32) (gI σ3 (gR σ3 x0 11) (ix (0 : Int32))) (0 : Int32) (0 : Int32)) rfl (Nat.le_of_ble_eq_true rfl) (Nat.le_of_ble_eq_true rfl) (Nat.le_of_ble_eq_true rfl) pu_I dX6_close_95 (fun r5 σ4 => ?_)
    refine g_pop dX6_close_98 rfl ?_
    refine g_aload_n 0 0 dX6_close_99 rfl rfl ?_
    refine g_getR fdX6_29 dX6_close_100 ?_
    refine g_aload_n 0 0 dX6_close_103 rfl rfl ?_
    refine g_getI fdX6_76 dX6_close_104 ?_
    refine g_callV (fc := fun sς => Row_add sς (gR σ4 x0 7) (gI σ4 x0 8)) (ci := 3) (as := [iv (gI σ4 x0 8)]) rfl rfl rfl q1405 q1406 mdX6_72 (ctX3_add (gR σ4 x0 7) (gI σ4 x0 8)) rfl (Nat.le_of_ble_eq_true rfl) (Nat.le_of_ble_eq_true rfl) (Nat.le_of_ble_eq_true rfl) pu_V dX6_close_107 (fun _ σ6 => ?_)
    refine g_iconst (v := 1) dX6_close_110 (by decide) ?_
    exact g_zreturn rfl (by decide +kernel) dX6_close_111
  · refine g_aload_n 0 0 dX6_close_68 rfl rfl ?_
    refine g_aload_n 0 0 dX6_close_69 rfl rfl ?_
    refine g_getR fdX6_38 dX6_close_70 ?_
    refine g_iload_n 1 1 dX6_close_73 rfl rfl ?_
    refine g_iaload dX6_close_74 ?_
    refine g_callV (fc := fun sς => Flt_put sς x0 (gI σ3 (gR σ3 x0 11) (ix x1))) (ci := 6) (as := [iv (gI σ3 (gR σ3 x0 11) (ix x1))]) rfl rfl rfl q2065 qs123 mdX6_99 (ctX6_put x0 (gI σ3 (gR σ3 x0 11) (ix x1))) rfl (Nat.le_of_ble_eq_true rfl) (Nat.le_of_ble_eq_true rfl) (Nat.le_of_ble_eq_true rfl) pu_V dX6_close_75 (fun _ σ7 => ?_)
    refine g_aload_n 0 0 dX6_close_78 rfl rfl ?_
    refine g_callV (fc := fun sς => Flt_count sς x0 ) (ci := 6) (as := []) rfl rfl rfl q2069 qs124 mdX6_102 (ctX6_count x0 ) rfl (Nat.le_of_ble_eq_true rfl) (Nat.le_of_ble_eq_true rfl) (Nat.le_of_ble_eq_true rfl) pu_V dX6_close_79 (fun _ σ8 => ?_)
    refine g_iconst (v := 0) dX6_close_82 (by decide) ?_
    exact g_zreturn rfl (by decide +kernel) dX6_close_83
def V.Flt_close (σ : HS) (x0 : Nat) : Option (Int32 × HS) :=
  ck (tg σ x0 = 7) <|
  bn ((gI σ x0 16) - (1 : Int32)) fun y1 =>
  ck (tg σ x0 = 7) <|
  ck (tg σ (gR σ x0 9) = 100 ∧ inb y1 (ln σ (gR σ x0 9))) <|
  if (gI σ (gR σ x0 9) (ix y1)) = (4 : Int32) then (
    ck (tg σ x0 = 7) <|
    ck (tg σ x0 = 7) <|
    ck (tg σ (gR σ x0 15) = 100 ∧ inb y1 (ln σ (gR σ x0 15))) <|
    ck (tg σ x0 = 7) <|
    ck (tg σ (gR σ x0 1) = 100 ∧ inb (((4 : Int32) * (gI σ (gR σ x0 15) (ix y1))) + (1 : Int32)) (ln σ (gR σ x0 1))) <| bn (sI σ (gR σ x0 1) (ix (((4 : Int32) * (gI σ (gR σ x0 15) (ix y1))) + (1 : Int32))) (gI σ x0 2)) fun σ2 =>
    Flt_close_p36 σ2 x0 y1)
  else (
    Flt_close_p36 σ x0 y1)
theorem V.ctX6_close (x0 : Nat) : Ct yX6_close  cX6_close 2 (some .boolean) 1 26 eI [av x0] (fun σ => Flt_close σ x0) := by
  refine Ct.of (own := RX6) (nm := "close") (desc := "()Z") rfl (by decide) (Nat.le_of_ble_eq_true rfl) (by decide) (fun X σ => ?_)
  show G X RX6 "close" cX6_close 2 (some .boolean) 1 26 enI 0 [(0, av x0)] [] σ (Flt_close σ x0)
  unfold Flt_close
  refine g_aload_n 0 0 dX6_close_0 rfl rfl ?_
  refine g_getI fdX6_79 dX6_close_1 ?_
  refine g_iconst (v := 1) dX6_close_4 (by decide) ?_
  refine g_isub dX6_close_5 ?_
  refine g_nmI (fun y1 => ?_)
  refine g_istore_n 1 dX6_close_6 rfl (by decide) rfl ?_
  refine g_aload_n 0 1 dX6_close_7 rfl rfl ?_
  refine g_getR fdX6_32 dX6_close_8 ?_
  refine g_iload_n 1 0 dX6_close_11 rfl rfl ?_
  refine g_iaload dX6_close_12 ?_
  refine g_iconst (v := 4) dX6_close_13 (by decide) ?_
  refine g_icmp_ne 36 dX6_close_14 (by decide) ?_ ?_
  · refine G.sub [1, 0] rfl ?_
    exact gX6_close_p36 _ _ _
  · refine g_aload_n 0 1 dX6_close_17 rfl rfl ?_
    refine g_getR fdX6_7 dX6_close_18 ?_
    refine g_iconst (v := 4) dX6_close_21 (by decide) ?_
    refine g_aload_n 0 1 dX6_close_22 rfl rfl ?_
    refine g_getR fdX6_50 dX6_close_23 ?_
    refine g_iload_n 1 0 dX6_close_26 rfl rfl ?_
    refine g_iaload dX6_close_27 ?_
    refine g_imul dX6_close_28 ?_
    refine g_iconst (v := 1) dX6_close_29 (by decide) ?_
    refine g_iadd dX6_close_30 ?_
    refine g_aload_n 0 1 dX6_close_31 rfl rfl ?_
    refine g_getI fdX6_68 dX6_close_32 ?_
    refine g_iastore dX6_close_35 (fun σ2 => ?_)
    refine G.sub [1, 0] rfl ?_
    exact gX6_close_p36 _ _ _
theorem V.dX6_wants_0 : decode cX6_wants 0 = .ok (.aload_n 0, 1) := by decide +kernel
theorem V.dX6_wants_1 : decode cX6_wants 1 = .ok (.getfield 79, 3) := by decide +kernel
theorem V.dX6_wants_4 : decode cX6_wants 4 = .ok (.iconst 1, 1) := by decide +kernel
theorem V.dX6_wants_5 : decode cX6_wants 5 = .ok (.isub, 1) := by decide +kernel
theorem V.dX6_wants_6 : decode cX6_wants 6 = .ok (.iload_n 1, 1) := by decide +kernel
theorem V.dX6_wants_7 : decode cX6_wants 7 = .ok (.isub, 1) := by decide +kernel
theorem V.dX6_wants_8 : decode cX6_wants 8 = .ok (.istore_n 2, 1) := by decide +kernel
theorem V.dX6_wants_9 : decode cX6_wants 9 = .ok (.aload_n 0, 1) := by decide +kernel
theorem V.dX6_wants_10 : decode cX6_wants 10 = .ok (.getfield 32, 3) := by decide +kernel
theorem V.dX6_wants_13 : decode cX6_wants 13 = .ok (.iload_n 2, 1) := by decide +kernel
theorem V.dX6_wants_14 : decode cX6_wants 14 = .ok (.iaload, 1) := by decide +kernel
theorem V.dX6_wants_15 : decode cX6_wants 15 = .ok (.iconst 3, 1) := by decide +kernel
theorem V.dX6_wants_16 : decode cX6_wants 16 = .ok (.if_icmp .ne 12, 3) := by decide +kernel
theorem V.dX6_wants_19 : decode cX6_wants 19 = .ok (.aload_n 0, 1) := by decide +kernel
theorem V.dX6_wants_20 : decode cX6_wants 20 = .ok (.getfield 35, 3) := by decide +kernel
theorem V.dX6_wants_23 : decode cX6_wants 23 = .ok (.iload_n 2, 1) := by decide +kernel
theorem V.dX6_wants_24 : decode cX6_wants 24 = .ok (.iaload, 1) := by decide +kernel
theorem V.dX6_wants_25 : decode cX6_wants 25 = .ok (.goto 9, 3) := by decide +kernel
theorem V.dX6_wants_28 : decode cX6_wants 28 = .ok (.aload_n 0, 1) := by decide +kernel
theorem V.dX6_wants_29 : decode cX6_wants 29 = .ok (.getfield 38, 3) := by decide +kernel
theorem V.dX6_wants_32 : decode cX6_wants 32 = .ok (.iload_n 2, 1) := by decide +kernel
theorem V.dX6_wants_33 : decode cX6_wants 33 = .ok (.iaload, 1) := by decide +kernel
theorem V.dX6_wants_34 : decode cX6_wants 34 = .ok (.ireturn, 1) := by decide +kernel
/-! ModuleEngine$Flat.wants(I)I -/
def V.Flt_wants (σ : HS) (x0 : Nat) (x1 : Int32) : Option (Int32 × HS) :=
  ck (tg σ x0 = 7) <|
  bn (((gI σ x0 16) - (1 : Int32)) - x1) fun y1 =>
  ck (tg σ x0 = 7) <|
  ck (tg σ (gR σ x0 9) = 100 ∧ inb y1 (ln σ (gR σ x0 9))) <|
  if (gI σ (gR σ x0 9) (ix y1)) = (3 : Int32) then (
    ck (tg σ x0 = 7) <|
    ck (tg σ (gR σ x0 10) = 100 ∧ inb y1 (ln σ (gR σ x0 10))) <|
    some (gI σ (gR σ x0 10) (ix y1), σ))
  else (
    ck (tg σ x0 = 7) <|
    ck (tg σ (gR σ x0 11) = 100 ∧ inb y1 (ln σ (gR σ x0 11))) <|
    some (gI σ (gR σ x0 11) (ix y1), σ))
theorem V.ctX6_wants (x0 : Nat) (x1 : Int32) : Ct yX6_wants  cX6_wants 3 (some .int) 0 0 eI [av x0, iv x1] (fun σ => Flt_wants σ x0 x1) := by
  refine Ct.of (own := RX6) (nm := "wants") (desc := "(I)I") rfl (by decide) (Nat.le_of_ble_eq_true rfl) (by decide) (fun X σ => ?_)
  show G X RX6 "wants" cX6_wants 3 (some .int) 0 0 enI 0 [(0, av x0), (1, iv x1)] [] σ (Flt_wants σ x0 x1)
  unfold Flt_wants
  refine g_aload_n 0 0 dX6_wants_0 rfl rfl ?_
  refine g_getI fdX6_79 dX6_wants_1 ?_
  refine g_iconst (v := 1) dX6_wants_4 (by decide) ?_
  refine g_isub dX6_wants_5 ?_
  refine g_iload_n 1 1 dX6_wants_6 rfl rfl ?_
  refine g_isub dX6_wants_7 ?_
  refine g_nmI (fun y1 => ?_)
  refine g_istore_n 2 dX6_wants_8 rfl (by decide) rfl ?_
  refine g_aload_n 0 1 dX6_wants_9 rfl rfl ?_
  refine g_getR fdX6_32 dX6_wants_10 ?_
  refine g_iload_n 2 0 dX6_wants_13 rfl rfl ?_
  refine g_iaload dX6_wants_14 ?_
  refine g_iconst (v := 3) dX6_wants_15 (by decide) ?_
  refine g_icmp_ne 28 dX6_wants_16 (by decide) ?_ ?_
  · refine g_aload_n 0 1 dX6_wants_28 rfl rfl ?_
    refine g_getR fdX6_38 dX6_wants_29 ?_
    refine g_iload_n 2 0 dX6_wants_32 rfl rfl ?_
    refine g_iaload dX6_wants_33 ?_
    exact g_ireturn rfl dX6_wants_34
  · refine g_aload_n 0 1 dX6_wants_19 rfl rfl ?_
    refine g_getR fdX6_35 dX6_wants_20 ?_
    refine g_iload_n 2 0 dX6_wants_23 rfl rfl ?_
    refine g_iaload dX6_wants_24 ?_
    refine g_goto 34 dX6_wants_25 (by decide) ?_
    exact g_ireturn rfl dX6_wants_34
theorem V.dX6_emitBranch_0 : decode cX6_emitBranch 0 = .ok (.aload_n 0, 1) := by decide +kernel
theorem V.dX6_emitBranch_1 : decode cX6_emitBranch 1 = .ok (.getfield 79, 3) := by decide +kernel
theorem V.dX6_emitBranch_4 : decode cX6_emitBranch 4 = .ok (.iconst 1, 1) := by decide +kernel
theorem V.dX6_emitBranch_5 : decode cX6_emitBranch 5 = .ok (.isub, 1) := by decide +kernel
theorem V.dX6_emitBranch_6 : decode cX6_emitBranch 6 = .ok (.iload_n 2, 1) := by decide +kernel
theorem V.dX6_emitBranch_7 : decode cX6_emitBranch 7 = .ok (.isub, 1) := by decide +kernel
theorem V.dX6_emitBranch_8 : decode cX6_emitBranch 8 = .ok (.istore_n 3, 1) := by decide +kernel
theorem V.dX6_emitBranch_9 : decode cX6_emitBranch 9 = .ok (.aload_n 0, 1) := by decide +kernel
theorem V.dX6_emitBranch_10 : decode cX6_emitBranch 10 = .ok (.getfield 32, 3) := by decide +kernel
theorem V.dX6_emitBranch_13 : decode cX6_emitBranch 13 = .ok (.iload_n 3, 1) := by decide +kernel
theorem V.dX6_emitBranch_14 : decode cX6_emitBranch 14 = .ok (.iaload, 1) := by decide +kernel
theorem V.dX6_emitBranch_15 : decode cX6_emitBranch 15 = .ok (.iconst 3, 1) := by decide +kernel
theorem V.dX6_emitBranch_16 : decode cX6_emitBranch 16 = .ok (.if_icmp .ne 7, 3) := by decide +kernel
theorem V.dX6_emitBranch_19 : decode cX6_emitBranch 19 = .ok (.iconst 1, 1) := by decide +kernel
theorem V.dX6_emitBranch_20 : decode cX6_emitBranch 20 = .ok (.goto 4, 3) := by decide +kernel
theorem V.dX6_emitBranch_23 : decode cX6_emitBranch 23 = .ok (.iconst 0, 1) := by decide +kernel
theorem V.dX6_emitBranch_24 : decode cX6_emitBranch 24 = .ok (.istore 4, 2) := by decide +kernel
theorem V.dX6_emitBranch_26 : decode cX6_emitBranch 26 = .ok (.aload_n 0, 1) := by decide +kernel
theorem V.dX6_emitBranch_27 : decode cX6_emitBranch 27 = .ok (.iload_n 1, 1) := by decide +kernel
theorem V.dX6_emitBranch_28 : decode cX6_emitBranch 28 = .ok (.iload 4, 2) := by decide +kernel
theorem V.dX6_emitBranch_30 : decode cX6_emitBranch 30 = .ok (.ifCond .eq 12, 3) := by decide +kernel
theorem V.dX6_emitBranch_33 : decode cX6_emitBranch 33 = .ok (.aload_n 0, 1) := by decide +kernel
theorem V.dX6_emitBranch_34 : decode cX6_emitBranch 34 = .ok (.getfield 44, 3) := by decide +kernel
theorem V.dX6_emitBranch_37 : decode cX6_emitBranch 37 = .ok (.iload_n 3, 1) := by decide +kernel
theorem V.dX6_emitBranch_38 : decode cX6_emitBranch 38 = .ok (.iaload, 1) := by decide +kernel
theorem V.dX6_emitBranch_39 : decode cX6_emitBranch 39 = .ok (.goto 9, 3) := by decide +kernel
theorem V.dX6_emitBranch_42 : decode cX6_emitBranch 42 = .ok (.aload_n 0, 1) := by decide +kernel
theorem V.dX6_emitBranch_43 : decode cX6_emitBranch 43 = .ok (.getfield 47, 3) := by decide +kernel
theorem V.dX6_emitBranch_46 : decode cX6_emitBranch 46 = .ok (.iload_n 3, 1) := by decide +kernel
theorem V.dX6_emitBranch_47 : decode cX6_emitBranch 47 = .ok (.iaload, 1) := by decide +kernel
theorem V.dX6_emitBranch_48 : decode cX6_emitBranch 48 = .ok (.aload_n 0, 1) := by decide +kernel
theorem V.dX6_emitBranch_49 : decode cX6_emitBranch 49 = .ok (.iload_n 2, 1) := by decide +kernel
theorem V.dX6_emitBranch_50 : decode cX6_emitBranch 50 = .ok (.invokevirtual 89, 3) := by decide +kernel
theorem V.dX6_emitBranch_53 : decode cX6_emitBranch 53 = .ok (.aload_n 0, 1) := by decide +kernel
theorem V.dX6_emitBranch_54 : decode cX6_emitBranch 54 = .ok (.getfield 41, 3) := by decide +kernel
theorem V.dX6_emitBranch_57 : decode cX6_emitBranch 57 = .ok (.iload_n 3, 1) := by decide +kernel
theorem V.dX6_emitBranch_58 : decode cX6_emitBranch 58 = .ok (.iaload, 1) := by decide +kernel
theorem V.dX6_emitBranch_59 : decode cX6_emitBranch 59 = .ok (.invokevirtual 92, 3) := by decide +kernel
theorem V.dX6_emitBranch_62 : decode cX6_emitBranch 62 = .ok (.istore 5, 2) := by decide +kernel
theorem V.dX6_emitBranch_64 : decode cX6_emitBranch 64 = .ok (.iload 4, 2) := by decide +kernel
theorem V.dX6_emitBranch_66 : decode cX6_emitBranch 66 = .ok (.ifCond .ne 11, 3) := by decide +kernel
theorem V.dX6_emitBranch_69 : decode cX6_emitBranch 69 = .ok (.aload_n 0, 1) := by decide +kernel
theorem V.dX6_emitBranch_70 : decode cX6_emitBranch 70 = .ok (.getfield 47, 3) := by decide +kernel
theorem V.dX6_emitBranch_73 : decode cX6_emitBranch 73 = .ok (.iload_n 3, 1) := by decide +kernel
theorem V.dX6_emitBranch_74 : decode cX6_emitBranch 74 = .ok (.iload 5, 2) := by decide +kernel
theorem V.dX6_emitBranch_76 : decode cX6_emitBranch 76 = .ok (.iastore, 1) := by decide +kernel
theorem V.dX6_emitBranch_77 : decode cX6_emitBranch 77 = .ok (.return_, 1) := by decide +kernel
theorem V.mdX6_89 : MD RX6 89 yX6_wants cX6_wants 3 (some .int) 1 := ⟨Or.inl q2087, q366, q2090, by decide, by decide, by decide +kernel⟩
/-! ModuleEngine$Flat.emitBranch(II)V -/
def V.Flt_emitBranch_p48  (σ : HS) (x0 : Nat) (x2 : Int32) (x3 : Int32) (x4 : Int32) (s0 : Int32) (s1 : Int32) (s2 : Nat) : Option (Unit × HS) :=
  ck (tg σ x0 = 7) <| cl (Flt_wants σ x0 x2) fun r2 σ1 =>
  ck (tg σ1 x0 = 7) <|
  ck (tg σ1 (gR σ1 x0 12) = 100 ∧ inb x3 (ln σ1 (gR σ1 x0 12))) <|
  ck (tg σ1 s2 = 7) <| cl (Flt_emit σ1 s2 s1 s0 r2 (gI σ1 (gR σ1 x0 12) (ix x3))) fun r4 σ3 =>
  if x4 = 0 then (
    ck (tg σ3 x0 = 7) <|
    ck (tg σ3 (gR σ3 x0 14) = 100 ∧ inb x3 (ln σ3 (gR σ3 x0 14))) <| bn (sI σ3 (gR σ3 x0 14) (ix x3) r4) fun σ5 =>
    some ((), σ5))
  else (
    some ((), σ3))
theorem V.gX6_emitBranch_p48 {X : CX}  (σ : HS) (x0 : Nat) (x2 : Int32) (x3 : Int32) (x4 : Int32) (s0 : Int32) (s1 : Int32) (s2 : Nat) : G X RX6 "emitBranch" cX6_emitBranch 6 none 1 26 enV 48 [(0, av x0), (2, iv x2), (3, iv x3), (4, iv x4)] [iv s0, iv s1, av s2] σ (Flt_emitBranch_p48 σ x0 x2 x3 x4 s0 s1 s2) := by
  unfold Flt_emitBranch_p48
  refine g_aload_n 0 0 dX6_emitBranch_48 rfl rfl ?_
  refine g_iload_n 2 1 dX6_emitBranch_49 rfl rfl ?_
  refine g_callV (fc := fun sς => Flt_wants sς x0 x2) (ci := 6) (as := [iv x2]) rfl rfl rfl q2089 qs126 mdX6_89 (ctX6_wants x0 x2) rfl (Nat.le_of_ble_eq_true rfl) (Nat.le_of_ble_eq_true rfl) (Nat.le_of_ble_eq_true rfl) pu_I dX6_emitBranch_50 (fun r2 σ1 => ?_)
  refine g_aload_n 0 0 dX6_emitBranch_53 rfl rfl ?_
  refine g_getR fdX6_41 dX6_emitBranch_54 ?_
  refine g_iload_n 3 2 dX6_emitBranch_57 rfl rfl ?_
  refine g_iaload dX6_emitBranch_58 ?_
  refine g_callV (fc := fun sς => Flt_emit sς s2 s1 s0 r2 (gI σ1 (gR σ1 x0 12) (ix x3))) (ci := 6) (as := [iv s1, iv s0, iv r2, iv (gI σ1 (gR σ1 x0 12) (ix x3))]) rfl rfl rfl q2045 qs119 mdX6_92 (ctX6_emit s2 s1 s0 r2 (gI σ1 (gR σ1 x0 12) (ix x3))) rfl (Nat.le_of_ble_eq_true rfl) (Nat.le_of_ble_eq_true rfl) (Nat.le_of_ble_eq_true rfl) pu_I dX6_emitBranch_59 (fun r4 σ3 => ?_)
  refine g_istore dX6_emitBranch_62 (by decide) rfl ?_
  refine g_iload 4 dX6_emitBranch_64 rfl ?_
  refine g_if_ne 77 dX6_emitBranch_66 (by decide) ?_ ?_
  · exact g_return rfl dX6_emitBranch_77
  · refine g_aload_n 0 1 dX6_emitBranch_69 rfl rfl ?_
    refine g_getR fdX6_47 dX6_emitBranch_70 ?_
    refine g_iload_n 3 3 dX6_emitBranch_73 rfl rfl ?_
    refine g_iload 0 dX6_emitBranch_74 rfl ?_
    refine g_iastore dX6_emitBranch_76 (fun σ5 => ?_)
    exact g_return rfl dX6_emitBranch_77
def V.Flt_emitBranch_p24  (σ : HS) (x0 : Nat) (x1 : Int32) (x2 : Int32) (x3 : Int32) (s0 : Int32) : Option (Unit × HS) :=
  if s0 = 0 then (
    ck (tg σ x0 = 7) <|
    ck (tg σ (gR σ x0 14) = 100 ∧ inb x3 (ln σ (gR σ x0 14))) <|
    Flt_emitBranch_p48 σ x0 x2 x3 s0 (gI σ (gR σ x0 14) (ix x3)) x1 x0)
  else (
    ck (tg σ x0 = 7) <|
    ck (tg σ (gR σ x0 13) = 100 ∧ inb x3 (ln σ (gR σ x0 13))) <|
    Flt_emitBranch_p48 σ x0 x2 x3 s0 (gI σ (gR σ x0 13) (ix x3)) x1 x0)
theorem V.gX6_emitBranch_p24 {X : CX}  (σ : HS) (x0 : Nat) (x1 : Int32) (x2 : Int32) (x3 : Int32) (s0 : Int32) : G X RX6 "emitBranch" cX6_emitBranch 6 none 1 26 enV 24 [(0, av x0), (1, iv x1), (2, iv x2), (3, iv x3)] [iv s0] σ (Flt_emitBranch_p24 σ x0 x1 x2 x3 s0) := by
  unfold Flt_emitBranch_p24
  refine g_istore dX6_emitBranch_24 (by decide) rfl ?_
  refine g_aload_n 0 1 dX6_emitBranch_26 rfl rfl ?_
  refine g_iload_n 1 2 dX6_emitBranch_27 rfl rfl ?_
  refine g_iload 0 dX6_emitBranch_28 rfl ?_
  refine g_if_eq 42 dX6_emitBranch_30 (by decide) ?_ ?_
  · refine g_aload_n 0 1 dX6_emitBranch_42 rfl rfl ?_
    refine g_getR fdX6_47 dX6_emitBranch_43 ?_
    refine g_iload_n 3 4 dX6_emitBranch_46 rfl rfl ?_
    refine g_iaload dX6_emitBranch_47 ?_
    refine G.sub [1, 3, 4, 0] rfl ?_
    exact gX6_emitBranch_p48 _ _ _ _ _ _ _ _
  · refine g_aload_n 0 1 dX6_emitBranch_33 rfl rfl ?_
    refine g_getR fdX6_44 dX6_emitBranch_34 ?_
    refine g_iload_n 3 4 dX6_emitBranch_37 rfl rfl ?_
    refine g_iaload dX6_emitBranch_38 ?_
    refine g_goto 48 dX6_emitBranch_39 (by decide) ?_
    refine G.sub [1, 3, 4, 0] rfl ?_
    exact gX6_emitBranch_p48 _ _ _ _ _ _ _ _
def V.Flt_emitBranch (σ : HS) (x0 : Nat) (x1 : Int32) (x2 : Int32) : Option (Unit × HS) :=
  ck (tg σ x0 = 7) <|
  bn (((gI σ x0 16) - (1 : Int32)) - x2) fun y1 =>
  ck (tg σ x0 = 7) <|
  ck (tg σ (gR σ x0 9) = 100 ∧ inb y1 (ln σ (gR σ x0 9))) <|
  if (gI σ (gR σ x0 9) (ix y1)) = (3 : Int32) then (
    Flt_emitBranch_p24 σ x0 x1 x2 y1 (1 : Int32))
  else (
    Flt_emitBranch_p24 σ x0 x1 x2 y1 (0 : Int32))
theorem V.ctX6_emitBranch (x0 : Nat) (x1 : Int32) (x2 : Int32) : Ct yX6_emitBranch  cX6_emitBranch 6 none 1 26 eV [av x0, iv x1, iv x2] (fun σ => Flt_emitBranch σ x0 x1 x2) := by
  refine Ct.of (own := RX6) (nm := "emitBranch") (desc := "(II)V") rfl (by decide) (Nat.le_of_ble_eq_true rfl) (by decide) (fun X σ => ?_)
  show G X RX6 "emitBranch" cX6_emitBranch 6 none 1 26 enV 0 [(0, av x0), (1, iv x1), (2, iv x2)] [] σ (Flt_emitBranch σ x0 x1 x2)
  unfold Flt_emitBranch
  refine g_aload_n 0 0 dX6_emitBranch_0 rfl rfl ?_
  refine g_getI fdX6_79 dX6_emitBranch_1 ?_
  refine g_iconst (v := 1) dX6_emitBranch_4 (by decide) ?_
  refine g_isub dX6_emitBranch_5 ?_
  refine g_iload_n 2 2 dX6_emitBranch_6 rfl rfl ?_
  refine g_isub dX6_emitBranch_7 ?_
  refine g_nmI (fun y1 => ?_)
  refine g_istore_n 3 dX6_emitBranch_8 rfl (by decide) rfl ?_
  refine g_aload_n 0 1 dX6_emitBranch_9 rfl rfl ?_
  refine g_getR fdX6_32 dX6_emitBranch_10 ?_
  refine g_iload_n 3 0 dX6_emitBranch_13 rfl rfl ?_
  refine g_iaload dX6_emitBranch_14 ?_
  refine g_iconst (v := 3) dX6_emitBranch_15 (by decide) ?_
  refine g_icmp_ne 23 dX6_emitBranch_16 (by decide) ?_ ?_
  · refine g_iconst (v := 0) dX6_emitBranch_23 (by decide) ?_
    refine G.sub [1, 2, 3, 0] rfl ?_
    exact gX6_emitBranch_p24 _ _ _ _ _ _
  · refine g_iconst (v := 1) dX6_emitBranch_19 (by decide) ?_
    refine g_goto 24 dX6_emitBranch_20 (by decide) ?_
    refine G.sub [1, 2, 3, 0] rfl ?_
    exact gX6_emitBranch_p24 _ _ _ _ _ _
theorem V.dX6_branch_0 : decode cX6_branch 0 = .ok (.aload_n 0, 1) := by decide +kernel
theorem V.dX6_branch_1 : decode cX6_branch 1 = .ok (.iload_n 2, 1) := by decide +kernel
theorem V.dX6_branch_2 : decode cX6_branch 2 = .ok (.invokevirtual 89, 3) := by decide +kernel
theorem V.dX6_branch_5 : decode cX6_branch 5 = .ok (.istore_n 3, 1) := by decide +kernel
theorem V.dX6_branch_6 : decode cX6_branch 6 = .ok (.iload_n 1, 1) := by decide +kernel
theorem V.dX6_branch_7 : decode cX6_branch 7 = .ok (.bipush 13, 2) := by decide +kernel
theorem V.dX6_branch_9 : decode cX6_branch 9 = .ok (.if_icmp .ne 8, 3) := by decide +kernel
theorem V.dX6_branch_12 : decode cX6_branch 12 = .ok (.aload_n 0, 1) := by decide +kernel
theorem V.dX6_branch_13 : decode cX6_branch 13 = .ok (.iconst 1, 1) := by decide +kernel
theorem V.dX6_branch_14 : decode cX6_branch 14 = .ok (.invokevirtual 96, 3) := by decide +kernel
theorem V.dX6_branch_17 : decode cX6_branch 17 = .ok (.aload_n 0, 1) := by decide +kernel
theorem V.dX6_branch_18 : decode cX6_branch 18 = .ok (.iload_n 1, 1) := by decide +kernel
theorem V.dX6_branch_19 : decode cX6_branch 19 = .ok (.iload_n 2, 1) := by decide +kernel
theorem V.dX6_branch_20 : decode cX6_branch 20 = .ok (.invokevirtual 108, 3) := by decide +kernel
theorem V.dX6_branch_23 : decode cX6_branch 23 = .ok (.aload_n 0, 1) := by decide +kernel
theorem V.dX6_branch_24 : decode cX6_branch 24 = .ok (.iload_n 3, 1) := by decide +kernel
theorem V.dX6_branch_25 : decode cX6_branch 25 = .ok (.invokevirtual 96, 3) := by decide +kernel
theorem V.dX6_branch_28 : decode cX6_branch 28 = .ok (.iload_n 1, 1) := by decide +kernel
theorem V.dX6_branch_29 : decode cX6_branch 29 = .ok (.bipush 12, 2) := by decide +kernel
theorem V.dX6_branch_31 : decode cX6_branch 31 = .ok (.if_icmp .ne 10, 3) := by decide +kernel
theorem V.dX6_branch_34 : decode cX6_branch 34 = .ok (.aload_n 0, 1) := by decide +kernel
theorem V.dX6_branch_35 : decode cX6_branch 35 = .ok (.invokevirtual 112, 3) := by decide +kernel
theorem V.dX6_branch_38 : decode cX6_branch 38 = .ok (.goto 8, 3) := by decide +kernel
theorem V.dX6_branch_41 : decode cX6_branch 41 = .ok (.aload_n 0, 1) := by decide +kernel
theorem V.dX6_branch_42 : decode cX6_branch 42 = .ok (.iload_n 3, 1) := by decide +kernel
theorem V.dX6_branch_43 : decode cX6_branch 43 = .ok (.invokevirtual 99, 3) := by decide +kernel
theorem V.dX6_branch_46 : decode cX6_branch 46 = .ok (.aload_n 0, 1) := by decide +kernel
theorem V.dX6_branch_47 : decode cX6_branch 47 = .ok (.invokevirtual 102, 3) := by decide +kernel
theorem V.dX6_branch_50 : decode cX6_branch 50 = .ok (.return_, 1) := by decide +kernel
theorem V.mdX6_108 : MD RX6 108 yX6_emitBranch cX6_emitBranch 6 none 2 := ⟨Or.inl q2091, q366, q2094, by decide, by decide, by decide +kernel⟩
/-! ModuleEngine$Flat.branch(II)V -/
def V.Flt_branch_p46  (σ : HS) (x0 : Nat) : Option (Unit × HS) :=
  ck (tg σ x0 = 7) <| cl (Flt_count σ x0 ) fun _ σ1 =>
  some ((), σ1)
theorem V.gX6_branch_p46 {X : CX}  (σ : HS) (x0 : Nat) : G X RX6 "branch" cX6_branch 4 none 2 51 enV 46 [(0, av x0)] [] σ (Flt_branch_p46 σ x0) := by
  unfold Flt_branch_p46
  refine g_aload_n 0 0 dX6_branch_46 rfl rfl ?_
  refine g_callV (fc := fun sς => Flt_count sς x0 ) (ci := 6) (as := []) rfl rfl rfl q2069 qs124 mdX6_102 (ctX6_count x0 ) rfl (Nat.le_of_ble_eq_true rfl) (Nat.le_of_ble_eq_true rfl) (Nat.le_of_ble_eq_true rfl) pu_V dX6_branch_47 (fun _ σ1 => ?_)
  exact g_return rfl dX6_branch_50
def V.Flt_branch_p17  (σ : HS) (x0 : Nat) (x1 : Int32) (x2 : Int32) (x3 : Int32) : Option (Unit × HS) :=
  ck (tg σ x0 = 7) <| cl (Flt_emitBranch σ x0 x1 x2) fun _ σ1 =>
  ck (tg σ1 x0 = 7) <| cl (Flt_take σ1 x0 x3) fun _ σ2 =>
  if x1 = (12 : Int32) then (
    ck (tg σ2 x0 = 7) <| cl (Flt_die σ2 x0 ) fun _ σ4 =>
    Flt_branch_p46 σ4 x0)
  else (
    ck (tg σ2 x0 = 7) <| cl (Flt_put σ2 x0 x3) fun _ σ3 =>
    Flt_branch_p46 σ3 x0)
theorem V.gX6_branch_p17 {X : CX}  (σ : HS) (x0 : Nat) (x1 : Int32) (x2 : Int32) (x3 : Int32) : G X RX6 "branch" cX6_branch 4 none 2 51 enV 17 [(0, av x0), (1, iv x1), (2, iv x2), (3, iv x3)] [] σ (Flt_branch_p17 σ x0 x1 x2 x3) := by
  unfold Flt_branch_p17
  refine g_aload_n 0 0 dX6_branch_17 rfl rfl ?_
  refine g_iload_n 1 1 dX6_branch_18 rfl rfl ?_
  refine g_iload_n 2 2 dX6_branch_19 rfl rfl ?_
  refine g_callV (fc := fun sς => Flt_emitBranch sς x0 x1 x2) (ci := 6) (as := [iv x1, iv x2]) rfl rfl rfl q2093 qs127 mdX6_108 (ctX6_emitBranch x0 x1 x2) rfl (Nat.le_of_ble_eq_true rfl) (Nat.le_of_ble_eq_true rfl) (Nat.le_of_ble_eq_true rfl) pu_V dX6_branch_20 (fun _ σ1 => ?_)
  refine g_aload_n 0 0 dX6_branch_23 rfl rfl ?_
  refine g_iload_n 3 3 dX6_branch_24 rfl rfl ?_
  refine g_callV (fc := fun sς => Flt_take sς x0 x3) (ci := 6) (as := [iv x3]) rfl rfl rfl q2061 qs122 mdX6_96 (ctX6_take x0 x3) rfl (Nat.le_of_ble_eq_true rfl) (Nat.le_of_ble_eq_true rfl) (Nat.le_of_ble_eq_true rfl) pu_V dX6_branch_25 (fun _ σ2 => ?_)
  refine g_iload_n 1 1 dX6_branch_28 rfl rfl ?_
  refine g_bipush (v := 12) dX6_branch_29 (by decide) ?_
  refine g_icmp_ne 41 dX6_branch_31 (by decide) ?_ ?_
  · refine g_aload_n 0 0 dX6_branch_41 rfl rfl ?_
    refine g_iload_n 3 3 dX6_branch_42 rfl rfl ?_
    refine g_callV (fc := fun sς => Flt_put sς x0 x3) (ci := 6) (as := [iv x3]) rfl rfl rfl q2065 qs123 mdX6_99 (ctX6_put x0 x3) rfl (Nat.le_of_ble_eq_true rfl) (Nat.le_of_ble_eq_true rfl) (Nat.le_of_ble_eq_true rfl) pu_V dX6_branch_43 (fun _ σ3 => ?_)
    refine G.sub [0] rfl ?_
    exact gX6_branch_p46 _ _
  · refine g_aload_n 0 0 dX6_branch_34 rfl rfl ?_
    refine g_callV (fc := fun sς => Flt_die sς x0 ) (ci := 6) (as := []) rfl rfl rfl q2049 qs120 mdX6_112 (ctX6_die x0 ) rfl (Nat.le_of_ble_eq_true rfl) (Nat.le_of_ble_eq_true rfl) (Nat.le_of_ble_eq_true rfl) pu_V dX6_branch_35 (fun _ σ4 => ?_)
    refine g_goto 46 dX6_branch_38 (by decide) ?_
    refine G.sub [0] rfl ?_
    exact gX6_branch_p46 _ _
def V.Flt_branch (σ : HS) (x0 : Nat) (x1 : Int32) (x2 : Int32) : Option (Unit × HS) :=
  ck (tg σ x0 = 7) <| cl (Flt_wants σ x0 x2) fun r2 σ1 =>
  if x1 = (13 : Int32) then (
    ck (tg σ1 x0 = 7) <| cl (Flt_take σ1 x0 (1 : Int32)) fun _ σ3 =>
    Flt_branch_p17 σ3 x0 x1 x2 r2)
  else (
    Flt_branch_p17 σ1 x0 x1 x2 r2)
theorem V.ctX6_branch (x0 : Nat) (x1 : Int32) (x2 : Int32) : Ct yX6_branch  cX6_branch 4 none 2 51 eV [av x0, iv x1, iv x2] (fun σ => Flt_branch σ x0 x1 x2) := by
  refine Ct.of (own := RX6) (nm := "branch") (desc := "(II)V") rfl (by decide) (Nat.le_of_ble_eq_true rfl) (by decide) (fun X σ => ?_)
  show G X RX6 "branch" cX6_branch 4 none 2 51 enV 0 [(0, av x0), (1, iv x1), (2, iv x2)] [] σ (Flt_branch σ x0 x1 x2)
  unfold Flt_branch
  refine g_aload_n 0 0 dX6_branch_0 rfl rfl ?_
  refine g_iload_n 2 2 dX6_branch_1 rfl rfl ?_
  refine g_callV (fc := fun sς => Flt_wants sς x0 x2) (ci := 6) (as := [iv x2]) rfl rfl rfl q2089 qs126 mdX6_89 (ctX6_wants x0 x2) rfl (Nat.le_of_ble_eq_true rfl) (Nat.le_of_ble_eq_true rfl) (Nat.le_of_ble_eq_true rfl) pu_I dX6_branch_2 (fun r2 σ1 => ?_)
  refine g_istore_n 3 dX6_branch_5 rfl (by decide) rfl ?_
  refine g_iload_n 1 2 dX6_branch_6 rfl rfl ?_
  refine g_bipush (v := 13) dX6_branch_7 (by decide) ?_
  refine g_icmp_ne 17 dX6_branch_9 (by decide) ?_ ?_
  · refine G.sub [1, 2, 3, 0] rfl ?_
    exact gX6_branch_p17 _ _ _ _ _
  · refine g_aload_n 0 1 dX6_branch_12 rfl rfl ?_
    refine g_iconst (v := 1) dX6_branch_13 (by decide) ?_
    refine g_callV (fc := fun sς => Flt_take sς x0 (1 : Int32)) (ci := 6) (as := [iv (1 : Int32)]) rfl rfl rfl q2061 qs122 mdX6_96 (ctX6_take x0 (1 : Int32)) rfl (Nat.le_of_ble_eq_true rfl) (Nat.le_of_ble_eq_true rfl) (Nat.le_of_ble_eq_true rfl) pu_V dX6_branch_14 (fun _ σ3 => ?_)
    refine G.sub [1, 2, 3, 0] rfl ?_
    exact gX6_branch_p17 _ _ _ _ _
theorem V.dX6_table_0 : decode cX6_table 0 = .ok (.aload_n 0, 1) := by decide +kernel
theorem V.dX6_table_1 : decode cX6_table 1 = .ok (.iconst 1, 1) := by decide +kernel
theorem V.dX6_table_2 : decode cX6_table 2 = .ok (.invokevirtual 96, 3) := by decide +kernel
theorem V.dX6_table_5 : decode cX6_table 5 = .ok (.aload_n 0, 1) := by decide +kernel
theorem V.dX6_table_6 : decode cX6_table 6 = .ok (.bipush 14, 2) := by decide +kernel
theorem V.dX6_table_8 : decode cX6_table 8 = .ok (.aload_n 1, 1) := by decide +kernel
theorem V.dX6_table_9 : decode cX6_table 9 = .ok (.invokevirtual 57, 3) := by decide +kernel
theorem V.dX6_table_12 : decode cX6_table 12 = .ok (.iconst 0, 1) := by decide +kernel
theorem V.dX6_table_13 : decode cX6_table 13 = .ok (.iconst 0, 1) := by decide +kernel
theorem V.dX6_table_14 : decode cX6_table 14 = .ok (.invokevirtual 92, 3) := by decide +kernel
theorem V.dX6_table_17 : decode cX6_table 17 = .ok (.pop, 1) := by decide +kernel
theorem V.dX6_table_18 : decode cX6_table 18 = .ok (.iconst 0, 1) := by decide +kernel
theorem V.dX6_table_19 : decode cX6_table 19 = .ok (.istore_n 3, 1) := by decide +kernel
theorem V.dX6_table_20 : decode cX6_table 20 = .ok (.iload_n 3, 1) := by decide +kernel
theorem V.dX6_table_21 : decode cX6_table 21 = .ok (.aload_n 1, 1) := by decide +kernel
theorem V.dX6_table_22 : decode cX6_table 22 = .ok (.invokevirtual 57, 3) := by decide +kernel
theorem V.dX6_table_25 : decode cX6_table 25 = .ok (.if_icmp .ge 20, 3) := by decide +kernel
theorem V.dX6_table_28 : decode cX6_table 28 = .ok (.aload_n 0, 1) := by decide +kernel
theorem V.dX6_table_29 : decode cX6_table 29 = .ok (.bipush 6, 2) := by decide +kernel
theorem V.dX6_table_31 : decode cX6_table 31 = .ok (.aload_n 1, 1) := by decide +kernel
theorem V.dX6_table_32 : decode cX6_table 32 = .ok (.iload_n 3, 1) := by decide +kernel
theorem V.dX6_table_33 : decode cX6_table 33 = .ok (.invokevirtual 61, 3) := by decide +kernel
theorem V.dX6_table_36 : decode cX6_table 36 = .ok (.invokevirtual 108, 3) := by decide +kernel
theorem V.dX6_table_39 : decode cX6_table 39 = .ok (.iinc 3 1, 3) := by decide +kernel
theorem V.dX6_table_42 : decode cX6_table 42 = .ok (.goto (-22), 3) := by decide +kernel
theorem V.dX6_table_45 : decode cX6_table 45 = .ok (.aload_n 0, 1) := by decide +kernel
theorem V.dX6_table_46 : decode cX6_table 46 = .ok (.bipush 6, 2) := by decide +kernel
theorem V.dX6_table_48 : decode cX6_table 48 = .ok (.iload_n 2, 1) := by decide +kernel
theorem V.dX6_table_49 : decode cX6_table 49 = .ok (.invokevirtual 108, 3) := by decide +kernel
theorem V.dX6_table_52 : decode cX6_table 52 = .ok (.aload_n 0, 1) := by decide +kernel
theorem V.dX6_table_53 : decode cX6_table 53 = .ok (.invokevirtual 112, 3) := by decide +kernel
theorem V.dX6_table_56 : decode cX6_table 56 = .ok (.return_, 1) := by decide +kernel
theorem V.mdX6_61 : MD RX6 61 yX3_at cX3_at 2 (some .int) 1 := ⟨Or.inl q2099, q363, q1411, by decide, by decide, by decide +kernel⟩
/-! ModuleEngine$Flat.table(LModuleEngine$Row;I)V -/
def V.Flt_table_p20  : Nat → HS → Nat → Nat → Int32 → Int32 → Option (Unit × HS)
  | 0, _, _, _, _, _ => none
  | n + 1, σ, x0, x1, x2, x3 =>
    ck (tg σ x1 = 4) <| cl (Row_size σ x1 ) fun r2 σ1 =>
    if r2 ≤ x3 then (
      ck (tg σ1 x0 = 7) <| cl (Flt_emitBranch σ1 x0 (6 : Int32) x2) fun _ σ3 =>
      ck (tg σ3 x0 = 7) <| cl (Flt_die σ3 x0 ) fun _ σ4 =>
      some ((), σ4))
    else (
      ck (tg σ1 x1 = 4) <| cl (Row_at σ1 x1 x3) fun r6 σ5 =>
      ck (tg σ5 x0 = 7) <| cl (Flt_emitBranch σ5 x0 (6 : Int32) r6) fun _ σ7 =>
      bn (x3 + (1 : Int32)) fun y8 =>
      Flt_table_p20 n σ7 x0 x1 x2 y8)
theorem V.gX6_table_p20 {X : CX}  : ∀ (n : Nat) (σ : HS) (x0 : Nat) (x1 : Nat) (x2 : Int32) (x3 : Int32), G X RX6 "table" cX6_table 4 none 2 51 enV 20 [(0, av x0), (1, av x1), (2, iv x2), (3, iv x3)] [] σ (Flt_table_p20 n σ x0 x1 x2 x3)
  | 0, σ, x0, x1, x2, x3 => by rw [Flt_table_p20]; exact G.nul
  | n + 1, σ, x0, x1, x2, x3 => by
    rw [Flt_table_p20]
    refine g_iload_n 3 3 dX6_table_20 rfl rfl ?_
    refine g_aload_n 1 1 dX6_table_21 rfl rfl ?_
    refine g_callV (fc := fun sς => Row_size sς x1 ) (ci := 3) (as := []) rfl rfl rfl q1421 q1422 mdX6_57 (ctX3_size x1 ) rfl (Nat.le_of_ble_eq_true rfl) (Nat.le_of_ble_eq_true rfl) (Nat.le_of_ble_eq_true rfl) pu_I dX6_table_22 (fun r2 σ1 => ?_)
    refine g_icmp_ge 45 dX6_table_25 (by decide) ?_ ?_
    · refine g_aload_n 0 0 dX6_table_45 rfl rfl ?_
      refine g_bipush (v := 6) dX6_table_46 (by decide) ?_
      refine g_iload_n 2 2 dX6_table_48 rfl rfl ?_
      refine g_callV (fc := fun sς => Flt_emitBranch sς x0 (6 : Int32) x2) (ci := 6) (as := [iv (6 : Int32), iv x2]) rfl rfl rfl q2093 qs127 mdX6_108 (ctX6_emitBranch x0 (6 : Int32) x2) rfl (Nat.le_of_ble_eq_true rfl) (Nat.le_of_ble_eq_true rfl) (Nat.le_of_ble_eq_true rfl) pu_V dX6_table_49 (fun _ σ3 => ?_)
      refine g_aload_n 0 0 dX6_table_52 rfl rfl ?_
      refine g_callV (fc := fun sς => Flt_die sς x0 ) (ci := 6) (as := []) rfl rfl rfl q2049 qs120 mdX6_112 (ctX6_die x0 ) rfl (Nat.le_of_ble_eq_true rfl) (Nat.le_of_ble_eq_true rfl) (Nat.le_of_ble_eq_true rfl) pu_V dX6_table_53 (fun _ σ4 => ?_)
      exact g_return rfl dX6_table_56
    · refine g_aload_n 0 0 dX6_table_28 rfl rfl ?_
      refine g_bipush (v := 6) dX6_table_29 (by decide) ?_
      refine g_aload_n 1 1 dX6_table_31 rfl rfl ?_
      refine g_iload_n 3 3 dX6_table_32 rfl rfl ?_
      refine g_callV (fc := fun sς => Row_at sς x1 x3) (ci := 3) (as := [iv x3]) rfl rfl rfl q1409 q1410 mdX6_61 (ctX3_at x1 x3) rfl (Nat.le_of_ble_eq_true rfl) (Nat.le_of_ble_eq_true rfl) (Nat.le_of_ble_eq_true rfl) pu_I dX6_table_33 (fun r6 σ5 => ?_)
      refine g_callV (fc := fun sς => Flt_emitBranch sς x0 (6 : Int32) r6) (ci := 6) (as := [iv (6 : Int32), iv r6]) rfl rfl rfl q2093 qs127 mdX6_108 (ctX6_emitBranch x0 (6 : Int32) r6) rfl (Nat.le_of_ble_eq_true rfl) (Nat.le_of_ble_eq_true rfl) (Nat.le_of_ble_eq_true rfl) pu_V dX6_table_36 (fun _ σ7 => ?_)
      refine g_iincB (w := 1) 3 dX6_table_39 rfl (by decide) (by decide) (fun _ => rfl) (fun y8 => ?_)
      refine g_goto 20 dX6_table_42 (by decide) ?_
      refine G.sub [1, 2, 3, 0] rfl ?_
      exact gX6_table_p20 n _ _ _ _ _
def V.Flt_table (σ : HS) (x0 : Nat) (x1 : Nat) (x2 : Int32) : Option (Unit × HS) :=
  ck (tg σ x0 = 7) <| cl (Flt_take σ x0 (1 : Int32)) fun _ σ1 =>
  ck (tg σ1 x1 = 4) <| cl (Row_size σ1 x1 ) fun r3 σ2 =>
  ck (tg σ2 x0 = 7) <| cl (Flt_emit σ2 x0 (14 : Int32) r3 (0 : Int32) (0 : Int32)) fun r5 σ4 =>
  Flt_table_p20 FU σ4 x0 x1 x2 (0 : Int32)
theorem V.ctX6_table (x0 : Nat) (x1 : Nat) (x2 : Int32) : Ct yX6_table  cX6_table 4 none 2 51 eV [av x0, av x1, iv x2] (fun σ => Flt_table σ x0 x1 x2) := by
  refine Ct.of (own := RX6) (nm := "table") (desc := "(LModuleEngine$Row;I)V") rfl (by decide) (Nat.le_of_ble_eq_true rfl) (by decide) (fun X σ => ?_)
  show G X RX6 "table" cX6_table 4 none 2 51 enV 0 [(0, av x0), (1, av x1), (2, iv x2)] [] σ (Flt_table σ x0 x1 x2)
  unfold Flt_table
  refine g_aload_n 0 0 dX6_table_0 rfl rfl ?_
  refine g_iconst (v := 1) dX6_table_1 (by decide) ?_
  refine g_callV (fc := fun sς => Flt_take sς x0 (1 : Int32)) (ci := 6) (as := [iv (1 : Int32)]) rfl rfl rfl q2061 qs122 mdX6_96 (ctX6_take x0 (1 : Int32)) rfl (Nat.le_of_ble_eq_true rfl) (Nat.le_of_ble_eq_true rfl) (Nat.le_of_ble_eq_true rfl) pu_V dX6_table_2 (fun _ σ1 => ?_)
  refine g_aload_n 0 0 dX6_table_5 rfl rfl ?_
  refine g_bipush (v := 14) dX6_table_6 (by decide) ?_
  refine g_aload_n 1 1 dX6_table_8 rfl rfl ?_
  refine g_callV (fc := fun sς => Row_size sς x1 ) (ci := 3) (as := []) rfl rfl rfl q1421 q1422 mdX6_57 (ctX3_size x1 ) rfl (Nat.le_of_ble_eq_true rfl) (Nat.le_of_ble_eq_true rfl) (Nat.le_of_ble_eq_true rfl) pu_I dX6_table_9 (fun r3 σ2 => ?_)
  refine g_iconst (v := 0) dX6_table_12 (by decide) ?_
  refine g_iconst (v := 0) dX6_table_13 (by decide) ?_
  refine g_callV (fc := fun sς => Flt_emit sς x0 (14 : Int32) r3 (0 : Int32) (0 : Int32)) (ci := 6) (as := [iv (14 : Int32), iv r3, iv (0 : Int32), iv (0 : Int32)]) rfl rfl rfl q2045 qs119 mdX6_92 (ctX6_emit x0 (14 : Int32) r3 (0 : Int32) (0 : Int32)) rfl (Nat.le_of_ble_eq_true rfl) (Nat.le_of_ble_eq_true rfl) (Nat.le_of_ble_eq_true rfl) pu_I dX6_table_14 (fun r5 σ4 => ?_)
  refine g_pop dX6_table_17 rfl ?_
  refine g_iconst (v := 0) dX6_table_18 (by decide) ?_
  refine g_istore_n 3 dX6_table_19 rfl (by decide) rfl ?_
  refine G.sub [1, 2, 3, 0] rfl ?_
  exact gX6_table_p20 FU _ _ _ _ _
theorem V.dX6_leave_0 : decode cX6_leave 0 = .ok (.aload_n 0, 1) := by decide +kernel
theorem V.dX6_leave_1 : decode cX6_leave 1 = .ok (.bipush 15, 2) := by decide +kernel
theorem V.dX6_leave_3 : decode cX6_leave 3 = .ok (.aload_n 0, 1) := by decide +kernel
theorem V.dX6_leave_4 : decode cX6_leave 4 = .ok (.getfield 38, 3) := by decide +kernel
theorem V.dX6_leave_7 : decode cX6_leave 7 = .ok (.iconst 0, 1) := by decide +kernel
theorem V.dX6_leave_8 : decode cX6_leave 8 = .ok (.iaload, 1) := by decide +kernel
theorem V.dX6_leave_9 : decode cX6_leave 9 = .ok (.iconst 0, 1) := by decide +kernel
theorem V.dX6_leave_10 : decode cX6_leave 10 = .ok (.iconst 0, 1) := by decide +kernel
theorem V.dX6_leave_11 : decode cX6_leave 11 = .ok (.invokevirtual 92, 3) := by decide +kernel
theorem V.dX6_leave_14 : decode cX6_leave 14 = .ok (.pop, 1) := by decide +kernel
theorem V.dX6_leave_15 : decode cX6_leave 15 = .ok (.aload_n 0, 1) := by decide +kernel
theorem V.dX6_leave_16 : decode cX6_leave 16 = .ok (.invokevirtual 112, 3) := by decide +kernel
theorem V.dX6_leave_19 : decode cX6_leave 19 = .ok (.return_, 1) := by decide +kernel
/-! ModuleEngine$Flat.leave()V -/
def V.Flt_leave (σ : HS) (x0 : Nat) : Option (Unit × HS) :=
  ck (tg σ x0 = 7) <|
  ck (tg σ (gR σ x0 11) = 100 ∧ inb (0 : Int32) (ln σ (gR σ x0 11))) <|
  ck (tg σ x0 = 7) <| cl (Flt_emit σ x0 (15 : Int32) (gI σ (gR σ x0 11) (ix (0 : Int32))) (0 : Int32) (0 : Int32)) fun r2 σ1 =>
  ck (tg σ1 x0 = 7) <| cl (Flt_die σ1 x0 ) fun _ σ3 =>
  some ((), σ3)
theorem V.ctX6_leave (x0 : Nat) : Ct yX6_leave  cX6_leave 1 none 1 26 eV [av x0] (fun σ => Flt_leave σ x0) := by
  refine Ct.of (own := RX6) (nm := "leave") (desc := "()V") rfl (by decide) (Nat.le_of_ble_eq_true rfl) (by decide) (fun X σ => ?_)
  show G X RX6 "leave" cX6_leave 1 none 1 26 enV 0 [(0, av x0)] [] σ (Flt_leave σ x0)
  unfold Flt_leave
  refine g_aload_n 0 0 dX6_leave_0 rfl rfl ?_
  refine g_bipush (v := 15) dX6_leave_1 (by decide) ?_
  refine g_aload_n 0 0 dX6_leave_3 rfl rfl ?_
  refine g_getR fdX6_38 dX6_leave_4 ?_
  refine g_iconst (v := 0) dX6_leave_7 (by decide) ?_
  refine g_iaload dX6_leave_8 ?_
  refine g_iconst (v := 0) dX6_leave_9 (by decide) ?_
  refine g_iconst (v := 0) dX6_leave_10 (by decide) ?_
  refine g_callV (fc := fun sς => Flt_emit sς x0 (15 : Int32) (gI σ (gR σ x0 11) (ix (0 : Int32))) (0 : Int32) (0 : Int32)) (ci := 6) (as := [iv (15 : Int32), iv (gI σ (gR σ x0 11) (ix (0 : Int32))), iv (0 : Int32), iv (0 : Int32)]) rfl rfl rfl q2045 qs119 mdX6_92 (ctX6_emit x0 (15 : Int32) (gI σ (gR σ x0 11) (ix (0 : Int32))) (0 : Int32) (0 : Int32)) rfl (Nat.le_of_ble_eq_true rfl) (Nat.le_of_ble_eq_true rfl) (Nat.le_of_ble_eq_true rfl) pu_I dX6_leave_11 (fun r2 σ1 => ?_)
  refine g_pop dX6_leave_14 rfl ?_
  refine g_aload_n 0 0 dX6_leave_15 rfl rfl ?_
  refine g_callV (fc := fun sς => Flt_die sς x0 ) (ci := 6) (as := []) rfl rfl rfl q2049 qs120 mdX6_112 (ctX6_die x0 ) rfl (Nat.le_of_ble_eq_true rfl) (Nat.le_of_ble_eq_true rfl) (Nat.le_of_ble_eq_true rfl) pu_V dX6_leave_16 (fun _ σ3 => ?_)
  exact g_return rfl dX6_leave_19
theorem V.dX6_write_0 : decode cX6_write 0 = .ok (.aload_n 0, 1) := by decide +kernel
theorem V.dX6_write_1 : decode cX6_write 1 = .ok (.iload 5, 2) := by decide +kernel
theorem V.dX6_write_3 : decode cX6_write 3 = .ok (.invokevirtual 96, 3) := by decide +kernel
theorem V.dX6_write_6 : decode cX6_write 6 = .ok (.aload_n 0, 1) := by decide +kernel
theorem V.dX6_write_7 : decode cX6_write 7 = .ok (.iload_n 1, 1) := by decide +kernel
theorem V.dX6_write_8 : decode cX6_write 8 = .ok (.iload_n 2, 1) := by decide +kernel
theorem V.dX6_write_9 : decode cX6_write 9 = .ok (.iload_n 3, 1) := by decide +kernel
theorem V.dX6_write_10 : decode cX6_write 10 = .ok (.iload 4, 2) := by decide +kernel
theorem V.dX6_write_12 : decode cX6_write 12 = .ok (.invokevirtual 92, 3) := by decide +kernel
theorem V.dX6_write_15 : decode cX6_write 15 = .ok (.pop, 1) := by decide +kernel
theorem V.dX6_write_16 : decode cX6_write 16 = .ok (.aload_n 0, 1) := by decide +kernel
theorem V.dX6_write_17 : decode cX6_write 17 = .ok (.iload 6, 2) := by decide +kernel
theorem V.dX6_write_19 : decode cX6_write 19 = .ok (.invokevirtual 99, 3) := by decide +kernel
theorem V.dX6_write_22 : decode cX6_write 22 = .ok (.aload_n 0, 1) := by decide +kernel
theorem V.dX6_write_23 : decode cX6_write 23 = .ok (.invokevirtual 102, 3) := by decide +kernel
theorem V.dX6_write_26 : decode cX6_write 26 = .ok (.return_, 1) := by decide +kernel
/-! ModuleEngine$Flat.write(IIIIII)V -/
def V.Flt_write (σ : HS) (x0 : Nat) (x1 : Int32) (x2 : Int32) (x3 : Int32) (x4 : Int32) (x5 : Int32) (x6 : Int32) : Option (Unit × HS) :=
  ck (tg σ x0 = 7) <| cl (Flt_take σ x0 x5) fun _ σ1 =>
  ck (tg σ1 x0 = 7) <| cl (Flt_emit σ1 x0 x1 x2 x3 x4) fun r3 σ2 =>
  ck (tg σ2 x0 = 7) <| cl (Flt_put σ2 x0 x6) fun _ σ4 =>
  ck (tg σ4 x0 = 7) <| cl (Flt_count σ4 x0 ) fun _ σ5 =>
  some ((), σ5)
theorem V.ctX6_write (x0 : Nat) (x1 : Int32) (x2 : Int32) (x3 : Int32) (x4 : Int32) (x5 : Int32) (x6 : Int32) : Ct yX6_write  cX6_write 7 none 1 26 eV [av x0, iv x1, iv x2, iv x3, iv x4, iv x5, iv x6] (fun σ => Flt_write σ x0 x1 x2 x3 x4 x5 x6) := by
  refine Ct.of (own := RX6) (nm := "write") (desc := "(IIIIII)V") rfl (by decide) (Nat.le_of_ble_eq_true rfl) (by decide) (fun X σ => ?_)
  show G X RX6 "write" cX6_write 7 none 1 26 enV 0 [(0, av x0), (1, iv x1), (2, iv x2), (3, iv x3), (4, iv x4), (5, iv x5), (6, iv x6)] [] σ (Flt_write σ x0 x1 x2 x3 x4 x5 x6)
  unfold Flt_write
  refine g_aload_n 0 0 dX6_write_0 rfl rfl ?_
  refine g_iload 5 dX6_write_1 rfl ?_
  refine g_callV (fc := fun sς => Flt_take sς x0 x5) (ci := 6) (as := [iv x5]) rfl rfl rfl q2061 qs122 mdX6_96 (ctX6_take x0 x5) rfl (Nat.le_of_ble_eq_true rfl) (Nat.le_of_ble_eq_true rfl) (Nat.le_of_ble_eq_true rfl) pu_V dX6_write_3 (fun _ σ1 => ?_)
  refine g_aload_n 0 0 dX6_write_6 rfl rfl ?_
  refine g_iload_n 1 1 dX6_write_7 rfl rfl ?_
  refine g_iload_n 2 2 dX6_write_8 rfl rfl ?_
  refine g_iload_n 3 3 dX6_write_9 rfl rfl ?_
  refine g_iload 4 dX6_write_10 rfl ?_
  refine g_callV (fc := fun sς => Flt_emit sς x0 x1 x2 x3 x4) (ci := 6) (as := [iv x1, iv x2, iv x3, iv x4]) rfl rfl rfl q2045 qs119 mdX6_92 (ctX6_emit x0 x1 x2 x3 x4) rfl (Nat.le_of_ble_eq_true rfl) (Nat.le_of_ble_eq_true rfl) (Nat.le_of_ble_eq_true rfl) pu_I dX6_write_12 (fun r3 σ2 => ?_)
  refine g_pop dX6_write_15 rfl ?_
  refine g_aload_n 0 0 dX6_write_16 rfl rfl ?_
  refine g_iload 6 dX6_write_17 rfl ?_
  refine g_callV (fc := fun sς => Flt_put sς x0 x6) (ci := 6) (as := [iv x6]) rfl rfl rfl q2065 qs123 mdX6_99 (ctX6_put x0 x6) rfl (Nat.le_of_ble_eq_true rfl) (Nat.le_of_ble_eq_true rfl) (Nat.le_of_ble_eq_true rfl) pu_V dX6_write_19 (fun _ σ4 => ?_)
  refine g_aload_n 0 0 dX6_write_22 rfl rfl ?_
  refine g_callV (fc := fun sς => Flt_count sς x0 ) (ci := 6) (as := []) rfl rfl rfl q2069 qs124 mdX6_102 (ctX6_count x0 ) rfl (Nat.le_of_ble_eq_true rfl) (Nat.le_of_ble_eq_true rfl) (Nat.le_of_ble_eq_true rfl) pu_V dX6_write_23 (fun _ σ5 => ?_)
  exact g_return rfl dX6_write_26
theorem V.dX6_in_0 : decode cX6_in 0 = .ok (.iload_n 1, 1) := by decide +kernel
theorem V.dX6_in_1 : decode cX6_in 1 = .ok (.bipush 69, 2) := by decide +kernel
theorem V.dX6_in_3 : decode cX6_in 3 = .ok (.if_icmp .lt 19, 3) := by decide +kernel
theorem V.dX6_in_6 : decode cX6_in 6 = .ok (.iload_n 1, 1) := by decide +kernel
theorem V.dX6_in_7 : decode cX6_in 7 = .ok (.sipush 207, 3) := by decide +kernel
theorem V.dX6_in_10 : decode cX6_in 10 = .ok (.if_icmp .gt 12, 3) := by decide +kernel
theorem V.dX6_in_13 : decode cX6_in 13 = .ok (.aload_n 0, 1) := by decide +kernel
theorem V.dX6_in_14 : decode cX6_in 14 = .ok (.getfield 53, 3) := by decide +kernel
theorem V.dX6_in_17 : decode cX6_in 17 = .ok (.iload_n 1, 1) := by decide +kernel
theorem V.dX6_in_18 : decode cX6_in 18 = .ok (.invokevirtual 115, 3) := by decide +kernel
theorem V.dX6_in_21 : decode cX6_in 21 = .ok (.ireturn, 1) := by decide +kernel
theorem V.dX6_in_22 : decode cX6_in 22 = .ok (.iload_n 1, 1) := by decide +kernel
theorem V.dX6_in_23 : decode cX6_in 23 = .ok (.lookupswitch 143 #[(26, 137), (27, 141), (33, 137), (34, 137), (36, 137), (37, 137), (38, 139), (64, 137), (209, 137), (264, 141), (266, 141), (267, 141), (268, 141), (270, 141), (271, 139), (273, 141)], 137) := by decide +kernel
theorem V.dX6_in_160 : decode cX6_in 160 = .ok (.iconst 1, 1) := by decide +kernel
theorem V.dX6_in_161 : decode cX6_in 161 = .ok (.ireturn, 1) := by decide +kernel
theorem V.dX6_in_162 : decode cX6_in 162 = .ok (.iconst 2, 1) := by decide +kernel
theorem V.dX6_in_163 : decode cX6_in 163 = .ok (.ireturn, 1) := by decide +kernel
theorem V.dX6_in_164 : decode cX6_in 164 = .ok (.iconst 3, 1) := by decide +kernel
theorem V.dX6_in_165 : decode cX6_in 165 = .ok (.ireturn, 1) := by decide +kernel
theorem V.dX6_in_166 : decode cX6_in 166 = .ok (.iload_n 1, 1) := by decide +kernel
theorem V.dX6_in_167 : decode cX6_in 167 = .ok (.bipush 39, 2) := by decide +kernel
theorem V.dX6_in_169 : decode cX6_in 169 = .ok (.if_icmp .le 13, 3) := by decide +kernel
theorem V.dX6_in_172 : decode cX6_in 172 = .ok (.iload_n 1, 1) := by decide +kernel
theorem V.dX6_in_173 : decode cX6_in 173 = .ok (.bipush 54, 2) := by decide +kernel
theorem V.dX6_in_175 : decode cX6_in 175 = .ok (.if_icmp .ge 7, 3) := by decide +kernel
theorem V.dX6_in_178 : decode cX6_in 178 = .ok (.iconst 1, 1) := by decide +kernel
theorem V.dX6_in_179 : decode cX6_in 179 = .ok (.goto 20, 3) := by decide +kernel
theorem V.dX6_in_182 : decode cX6_in 182 = .ok (.iload_n 1, 1) := by decide +kernel
theorem V.dX6_in_183 : decode cX6_in 183 = .ok (.bipush 53, 2) := by decide +kernel
theorem V.dX6_in_185 : decode cX6_in 185 = .ok (.if_icmp .le 13, 3) := by decide +kernel
theorem V.dX6_in_188 : decode cX6_in 188 = .ok (.iload_n 1, 1) := by decide +kernel
theorem V.dX6_in_189 : decode cX6_in 189 = .ok (.bipush 63, 2) := by decide +kernel
theorem V.dX6_in_191 : decode cX6_in 191 = .ok (.if_icmp .ge 7, 3) := by decide +kernel
theorem V.dX6_in_194 : decode cX6_in 194 = .ok (.iconst 2, 1) := by decide +kernel
theorem V.dX6_in_195 : decode cX6_in 195 = .ok (.goto 4, 3) := by decide +kernel
theorem V.dX6_in_198 : decode cX6_in 198 = .ok (.iconst 0, 1) := by decide +kernel
theorem V.dX6_in_199 : decode cX6_in 199 = .ok (.ireturn, 1) := by decide +kernel
theorem V.fdX6_53 : FD RX6 53 6 0 2 := ⟨(RX6, TX6, 18), tyX6, rfl, rfl, in_X6, by decide, Or.inl q626, rfl⟩
theorem V.mdX6_115 : MD RX6 115 yX4_operands cX4_operands 2 (some .int) 1 := ⟨Or.inl q2124, q364, q2127, by decide, by decide, by decide +kernel⟩
/-! ModuleEngine$Flat.in(I)I -/
def V.Flt_in_p182  (σ : HS) (x1 : Int32) : Option (Int32 × HS) :=
  if x1 ≤ (53 : Int32) then (
    some ((0 : Int32), σ))
  else (
    if (63 : Int32) ≤ x1 then (
      some ((0 : Int32), σ))
    else (
      some ((2 : Int32), σ)))
theorem V.gX6_in_p182 {X : CX}  (σ : HS) (x1 : Int32) : G X RX6 "in" cX6_in 2 (some .int) 1 21 enI 182 [(1, iv x1)] [] σ (Flt_in_p182 σ x1) := by
  unfold Flt_in_p182
  refine g_iload_n 1 0 dX6_in_182 rfl rfl ?_
  refine g_bipush (v := 53) dX6_in_183 (by decide) ?_
  refine g_icmp_le 198 dX6_in_185 (by decide) ?_ ?_
  · refine g_iconst (v := 0) dX6_in_198 (by decide) ?_
    exact g_ireturn rfl dX6_in_199
  · refine g_iload_n 1 0 dX6_in_188 rfl rfl ?_
    refine g_bipush (v := 63) dX6_in_189 (by decide) ?_
    refine g_icmp_ge 198 dX6_in_191 (by decide) ?_ ?_
    · refine g_iconst (v := 0) dX6_in_198 (by decide) ?_
      exact g_ireturn rfl dX6_in_199
    · refine g_iconst (v := 2) dX6_in_194 (by decide) ?_
      refine g_goto 199 dX6_in_195 (by decide) ?_
      exact g_ireturn rfl dX6_in_199
def V.Flt_in_p22  (σ : HS) (x1 : Int32) : Option (Int32 × HS) :=
  swx x1 [
    (26, (
      some ((1 : Int32), σ))),
    (27, (
      some ((3 : Int32), σ))),
    (33, (
      some ((1 : Int32), σ))),
    (34, (
      some ((1 : Int32), σ))),
    (36, (
      some ((1 : Int32), σ))),
    (37, (
      some ((1 : Int32), σ))),
    (38, (
      some ((2 : Int32), σ))),
    (64, (
      some ((1 : Int32), σ))),
    (209, (
      some ((1 : Int32), σ))),
    (264, (
      some ((3 : Int32), σ))),
    (266, (
      some ((3 : Int32), σ))),
    (267, (
      some ((3 : Int32), σ))),
    (268, (
      some ((3 : Int32), σ))),
    (270, (
      some ((3 : Int32), σ))),
    (271, (
      some ((2 : Int32), σ))),
    (273, (
      some ((3 : Int32), σ)))
    ] (
    if x1 ≤ (39 : Int32) then (
      Flt_in_p182 σ x1)
    else (
      if (54 : Int32) ≤ x1 then (
        Flt_in_p182 σ x1)
      else (
        some ((1 : Int32), σ))))
theorem V.gX6_in_p22 {X : CX}  (σ : HS) (x1 : Int32) : G X RX6 "in" cX6_in 2 (some .int) 1 21 enI 22 [(1, iv x1)] [] σ (Flt_in_p22 σ x1) := by
  unfold Flt_in_p22
  refine g_iload_n 1 0 dX6_in_22 rfl rfl ?_
  refine g_lsw dX6_in_23 (by decide +kernel) ?_
  refine g_case ex0 (t := 160) (by decide +kernel) ?_ (fun hx => ?_)
  · refine g_iconst (v := 1) dX6_in_160 (by decide) ?_
    exact g_ireturn rfl dX6_in_161
  refine g_case hx (t := 164) (by decide +kernel) ?_ (fun hx => ?_)
  · refine g_iconst (v := 3) dX6_in_164 (by decide) ?_
    exact g_ireturn rfl dX6_in_165
  refine g_case hx (t := 160) (by decide +kernel) ?_ (fun hx => ?_)
  · refine g_iconst (v := 1) dX6_in_160 (by decide) ?_
    exact g_ireturn rfl dX6_in_161
  refine g_case hx (t := 160) (by decide +kernel) ?_ (fun hx => ?_)
  · refine g_iconst (v := 1) dX6_in_160 (by decide) ?_
    exact g_ireturn rfl dX6_in_161
  refine g_case hx (t := 160) (by decide +kernel) ?_ (fun hx => ?_)
  · refine g_iconst (v := 1) dX6_in_160 (by decide) ?_
    exact g_ireturn rfl dX6_in_161
  refine g_case hx (t := 160) (by decide +kernel) ?_ (fun hx => ?_)
  · refine g_iconst (v := 1) dX6_in_160 (by decide) ?_
    exact g_ireturn rfl dX6_in_161
  refine g_case hx (t := 162) (by decide +kernel) ?_ (fun hx => ?_)
  · refine g_iconst (v := 2) dX6_in_162 (by decide) ?_
    exact g_ireturn rfl dX6_in_163
  refine g_case hx (t := 160) (by decide +kernel) ?_ (fun hx => ?_)
  · refine g_iconst (v := 1) dX6_in_160 (by decide) ?_
    exact g_ireturn rfl dX6_in_161
  refine g_case hx (t := 160) (by decide +kernel) ?_ (fun hx => ?_)
  · refine g_iconst (v := 1) dX6_in_160 (by decide) ?_
    exact g_ireturn rfl dX6_in_161
  refine g_case hx (t := 164) (by decide +kernel) ?_ (fun hx => ?_)
  · refine g_iconst (v := 3) dX6_in_164 (by decide) ?_
    exact g_ireturn rfl dX6_in_165
  refine g_case hx (t := 164) (by decide +kernel) ?_ (fun hx => ?_)
  · refine g_iconst (v := 3) dX6_in_164 (by decide) ?_
    exact g_ireturn rfl dX6_in_165
  refine g_case hx (t := 164) (by decide +kernel) ?_ (fun hx => ?_)
  · refine g_iconst (v := 3) dX6_in_164 (by decide) ?_
    exact g_ireturn rfl dX6_in_165
  refine g_case hx (t := 164) (by decide +kernel) ?_ (fun hx => ?_)
  · refine g_iconst (v := 3) dX6_in_164 (by decide) ?_
    exact g_ireturn rfl dX6_in_165
  refine g_case hx (t := 164) (by decide +kernel) ?_ (fun hx => ?_)
  · refine g_iconst (v := 3) dX6_in_164 (by decide) ?_
    exact g_ireturn rfl dX6_in_165
  refine g_case hx (t := 162) (by decide +kernel) ?_ (fun hx => ?_)
  · refine g_iconst (v := 2) dX6_in_162 (by decide) ?_
    exact g_ireturn rfl dX6_in_163
  refine g_case hx (t := 164) (by decide +kernel) ?_ (fun hx => ?_)
  · refine g_iconst (v := 3) dX6_in_164 (by decide) ?_
    exact g_ireturn rfl dX6_in_165
  refine g_dflt (t := 166) (lswT_d (by decide +kernel) hx) ?_
  refine g_iload_n 1 0 dX6_in_166 rfl rfl ?_
  refine g_bipush (v := 39) dX6_in_167 (by decide) ?_
  refine g_icmp_le 182 dX6_in_169 (by decide) ?_ ?_
  · exact gX6_in_p182 _ _
  · refine g_iload_n 1 0 dX6_in_172 rfl rfl ?_
    refine g_bipush (v := 54) dX6_in_173 (by decide) ?_
    refine g_icmp_ge 182 dX6_in_175 (by decide) ?_ ?_
    · exact gX6_in_p182 _ _
    · refine g_iconst (v := 1) dX6_in_178 (by decide) ?_
      refine g_goto 199 dX6_in_179 (by decide) ?_
      exact g_ireturn rfl dX6_in_199
def V.Flt_in (σ : HS) (x0 : Nat) (x1 : Int32) : Option (Int32 × HS) :=
  if x1 < (69 : Int32) then (
    Flt_in_p22 σ x1)
  else (
    if (207 : Int32) < x1 then (
      Flt_in_p22 σ x1)
    else (
      ck (tg σ x0 = 7) <|
      ck (tg σ (gR σ x0 0) = 5) <| cl (Num_operands σ (gR σ x0 0) x1) fun r2 σ1 =>
      some (r2, σ1)))
theorem V.ctX6_in (x0 : Nat) (x1 : Int32) : Ct yX6_in  cX6_in 2 (some .int) 1 21 eI [av x0, iv x1] (fun σ => Flt_in σ x0 x1) := by
  refine Ct.of (own := RX6) (nm := "in") (desc := "(I)I") rfl (by decide) (Nat.le_of_ble_eq_true rfl) (by decide) (fun X σ => ?_)
  show G X RX6 "in" cX6_in 2 (some .int) 1 21 enI 0 [(0, av x0), (1, iv x1)] [] σ (Flt_in σ x0 x1)
  unfold Flt_in
  refine g_iload_n 1 1 dX6_in_0 rfl rfl ?_
  refine g_bipush (v := 69) dX6_in_1 (by decide) ?_
  refine g_icmp_lt 22 dX6_in_3 (by decide) ?_ ?_
  · refine G.sub [1] rfl ?_
    exact gX6_in_p22 _ _
  · refine g_iload_n 1 1 dX6_in_6 rfl rfl ?_
    refine g_sipush (v := 207) dX6_in_7 (by decide) ?_
    refine g_icmp_gt 22 dX6_in_10 (by decide) ?_ ?_
    · refine G.sub [1] rfl ?_
      exact gX6_in_p22 _ _
    · refine g_aload_n 0 0 dX6_in_13 rfl rfl ?_
      refine g_getR fdX6_53 dX6_in_14 ?_
      refine g_iload_n 1 1 dX6_in_17 rfl rfl ?_
      refine g_callV (fc := fun sς => Num_operands sς (gR σ x0 0) x1) (ci := 4) (as := [iv x1]) rfl rfl rfl q2125 q2126 mdX6_115 (ctX4_operands (gR σ x0 0) x1) rfl (Nat.le_of_ble_eq_true rfl) (Nat.le_of_ble_eq_true rfl) (Nat.le_of_ble_eq_true rfl) pu_I dX6_in_18 (fun r2 σ1 => ?_)
      exact g_ireturn rfl dX6_in_21
theorem V.dX6_out_0 : decode cX6_out 0 = .ok (.iload_n 1, 1) := by decide +kernel
theorem V.dX6_out_1 : decode cX6_out 1 = .ok (.bipush 69, 2) := by decide +kernel
theorem V.dX6_out_3 : decode cX6_out 3 = .ok (.if_icmp .lt 10, 3) := by decide +kernel
theorem V.dX6_out_6 : decode cX6_out 6 = .ok (.iload_n 1, 1) := by decide +kernel
theorem V.dX6_out_7 : decode cX6_out 7 = .ok (.sipush 207, 3) := by decide +kernel
theorem V.dX6_out_10 : decode cX6_out 10 = .ok (.if_icmp .le 15, 3) := by decide +kernel
theorem V.dX6_out_13 : decode cX6_out 13 = .ok (.iload_n 1, 1) := by decide +kernel
theorem V.dX6_out_14 : decode cX6_out 14 = .ok (.bipush 39, 2) := by decide +kernel
theorem V.dX6_out_16 : decode cX6_out 16 = .ok (.if_icmp .le 11, 3) := by decide +kernel
theorem V.dX6_out_19 : decode cX6_out 19 = .ok (.iload_n 1, 1) := by decide +kernel
theorem V.dX6_out_20 : decode cX6_out 20 = .ok (.bipush 54, 2) := by decide +kernel
theorem V.dX6_out_22 : decode cX6_out 22 = .ok (.if_icmp .ge 5, 3) := by decide +kernel
theorem V.dX6_out_25 : decode cX6_out 25 = .ok (.iconst 1, 1) := by decide +kernel
theorem V.dX6_out_26 : decode cX6_out 26 = .ok (.ireturn, 1) := by decide +kernel
theorem V.dX6_out_27 : decode cX6_out 27 = .ok (.iload_n 1, 1) := by decide +kernel
theorem V.dX6_out_28 : decode cX6_out 28 = .ok (.lookupswitch 126 #[(27, 124), (32, 124), (34, 124), (35, 124), (37, 124), (63, 124), (64, 124), (65, 124), (66, 124), (208, 124), (209, 124), (210, 124), (271, 124), (272, 124)], 124) := by decide +kernel
theorem V.dX6_out_152 : decode cX6_out 152 = .ok (.iconst 1, 1) := by decide +kernel
theorem V.dX6_out_153 : decode cX6_out 153 = .ok (.ireturn, 1) := by decide +kernel
theorem V.dX6_out_154 : decode cX6_out 154 = .ok (.iconst 0, 1) := by decide +kernel
theorem V.dX6_out_155 : decode cX6_out 155 = .ok (.ireturn, 1) := by decide +kernel
/-! ModuleEngine$Flat.out(I)I -/
def V.Flt_out_p27  (σ : HS) (x1 : Int32) : Option (Int32 × HS) :=
  swx x1 [
    (27, (
      some ((1 : Int32), σ))),
    (32, (
      some ((1 : Int32), σ))),
    (34, (
      some ((1 : Int32), σ))),
    (35, (
      some ((1 : Int32), σ))),
    (37, (
      some ((1 : Int32), σ))),
    (63, (
      some ((1 : Int32), σ))),
    (64, (
      some ((1 : Int32), σ))),
    (65, (
      some ((1 : Int32), σ))),
    (66, (
      some ((1 : Int32), σ))),
    (208, (
      some ((1 : Int32), σ))),
    (209, (
      some ((1 : Int32), σ))),
    (210, (
      some ((1 : Int32), σ))),
    (271, (
      some ((1 : Int32), σ))),
    (272, (
      some ((1 : Int32), σ)))
    ] (
    some ((0 : Int32), σ))
theorem V.gX6_out_p27 {X : CX}  (σ : HS) (x1 : Int32) : G X RX6 "out" cX6_out 2 (some .int) 0 0 enI 27 [(1, iv x1)] [] σ (Flt_out_p27 σ x1) := by
  unfold Flt_out_p27
  refine g_iload_n 1 0 dX6_out_27 rfl rfl ?_
  refine g_lsw dX6_out_28 (by decide +kernel) ?_
  refine g_case ex0 (t := 152) (by decide +kernel) ?_ (fun hx => ?_)
  · refine g_iconst (v := 1) dX6_out_152 (by decide) ?_
    exact g_ireturn rfl dX6_out_153
  refine g_case hx (t := 152) (by decide +kernel) ?_ (fun hx => ?_)
  · refine g_iconst (v := 1) dX6_out_152 (by decide) ?_
    exact g_ireturn rfl dX6_out_153
  refine g_case hx (t := 152) (by decide +kernel) ?_ (fun hx => ?_)
  · refine g_iconst (v := 1) dX6_out_152 (by decide) ?_
    exact g_ireturn rfl dX6_out_153
  refine g_case hx (t := 152) (by decide +kernel) ?_ (fun hx => ?_)
  · refine g_iconst (v := 1) dX6_out_152 (by decide) ?_
    exact g_ireturn rfl dX6_out_153
  refine g_case hx (t := 152) (by decide +kernel) ?_ (fun hx => ?_)
  · refine g_iconst (v := 1) dX6_out_152 (by decide) ?_
    exact g_ireturn rfl dX6_out_153
  refine g_case hx (t := 152) (by decide +kernel) ?_ (fun hx => ?_)
  · refine g_iconst (v := 1) dX6_out_152 (by decide) ?_
    exact g_ireturn rfl dX6_out_153
  refine g_case hx (t := 152) (by decide +kernel) ?_ (fun hx => ?_)
  · refine g_iconst (v := 1) dX6_out_152 (by decide) ?_
    exact g_ireturn rfl dX6_out_153
  refine g_case hx (t := 152) (by decide +kernel) ?_ (fun hx => ?_)
  · refine g_iconst (v := 1) dX6_out_152 (by decide) ?_
    exact g_ireturn rfl dX6_out_153
  refine g_case hx (t := 152) (by decide +kernel) ?_ (fun hx => ?_)
  · refine g_iconst (v := 1) dX6_out_152 (by decide) ?_
    exact g_ireturn rfl dX6_out_153
  refine g_case hx (t := 152) (by decide +kernel) ?_ (fun hx => ?_)
  · refine g_iconst (v := 1) dX6_out_152 (by decide) ?_
    exact g_ireturn rfl dX6_out_153
  refine g_case hx (t := 152) (by decide +kernel) ?_ (fun hx => ?_)
  · refine g_iconst (v := 1) dX6_out_152 (by decide) ?_
    exact g_ireturn rfl dX6_out_153
  refine g_case hx (t := 152) (by decide +kernel) ?_ (fun hx => ?_)
  · refine g_iconst (v := 1) dX6_out_152 (by decide) ?_
    exact g_ireturn rfl dX6_out_153
  refine g_case hx (t := 152) (by decide +kernel) ?_ (fun hx => ?_)
  · refine g_iconst (v := 1) dX6_out_152 (by decide) ?_
    exact g_ireturn rfl dX6_out_153
  refine g_case hx (t := 152) (by decide +kernel) ?_ (fun hx => ?_)
  · refine g_iconst (v := 1) dX6_out_152 (by decide) ?_
    exact g_ireturn rfl dX6_out_153
  refine g_dflt (t := 154) (lswT_d (by decide +kernel) hx) ?_
  refine g_iconst (v := 0) dX6_out_154 (by decide) ?_
  exact g_ireturn rfl dX6_out_155
def V.Flt_out_p13  (σ : HS) (x1 : Int32) : Option (Int32 × HS) :=
  if x1 ≤ (39 : Int32) then (
    Flt_out_p27 σ x1)
  else (
    if (54 : Int32) ≤ x1 then (
      Flt_out_p27 σ x1)
    else (
      some ((1 : Int32), σ)))
theorem V.gX6_out_p13 {X : CX}  (σ : HS) (x1 : Int32) : G X RX6 "out" cX6_out 2 (some .int) 0 0 enI 13 [(1, iv x1)] [] σ (Flt_out_p13 σ x1) := by
  unfold Flt_out_p13
  refine g_iload_n 1 0 dX6_out_13 rfl rfl ?_
  refine g_bipush (v := 39) dX6_out_14 (by decide) ?_
  refine g_icmp_le 27 dX6_out_16 (by decide) ?_ ?_
  · exact gX6_out_p27 _ _
  · refine g_iload_n 1 0 dX6_out_19 rfl rfl ?_
    refine g_bipush (v := 54) dX6_out_20 (by decide) ?_
    refine g_icmp_ge 27 dX6_out_22 (by decide) ?_ ?_
    · exact gX6_out_p27 _ _
    · refine g_iconst (v := 1) dX6_out_25 (by decide) ?_
      exact g_ireturn rfl dX6_out_26
def V.Flt_out (σ : HS) (x0 : Nat) (x1 : Int32) : Option (Int32 × HS) :=
  if x1 < (69 : Int32) then (
    Flt_out_p13 σ x1)
  else (
    if x1 ≤ (207 : Int32) then (
      some ((1 : Int32), σ))
    else (
      Flt_out_p13 σ x1))
theorem V.ctX6_out (x0 : Nat) (x1 : Int32) : Ct yX6_out  cX6_out 2 (some .int) 0 0 eI [av x0, iv x1] (fun σ => Flt_out σ x0 x1) := by
  refine Ct.of (own := RX6) (nm := "out") (desc := "(I)I") rfl (by decide) (Nat.le_of_ble_eq_true rfl) (by decide) (fun X σ => ?_)
  show G X RX6 "out" cX6_out 2 (some .int) 0 0 enI 0 [(0, av x0), (1, iv x1)] [] σ (Flt_out σ x0 x1)
  unfold Flt_out
  refine g_iload_n 1 1 dX6_out_0 rfl rfl ?_
  refine g_bipush (v := 69) dX6_out_1 (by decide) ?_
  refine g_icmp_lt 13 dX6_out_3 (by decide) ?_ ?_
  · refine G.sub [1] rfl ?_
    exact gX6_out_p13 _ _
  · refine g_iload_n 1 1 dX6_out_6 rfl rfl ?_
    refine g_sipush (v := 207) dX6_out_7 (by decide) ?_
    refine g_icmp_le 25 dX6_out_10 (by decide) ?_ ?_
    · refine g_iconst (v := 1) dX6_out_25 (by decide) ?_
      exact g_ireturn rfl dX6_out_26
    · refine G.sub [1] rfl ?_
      exact gX6_out_p13 _ _
theorem V.dX6_localsOf_0 : decode cX6_localsOf 0 = .ok (.aload_n 0, 1) := by decide +kernel
theorem V.dX6_localsOf_1 : decode cX6_localsOf 1 = .ok (.getfield 20, 3) := by decide +kernel
theorem V.dX6_localsOf_4 : decode cX6_localsOf 4 = .ok (.iload_n 1, 1) := by decide +kernel
theorem V.dX6_localsOf_5 : decode cX6_localsOf 5 = .ok (.invokevirtual 61, 3) := by decide +kernel
theorem V.dX6_localsOf_8 : decode cX6_localsOf 8 = .ok (.aload_n 0, 1) := by decide +kernel
theorem V.dX6_localsOf_9 : decode cX6_localsOf 9 = .ok (.getfield 26, 3) := by decide +kernel
theorem V.dX6_localsOf_12 : decode cX6_localsOf 12 = .ok (.iload_n 1, 1) := by decide +kernel
theorem V.dX6_localsOf_13 : decode cX6_localsOf 13 = .ok (.invokevirtual 61, 3) := by decide +kernel
theorem V.dX6_localsOf_16 : decode cX6_localsOf 16 = .ok (.iadd, 1) := by decide +kernel
theorem V.dX6_localsOf_17 : decode cX6_localsOf 17 = .ok (.ireturn, 1) := by decide +kernel
/-! ModuleEngine$Flat.localsOf(I)I -/
def V.Flt_localsOf (σ : HS) (x0 : Nat) (x1 : Int32) : Option (Int32 × HS) :=
  ck (tg σ x0 = 7) <|
  ck (tg σ (gR σ x0 4) = 4) <| cl (Row_at σ (gR σ x0 4) x1) fun r2 σ1 =>
  ck (tg σ1 x0 = 7) <|
  ck (tg σ1 (gR σ1 x0 6) = 4) <| cl (Row_at σ1 (gR σ1 x0 6) x1) fun r4 σ3 =>
  some (r2 + r4, σ3)
theorem V.ctX6_localsOf (x0 : Nat) (x1 : Int32) : Ct yX6_localsOf  cX6_localsOf 2 (some .int) 1 21 eI [av x0, iv x1] (fun σ => Flt_localsOf σ x0 x1) := by
  refine Ct.of (own := RX6) (nm := "localsOf") (desc := "(I)I") rfl (by decide) (Nat.le_of_ble_eq_true rfl) (by decide) (fun X σ => ?_)
  show G X RX6 "localsOf" cX6_localsOf 2 (some .int) 1 21 enI 0 [(0, av x0), (1, iv x1)] [] σ (Flt_localsOf σ x0 x1)
  unfold Flt_localsOf
  refine g_aload_n 0 0 dX6_localsOf_0 rfl rfl ?_
  refine g_getR fdX6_20 dX6_localsOf_1 ?_
  refine g_iload_n 1 1 dX6_localsOf_4 rfl rfl ?_
  refine g_callV (fc := fun sς => Row_at sς (gR σ x0 4) x1) (ci := 3) (as := [iv x1]) rfl rfl rfl q1409 q1410 mdX6_61 (ctX3_at (gR σ x0 4) x1) rfl (Nat.le_of_ble_eq_true rfl) (Nat.le_of_ble_eq_true rfl) (Nat.le_of_ble_eq_true rfl) pu_I dX6_localsOf_5 (fun r2 σ1 => ?_)
  refine g_aload_n 0 0 dX6_localsOf_8 rfl rfl ?_
  refine g_getR fdX6_26 dX6_localsOf_9 ?_
  refine g_iload_n 1 1 dX6_localsOf_12 rfl rfl ?_
  refine g_callV (fc := fun sς => Row_at sς (gR σ1 x0 6) x1) (ci := 3) (as := [iv x1]) rfl rfl rfl q1409 q1410 mdX6_61 (ctX3_at (gR σ1 x0 6) x1) rfl (Nat.le_of_ble_eq_true rfl) (Nat.le_of_ble_eq_true rfl) (Nat.le_of_ble_eq_true rfl) pu_I dX6_localsOf_13 (fun r4 σ3 => ?_)
  refine g_iadd dX6_localsOf_16 ?_
  exact g_ireturn rfl dX6_localsOf_17
theorem V.dX6_asks_0 : decode cX6_asks 0 = .ok (.aload_n 0, 1) := by decide +kernel
theorem V.dX6_asks_1 : decode cX6_asks 1 = .ok (.iload_n 1, 1) := by decide +kernel
theorem V.dX6_asks_2 : decode cX6_asks 2 = .ok (.invokevirtual 65, 3) := by decide +kernel
theorem V.dX6_asks_5 : decode cX6_asks 5 = .ok (.aload_n 0, 1) := by decide +kernel
theorem V.dX6_asks_6 : decode cX6_asks 6 = .ok (.getfield 29, 3) := by decide +kernel
theorem V.dX6_asks_9 : decode cX6_asks 9 = .ok (.iload_n 1, 1) := by decide +kernel
theorem V.dX6_asks_10 : decode cX6_asks 10 = .ok (.invokevirtual 61, 3) := by decide +kernel
theorem V.dX6_asks_13 : decode cX6_asks 13 = .ok (.iadd, 1) := by decide +kernel
theorem V.dX6_asks_14 : decode cX6_asks 14 = .ok (.ireturn, 1) := by decide +kernel
theorem V.mdX6_65 : MD RX6 65 yX6_localsOf cX6_localsOf 2 (some .int) 1 := ⟨Or.inl q2389, q366, q2392, by decide, by decide, by decide +kernel⟩
/-! ModuleEngine$Flat.asks(I)I -/
def V.Flt_asks (σ : HS) (x0 : Nat) (x1 : Int32) : Option (Int32 × HS) :=
  ck (tg σ x0 = 7) <| cl (Flt_localsOf σ x0 x1) fun r2 σ1 =>
  ck (tg σ1 x0 = 7) <|
  ck (tg σ1 (gR σ1 x0 7) = 4) <| cl (Row_at σ1 (gR σ1 x0 7) x1) fun r4 σ3 =>
  some (r2 + r4, σ3)
theorem V.ctX6_asks (x0 : Nat) (x1 : Int32) : Ct yX6_asks  cX6_asks 2 (some .int) 2 42 eI [av x0, iv x1] (fun σ => Flt_asks σ x0 x1) := by
  refine Ct.of (own := RX6) (nm := "asks") (desc := "(I)I") rfl (by decide) (Nat.le_of_ble_eq_true rfl) (by decide) (fun X σ => ?_)
  show G X RX6 "asks" cX6_asks 2 (some .int) 2 42 enI 0 [(0, av x0), (1, iv x1)] [] σ (Flt_asks σ x0 x1)
  unfold Flt_asks
  refine g_aload_n 0 0 dX6_asks_0 rfl rfl ?_
  refine g_iload_n 1 1 dX6_asks_1 rfl rfl ?_
  refine g_callV (fc := fun sς => Flt_localsOf sς x0 x1) (ci := 6) (as := [iv x1]) rfl rfl rfl q2390 q2391 mdX6_65 (ctX6_localsOf x0 x1) rfl (Nat.le_of_ble_eq_true rfl) (Nat.le_of_ble_eq_true rfl) (Nat.le_of_ble_eq_true rfl) pu_I dX6_asks_2 (fun r2 σ1 => ?_)
  refine g_aload_n 0 0 dX6_asks_5 rfl rfl ?_
  refine g_getR fdX6_29 dX6_asks_6 ?_
  refine g_iload_n 1 1 dX6_asks_9 rfl rfl ?_
  refine g_callV (fc := fun sς => Row_at sς (gR σ1 x0 7) x1) (ci := 3) (as := [iv x1]) rfl rfl rfl q1409 q1410 mdX6_61 (ctX3_at (gR σ1 x0 7) x1) rfl (Nat.le_of_ble_eq_true rfl) (Nat.le_of_ble_eq_true rfl) (Nat.le_of_ble_eq_true rfl) pu_I dX6_asks_10 (fun r4 σ3 => ?_)
  refine g_iadd dX6_asks_13 ?_
  exact g_ireturn rfl dX6_asks_14
theorem V.dX6_opAt_0 : decode cX6_opAt 0 = .ok (.aload_n 0, 1) := by decide +kernel
theorem V.dX6_opAt_1 : decode cX6_opAt 1 = .ok (.getfield 7, 3) := by decide +kernel
theorem V.dX6_opAt_4 : decode cX6_opAt 4 = .ok (.iconst 4, 1) := by decide +kernel
theorem V.dX6_opAt_5 : decode cX6_opAt 5 = .ok (.iload_n 1, 1) := by decide +kernel
theorem V.dX6_opAt_6 : decode cX6_opAt 6 = .ok (.imul, 1) := by decide +kernel
theorem V.dX6_opAt_7 : decode cX6_opAt 7 = .ok (.iaload, 1) := by decide +kernel
theorem V.dX6_opAt_8 : decode cX6_opAt 8 = .ok (.ireturn, 1) := by decide +kernel
/-! ModuleEngine$Flat.opAt(I)I -/
def V.Flt_opAt (σ : HS) (x0 : Nat) (x1 : Int32) : Option (Int32 × HS) :=
  ck (tg σ x0 = 7) <|
  ck (tg σ (gR σ x0 1) = 100 ∧ inb ((4 : Int32) * x1) (ln σ (gR σ x0 1))) <|
  some (gI σ (gR σ x0 1) (ix ((4 : Int32) * x1)), σ)
theorem V.ctX6_opAt (x0 : Nat) (x1 : Int32) : Ct yX6_opAt  cX6_opAt 2 (some .int) 0 0 eI [av x0, iv x1] (fun σ => Flt_opAt σ x0 x1) := by
  refine Ct.of (own := RX6) (nm := "opAt") (desc := "(I)I") rfl (by decide) (Nat.le_of_ble_eq_true rfl) (by decide) (fun X σ => ?_)
  show G X RX6 "opAt" cX6_opAt 2 (some .int) 0 0 enI 0 [(0, av x0), (1, iv x1)] [] σ (Flt_opAt σ x0 x1)
  unfold Flt_opAt
  refine g_aload_n 0 0 dX6_opAt_0 rfl rfl ?_
  refine g_getR fdX6_7 dX6_opAt_1 ?_
  refine g_iconst (v := 4) dX6_opAt_4 (by decide) ?_
  refine g_iload_n 1 1 dX6_opAt_5 rfl rfl ?_
  refine g_imul dX6_opAt_6 ?_
  refine g_iaload dX6_opAt_7 ?_
  exact g_ireturn rfl dX6_opAt_8
theorem V.dX6_fieldAt_0 : decode cX6_fieldAt 0 = .ok (.aload_n 0, 1) := by decide +kernel
theorem V.dX6_fieldAt_1 : decode cX6_fieldAt 1 = .ok (.getfield 7, 3) := by decide +kernel
theorem V.dX6_fieldAt_4 : decode cX6_fieldAt 4 = .ok (.iconst 4, 1) := by decide +kernel
theorem V.dX6_fieldAt_5 : decode cX6_fieldAt 5 = .ok (.iload_n 1, 1) := by decide +kernel
theorem V.dX6_fieldAt_6 : decode cX6_fieldAt 6 = .ok (.imul, 1) := by decide +kernel
theorem V.dX6_fieldAt_7 : decode cX6_fieldAt 7 = .ok (.iload_n 2, 1) := by decide +kernel
theorem V.dX6_fieldAt_8 : decode cX6_fieldAt 8 = .ok (.iadd, 1) := by decide +kernel
theorem V.dX6_fieldAt_9 : decode cX6_fieldAt 9 = .ok (.iaload, 1) := by decide +kernel
theorem V.dX6_fieldAt_10 : decode cX6_fieldAt 10 = .ok (.ireturn, 1) := by decide +kernel
/-! ModuleEngine$Flat.fieldAt(II)I -/
def V.Flt_fieldAt (σ : HS) (x0 : Nat) (x1 : Int32) (x2 : Int32) : Option (Int32 × HS) :=
  ck (tg σ x0 = 7) <|
  ck (tg σ (gR σ x0 1) = 100 ∧ inb (((4 : Int32) * x1) + x2) (ln σ (gR σ x0 1))) <|
  some (gI σ (gR σ x0 1) (ix (((4 : Int32) * x1) + x2)), σ)
theorem V.ctX6_fieldAt (x0 : Nat) (x1 : Int32) (x2 : Int32) : Ct yX6_fieldAt  cX6_fieldAt 3 (some .int) 0 0 eI [av x0, iv x1, iv x2] (fun σ => Flt_fieldAt σ x0 x1 x2) := by
  refine Ct.of (own := RX6) (nm := "fieldAt") (desc := "(II)I") rfl (by decide) (Nat.le_of_ble_eq_true rfl) (by decide) (fun X σ => ?_)
  show G X RX6 "fieldAt" cX6_fieldAt 3 (some .int) 0 0 enI 0 [(0, av x0), (1, iv x1), (2, iv x2)] [] σ (Flt_fieldAt σ x0 x1 x2)
  unfold Flt_fieldAt
  refine g_aload_n 0 0 dX6_fieldAt_0 rfl rfl ?_
  refine g_getR fdX6_7 dX6_fieldAt_1 ?_
  refine g_iconst (v := 4) dX6_fieldAt_4 (by decide) ?_
  refine g_iload_n 1 1 dX6_fieldAt_5 rfl rfl ?_
  refine g_imul dX6_fieldAt_6 ?_
  refine g_iload_n 2 2 dX6_fieldAt_7 rfl rfl ?_
  refine g_iadd dX6_fieldAt_8 ?_
  refine g_iaload dX6_fieldAt_9 ?_
  exact g_ireturn rfl dX6_fieldAt_10
theorem V.dX6_parametersOf_0 : decode cX6_parametersOf 0 = .ok (.aload_n 0, 1) := by decide +kernel
theorem V.dX6_parametersOf_1 : decode cX6_parametersOf 1 = .ok (.getfield 20, 3) := by decide +kernel
theorem V.dX6_parametersOf_4 : decode cX6_parametersOf 4 = .ok (.iload_n 1, 1) := by decide +kernel
theorem V.dX6_parametersOf_5 : decode cX6_parametersOf 5 = .ok (.invokevirtual 61, 3) := by decide +kernel
theorem V.dX6_parametersOf_8 : decode cX6_parametersOf 8 = .ok (.ireturn, 1) := by decide +kernel
/-! ModuleEngine$Flat.parametersOf(I)I -/
def V.Flt_parametersOf (σ : HS) (x0 : Nat) (x1 : Int32) : Option (Int32 × HS) :=
  ck (tg σ x0 = 7) <|
  ck (tg σ (gR σ x0 4) = 4) <| cl (Row_at σ (gR σ x0 4) x1) fun r2 σ1 =>
  some (r2, σ1)
theorem V.ctX6_parametersOf (x0 : Nat) (x1 : Int32) : Ct yX6_parametersOf  cX6_parametersOf 2 (some .int) 1 21 eI [av x0, iv x1] (fun σ => Flt_parametersOf σ x0 x1) := by
  refine Ct.of (own := RX6) (nm := "parametersOf") (desc := "(I)I") rfl (by decide) (Nat.le_of_ble_eq_true rfl) (by decide) (fun X σ => ?_)
  show G X RX6 "parametersOf" cX6_parametersOf 2 (some .int) 1 21 enI 0 [(0, av x0), (1, iv x1)] [] σ (Flt_parametersOf σ x0 x1)
  unfold Flt_parametersOf
  refine g_aload_n 0 0 dX6_parametersOf_0 rfl rfl ?_
  refine g_getR fdX6_20 dX6_parametersOf_1 ?_
  refine g_iload_n 1 1 dX6_parametersOf_4 rfl rfl ?_
  refine g_callV (fc := fun sς => Row_at sς (gR σ x0 4) x1) (ci := 3) (as := [iv x1]) rfl rfl rfl q1409 q1410 mdX6_61 (ctX3_at (gR σ x0 4) x1) rfl (Nat.le_of_ble_eq_true rfl) (Nat.le_of_ble_eq_true rfl) (Nat.le_of_ble_eq_true rfl) pu_I dX6_parametersOf_5 (fun r2 σ1 => ?_)
  exact g_ireturn rfl dX6_parametersOf_8
theorem V.dX9_init_0 : decode cX9_init 0 = .ok (.aload_n 0, 1) := by decide +kernel
theorem V.dX9_init_1 : decode cX9_init 1 = .ok (.invokespecial 1, 3) := by decide +kernel
theorem V.dX9_init_4 : decode cX9_init 4 = .ok (.return_, 1) := by decide +kernel
/-! ModuleEngine$ModuleTypes.<init>()V -/
def V.Mty_init (σ : HS) (x0 : Nat) : Option (Unit × HS) :=
  ck (¬ x0 = 0) <|
  some ((), σ)
theorem V.ctX9_init (x0 : Nat) : Ct yX9_init  cX9_init 1 none 1 24 eV [av x0] (fun σ => Mty_init σ x0) := by
  refine Ct.of (own := RX9) (nm := "<init>") (desc := "()V") rfl (by decide) (Nat.le_of_ble_eq_true rfl) (by decide) (fun X σ => ?_)
  show G X RX9 "<init>" cX9_init 1 none 1 24 enV 0 [(0, av x0)] [] σ (Mty_init σ x0)
  unfold Mty_init
  refine g_aload_n 0 0 dX9_init_0 rfl rfl ?_
  refine g_objInit q757 (Nat.le_of_ble_eq_true rfl) (Nat.le_of_ble_eq_true rfl) dX9_init_1 ?_
  exact g_return rfl dX9_init_4
theorem V.dX9_parameters_0 : decode cX9_parameters 0 = .ok (.aload_n 0, 1) := by decide +kernel
theorem V.dX9_parameters_1 : decode cX9_parameters 1 = .ok (.getfield 7, 3) := by decide +kernel
theorem V.dX9_parameters_4 : decode cX9_parameters 4 = .ok (.iload_n 1, 1) := by decide +kernel
theorem V.dX9_parameters_5 : decode cX9_parameters 5 = .ok (.invokevirtual 19, 3) := by decide +kernel
theorem V.dX9_parameters_8 : decode cX9_parameters 8 = .ok (.ireturn, 1) := by decide +kernel
theorem V.fdX9_7 : FD RX9 7 9 0 2 := ⟨(RX9, TX9, 1), tyX9, rfl, rfl, in_X9, by decide, Or.inl q758, rfl⟩
theorem V.mdX9_19 : MD RX9 19 yX2_parameters cX2_parameters 2 (some .int) 1 := ⟨Or.inl q1765, q362, q1560, by decide, by decide, by decide +kernel⟩
/-! ModuleEngine$ModuleTypes.parameters(I)I -/
def V.Mty_parameters (σ : HS) (x0 : Nat) (x1 : Int32) : Option (Int32 × HS) :=
  ck (tg σ x0 = 10) <|
  ck (tg σ (gR σ x0 0) = 3) <| cl (Mod_parameters σ (gR σ x0 0) x1) fun r2 σ1 =>
  some (r2, σ1)
theorem V.ctX9_parameters (x0 : Nat) (x1 : Int32) : Ct yX9_parameters  cX9_parameters 2 (some .int) 2 42 eI [av x0, iv x1] (fun σ => Mty_parameters σ x0 x1) := by
  refine Ct.of (own := RX9) (nm := "parameters") (desc := "(I)I") rfl (by decide) (Nat.le_of_ble_eq_true rfl) (by decide) (fun X σ => ?_)
  show G X RX9 "parameters" cX9_parameters 2 (some .int) 2 42 enI 0 [(0, av x0), (1, iv x1)] [] σ (Mty_parameters σ x0 x1)
  unfold Mty_parameters
  refine g_aload_n 0 0 dX9_parameters_0 rfl rfl ?_
  refine g_getR fdX9_7 dX9_parameters_1 ?_
  refine g_iload_n 1 1 dX9_parameters_4 rfl rfl ?_
  refine g_callV (fc := fun sς => Mod_parameters sς (gR σ x0 0) x1) (ci := 2) (as := [iv x1]) rfl rfl rfl q1558 q1559 mdX9_19 (ctX2_parameters (gR σ x0 0) x1) rfl (Nat.le_of_ble_eq_true rfl) (Nat.le_of_ble_eq_true rfl) (Nat.le_of_ble_eq_true rfl) pu_I dX9_parameters_5 (fun r2 σ1 => ?_)
  exact g_ireturn rfl dX9_parameters_8
theorem V.dX9_parameter_0 : decode cX9_parameter 0 = .ok (.aload_n 0, 1) := by decide +kernel
theorem V.dX9_parameter_1 : decode cX9_parameter 1 = .ok (.getfield 7, 3) := by decide +kernel
theorem V.dX9_parameter_4 : decode cX9_parameter 4 = .ok (.iload_n 1, 1) := by decide +kernel
theorem V.dX9_parameter_5 : decode cX9_parameter 5 = .ok (.iload_n 2, 1) := by decide +kernel
theorem V.dX9_parameter_6 : decode cX9_parameter 6 = .ok (.invokevirtual 23, 3) := by decide +kernel
theorem V.dX9_parameter_9 : decode cX9_parameter 9 = .ok (.ireturn, 1) := by decide +kernel
theorem V.mdX9_23 : MD RX9 23 yX2_parameter cX2_parameter 3 (some .int) 2 := ⟨Or.inl q1775, q362, q1778, by decide, by decide, by decide +kernel⟩
/-! ModuleEngine$ModuleTypes.parameter(II)I -/
def V.Mty_parameter (σ : HS) (x0 : Nat) (x1 : Int32) (x2 : Int32) : Option (Int32 × HS) :=
  ck (tg σ x0 = 10) <|
  ck (tg σ (gR σ x0 0) = 3) <| cl (Mod_parameter σ (gR σ x0 0) x1 x2) fun r2 σ1 =>
  some (r2, σ1)
theorem V.ctX9_parameter (x0 : Nat) (x1 : Int32) (x2 : Int32) : Ct yX9_parameter  cX9_parameter 3 (some .int) 2 43 eI [av x0, iv x1, iv x2] (fun σ => Mty_parameter σ x0 x1 x2) := by
  refine Ct.of (own := RX9) (nm := "parameter") (desc := "(II)I") rfl (by decide) (Nat.le_of_ble_eq_true rfl) (by decide) (fun X σ => ?_)
  show G X RX9 "parameter" cX9_parameter 3 (some .int) 2 43 enI 0 [(0, av x0), (1, iv x1), (2, iv x2)] [] σ (Mty_parameter σ x0 x1 x2)
  unfold Mty_parameter
  refine g_aload_n 0 0 dX9_parameter_0 rfl rfl ?_
  refine g_getR fdX9_7 dX9_parameter_1 ?_
  refine g_iload_n 1 1 dX9_parameter_4 rfl rfl ?_
  refine g_iload_n 2 2 dX9_parameter_5 rfl rfl ?_
  refine g_callV (fc := fun sς => Mod_parameter sς (gR σ x0 0) x1 x2) (ci := 2) (as := [iv x1, iv x2]) rfl rfl rfl q1776 q1777 mdX9_23 (ctX2_parameter (gR σ x0 0) x1 x2) rfl (Nat.le_of_ble_eq_true rfl) (Nat.le_of_ble_eq_true rfl) (Nat.le_of_ble_eq_true rfl) pu_I dX9_parameter_6 (fun r2 σ1 => ?_)
  exact g_ireturn rfl dX9_parameter_9
theorem V.dX9_count_0 : decode cX9_count 0 = .ok (.aload_n 0, 1) := by decide +kernel
theorem V.dX9_count_1 : decode cX9_count 1 = .ok (.getfield 7, 3) := by decide +kernel
theorem V.dX9_count_4 : decode cX9_count 4 = .ok (.invokevirtual 13, 3) := by decide +kernel
theorem V.dX9_count_7 : decode cX9_count 7 = .ok (.ireturn, 1) := by decide +kernel
theorem V.mdX9_13 : MD RX9 13 yX2_typeCount cX2_typeCount 1 (some .int) 0 := ⟨Or.inl q1834, q362, q1551, by decide, by decide, by decide +kernel⟩
/-! ModuleEngine$ModuleTypes.count()I -/
def V.Mty_count (σ : HS) (x0 : Nat) : Option (Int32 × HS) :=
  ck (tg σ x0 = 10) <|
  ck (tg σ (gR σ x0 0) = 3) <| cl (Mod_typeCount σ (gR σ x0 0) ) fun r2 σ1 =>
  some (r2, σ1)
theorem V.ctX9_count (x0 : Nat) : Ct yX9_count  cX9_count 1 (some .int) 2 40 eI [av x0] (fun σ => Mty_count σ x0) := by
  refine Ct.of (own := RX9) (nm := "count") (desc := "()I") rfl (by decide) (Nat.le_of_ble_eq_true rfl) (by decide) (fun X σ => ?_)
  show G X RX9 "count" cX9_count 1 (some .int) 2 40 enI 0 [(0, av x0)] [] σ (Mty_count σ x0)
  unfold Mty_count
  refine g_aload_n 0 0 dX9_count_0 rfl rfl ?_
  refine g_getR fdX9_7 dX9_count_1 ?_
  refine g_callV (fc := fun sς => Mod_typeCount sς (gR σ x0 0) ) (ci := 2) (as := []) rfl rfl rfl q1549 q1550 mdX9_13 (ctX2_typeCount (gR σ x0 0) ) rfl (Nat.le_of_ble_eq_true rfl) (Nat.le_of_ble_eq_true rfl) (Nat.le_of_ble_eq_true rfl) pu_I dX9_count_4 (fun r2 σ1 => ?_)
  exact g_ireturn rfl dX9_count_7
theorem V.dX9_results_0 : decode cX9_results 0 = .ok (.aload_n 0, 1) := by decide +kernel
theorem V.dX9_results_1 : decode cX9_results 1 = .ok (.getfield 7, 3) := by decide +kernel
theorem V.dX9_results_4 : decode cX9_results 4 = .ok (.iload_n 1, 1) := by decide +kernel
theorem V.dX9_results_5 : decode cX9_results 5 = .ok (.invokevirtual 27, 3) := by decide +kernel
theorem V.dX9_results_8 : decode cX9_results 8 = .ok (.ireturn, 1) := by decide +kernel
theorem V.mdX9_27 : MD RX9 27 yX2_results cX2_results 2 (some .int) 1 := ⟨Or.inl q1884, q362, q1565, by decide, by decide, by decide +kernel⟩
/-! ModuleEngine$ModuleTypes.results(I)I -/
def V.Mty_results (σ : HS) (x0 : Nat) (x1 : Int32) : Option (Int32 × HS) :=
  ck (tg σ x0 = 10) <|
  ck (tg σ (gR σ x0 0) = 3) <| cl (Mod_results σ (gR σ x0 0) x1) fun r2 σ1 =>
  some (r2, σ1)
theorem V.ctX9_results (x0 : Nat) (x1 : Int32) : Ct yX9_results  cX9_results 2 (some .int) 3 63 eI [av x0, iv x1] (fun σ => Mty_results σ x0 x1) := by
  refine Ct.of (own := RX9) (nm := "results") (desc := "(I)I") rfl (by decide) (Nat.le_of_ble_eq_true rfl) (by decide) (fun X σ => ?_)
  show G X RX9 "results" cX9_results 2 (some .int) 3 63 enI 0 [(0, av x0), (1, iv x1)] [] σ (Mty_results σ x0 x1)
  unfold Mty_results
  refine g_aload_n 0 0 dX9_results_0 rfl rfl ?_
  refine g_getR fdX9_7 dX9_results_1 ?_
  refine g_iload_n 1 1 dX9_results_4 rfl rfl ?_
  refine g_callV (fc := fun sς => Mod_results sς (gR σ x0 0) x1) (ci := 2) (as := [iv x1]) rfl rfl rfl q1563 q1564 mdX9_27 (ctX2_results (gR σ x0 0) x1) rfl (Nat.le_of_ble_eq_true rfl) (Nat.le_of_ble_eq_true rfl) (Nat.le_of_ble_eq_true rfl) pu_I dX9_results_5 (fun r2 σ1 => ?_)
  exact g_ireturn rfl dX9_results_8
theorem V.dX9_result_0 : decode cX9_result 0 = .ok (.aload_n 0, 1) := by decide +kernel
theorem V.dX9_result_1 : decode cX9_result 1 = .ok (.getfield 7, 3) := by decide +kernel
theorem V.dX9_result_4 : decode cX9_result 4 = .ok (.iload_n 1, 1) := by decide +kernel
theorem V.dX9_result_5 : decode cX9_result 5 = .ok (.iload_n 2, 1) := by decide +kernel
theorem V.dX9_result_6 : decode cX9_result 6 = .ok (.invokevirtual 30, 3) := by decide +kernel
theorem V.dX9_result_9 : decode cX9_result 9 = .ok (.ireturn, 1) := by decide +kernel
theorem V.mdX9_30 : MD RX9 30 yX2_result cX2_result 3 (some .int) 2 := ⟨Or.inl q1898, q362, q1901, by decide, by decide, by decide +kernel⟩
/-! ModuleEngine$ModuleTypes.result(II)I -/
def V.Mty_result (σ : HS) (x0 : Nat) (x1 : Int32) (x2 : Int32) : Option (Int32 × HS) :=
  ck (tg σ x0 = 10) <|
  ck (tg σ (gR σ x0 0) = 3) <| cl (Mod_result σ (gR σ x0 0) x1 x2) fun r2 σ1 =>
  some (r2, σ1)
theorem V.ctX9_result (x0 : Nat) (x1 : Int32) (x2 : Int32) : Ct yX9_result  cX9_result 3 (some .int) 3 64 eI [av x0, iv x1, iv x2] (fun σ => Mty_result σ x0 x1 x2) := by
  refine Ct.of (own := RX9) (nm := "result") (desc := "(II)I") rfl (by decide) (Nat.le_of_ble_eq_true rfl) (by decide) (fun X σ => ?_)
  show G X RX9 "result" cX9_result 3 (some .int) 3 64 enI 0 [(0, av x0), (1, iv x1), (2, iv x2)] [] σ (Mty_result σ x0 x1 x2)
  unfold Mty_result
  refine g_aload_n 0 0 dX9_result_0 rfl rfl ?_
  refine g_getR fdX9_7 dX9_result_1 ?_
  refine g_iload_n 1 1 dX9_result_4 rfl rfl ?_
  refine g_iload_n 2 2 dX9_result_5 rfl rfl ?_
  refine g_callV (fc := fun sς => Mod_result sς (gR σ x0 0) x1 x2) (ci := 2) (as := [iv x1, iv x2]) rfl rfl rfl q1899 q1900 mdX9_30 (ctX2_result (gR σ x0 0) x1 x2) rfl (Nat.le_of_ble_eq_true rfl) (Nat.le_of_ble_eq_true rfl) (Nat.le_of_ble_eq_true rfl) pu_I dX9_result_6 (fun r2 σ1 => ?_)
  exact g_ireturn rfl dX9_result_9
theorem V.dX20_init_0 : decode cX20_init 0 = .ok (.aload_n 0, 1) := by decide +kernel
theorem V.dX20_init_1 : decode cX20_init 1 = .ok (.invokespecial 3, 3) := by decide +kernel
theorem V.dX20_init_4 : decode cX20_init 4 = .ok (.aload_n 0, 1) := by decide +kernel
theorem V.dX20_init_5 : decode cX20_init 5 = .ok (.bipush 13, 2) := by decide +kernel
theorem V.dX20_init_7 : decode cX20_init 7 = .ok (.newarray .int, 2) := by decide +kernel
theorem V.dX20_init_9 : decode cX20_init 9 = .ok (.putfield 9, 3) := by decide +kernel
theorem V.dX20_init_12 : decode cX20_init 12 = .ok (.aload_n 0, 1) := by decide +kernel
theorem V.dX20_init_13 : decode cX20_init 13 = .ok (.iconst (-1), 1) := by decide +kernel
theorem V.dX20_init_14 : decode cX20_init 14 = .ok (.putfield 15, 3) := by decide +kernel
theorem V.dX20_init_17 : decode cX20_init 17 = .ok (.aload_n 0, 1) := by decide +kernel
theorem V.dX20_init_18 : decode cX20_init 18 = .ok (.bipush 64, 2) := by decide +kernel
theorem V.dX20_init_20 : decode cX20_init 20 = .ok (.newarray .int, 2) := by decide +kernel
theorem V.dX20_init_22 : decode cX20_init 22 = .ok (.putfield 19, 3) := by decide +kernel
theorem V.dX20_init_25 : decode cX20_init 25 = .ok (.aload_n 0, 1) := by decide +kernel
theorem V.dX20_init_26 : decode cX20_init 26 = .ok (.bipush 64, 2) := by decide +kernel
theorem V.dX20_init_28 : decode cX20_init 28 = .ok (.newarray .int, 2) := by decide +kernel
theorem V.dX20_init_30 : decode cX20_init 30 = .ok (.putfield 22, 3) := by decide +kernel
theorem V.dX20_init_33 : decode cX20_init 33 = .ok (.aload_n 0, 1) := by decide +kernel
theorem V.dX20_init_34 : decode cX20_init 34 = .ok (.sipush 2048, 3) := by decide +kernel
theorem V.dX20_init_37 : decode cX20_init 37 = .ok (.newarray .int, 2) := by decide +kernel
theorem V.dX20_init_39 : decode cX20_init 39 = .ok (.putfield 25, 3) := by decide +kernel
theorem V.dX20_init_42 : decode cX20_init 42 = .ok (.aload_n 0, 1) := by decide +kernel
theorem V.dX20_init_43 : decode cX20_init 43 = .ok (.bipush 64, 2) := by decide +kernel
theorem V.dX20_init_45 : decode cX20_init 45 = .ok (.newarray .int, 2) := by decide +kernel
theorem V.dX20_init_47 : decode cX20_init 47 = .ok (.putfield 28, 3) := by decide +kernel
theorem V.dX20_init_50 : decode cX20_init 50 = .ok (.aload_n 0, 1) := by decide +kernel
theorem V.dX20_init_51 : decode cX20_init 51 = .ok (.bipush 64, 2) := by decide +kernel
theorem V.dX20_init_53 : decode cX20_init 53 = .ok (.newarray .long, 2) := by decide +kernel
theorem V.dX20_init_55 : decode cX20_init 55 = .ok (.putfield 31, 3) := by decide +kernel
theorem V.dX20_init_58 : decode cX20_init 58 = .ok (.aload_n 0, 1) := by decide +kernel
theorem V.dX20_init_59 : decode cX20_init 59 = .ok (.bipush 64, 2) := by decide +kernel
theorem V.dX20_init_61 : decode cX20_init 61 = .ok (.newarray .long, 2) := by decide +kernel
theorem V.dX20_init_63 : decode cX20_init 63 = .ok (.putfield 35, 3) := by decide +kernel
theorem V.dX20_init_66 : decode cX20_init 66 = .ok (.aload_n 0, 1) := by decide +kernel
theorem V.dX20_init_67 : decode cX20_init 67 = .ok (.bipush 64, 2) := by decide +kernel
theorem V.dX20_init_69 : decode cX20_init 69 = .ok (.newarray .long, 2) := by decide +kernel
theorem V.dX20_init_71 : decode cX20_init 71 = .ok (.putfield 38, 3) := by decide +kernel
theorem V.dX20_init_74 : decode cX20_init 74 = .ok (.aload_n 0, 1) := by decide +kernel
theorem V.dX20_init_75 : decode cX20_init 75 = .ok (.bipush 64, 2) := by decide +kernel
theorem V.dX20_init_77 : decode cX20_init 77 = .ok (.newarray .boolean, 2) := by decide +kernel
theorem V.dX20_init_79 : decode cX20_init 79 = .ok (.putfield 41, 3) := by decide +kernel
theorem V.dX20_init_82 : decode cX20_init 82 = .ok (.aload_n 0, 1) := by decide +kernel
theorem V.dX20_init_83 : decode cX20_init 83 = .ok (.bipush 64, 2) := by decide +kernel
theorem V.dX20_init_85 : decode cX20_init 85 = .ok (.newarray .long, 2) := by decide +kernel
theorem V.dX20_init_87 : decode cX20_init 87 = .ok (.putfield 45, 3) := by decide +kernel
theorem V.dX20_init_90 : decode cX20_init 90 = .ok (.aload_n 0, 1) := by decide +kernel
theorem V.dX20_init_91 : decode cX20_init 91 = .ok (.bipush 64, 2) := by decide +kernel
theorem V.dX20_init_93 : decode cX20_init 93 = .ok (.newarray .int, 2) := by decide +kernel
theorem V.dX20_init_95 : decode cX20_init 95 = .ok (.putfield 48, 3) := by decide +kernel
theorem V.dX20_init_98 : decode cX20_init 98 = .ok (.aload_n 0, 1) := by decide +kernel
theorem V.dX20_init_99 : decode cX20_init 99 = .ok (.bipush 64, 2) := by decide +kernel
theorem V.dX20_init_101 : decode cX20_init 101 = .ok (.newarray .long, 2) := by decide +kernel
theorem V.dX20_init_103 : decode cX20_init 103 = .ok (.putfield 51, 3) := by decide +kernel
theorem V.dX20_init_106 : decode cX20_init 106 = .ok (.aload_n 0, 1) := by decide +kernel
theorem V.dX20_init_107 : decode cX20_init 107 = .ok (.bipush 64, 2) := by decide +kernel
theorem V.dX20_init_109 : decode cX20_init 109 = .ok (.newarray .long, 2) := by decide +kernel
theorem V.dX20_init_111 : decode cX20_init 111 = .ok (.putfield 54, 3) := by decide +kernel
theorem V.dX20_init_114 : decode cX20_init 114 = .ok (.aload_n 0, 1) := by decide +kernel
theorem V.dX20_init_115 : decode cX20_init 115 = .ok (.bipush 64, 2) := by decide +kernel
theorem V.dX20_init_117 : decode cX20_init 117 = .ok (.newarray .long, 2) := by decide +kernel
theorem V.dX20_init_119 : decode cX20_init 119 = .ok (.putfield 57, 3) := by decide +kernel
theorem V.dX20_init_122 : decode cX20_init 122 = .ok (.aload_n 0, 1) := by decide +kernel
theorem V.dX20_init_123 : decode cX20_init 123 = .ok (.bipush 64, 2) := by decide +kernel
theorem V.dX20_init_125 : decode cX20_init 125 = .ok (.newarray .long, 2) := by decide +kernel
theorem V.dX20_init_127 : decode cX20_init 127 = .ok (.putfield 60, 3) := by decide +kernel
theorem V.dX20_init_130 : decode cX20_init 130 = .ok (.aload_n 0, 1) := by decide +kernel
theorem V.dX20_init_131 : decode cX20_init 131 = .ok (.bipush 64, 2) := by decide +kernel
theorem V.dX20_init_133 : decode cX20_init 133 = .ok (.newarray .int, 2) := by decide +kernel
theorem V.dX20_init_135 : decode cX20_init 135 = .ok (.putfield 63, 3) := by decide +kernel
theorem V.dX20_init_138 : decode cX20_init 138 = .ok (.aload_n 0, 1) := by decide +kernel
theorem V.dX20_init_139 : decode cX20_init 139 = .ok (.bipush 64, 2) := by decide +kernel
theorem V.dX20_init_141 : decode cX20_init 141 = .ok (.newarray .boolean, 2) := by decide +kernel
theorem V.dX20_init_143 : decode cX20_init 143 = .ok (.putfield 66, 3) := by decide +kernel
theorem V.dX20_init_146 : decode cX20_init 146 = .ok (.aload_n 0, 1) := by decide +kernel
theorem V.dX20_init_147 : decode cX20_init 147 = .ok (.bipush 64, 2) := by decide +kernel
theorem V.dX20_init_149 : decode cX20_init 149 = .ok (.newarray .int, 2) := by decide +kernel
theorem V.dX20_init_151 : decode cX20_init 151 = .ok (.putfield 69, 3) := by decide +kernel
theorem V.dX20_init_154 : decode cX20_init 154 = .ok (.aload_n 0, 1) := by decide +kernel
theorem V.dX20_init_155 : decode cX20_init 155 = .ok (.bipush 64, 2) := by decide +kernel
theorem V.dX20_init_157 : decode cX20_init 157 = .ok (.newarray .int, 2) := by decide +kernel
theorem V.dX20_init_159 : decode cX20_init 159 = .ok (.putfield 72, 3) := by decide +kernel
theorem V.dX20_init_162 : decode cX20_init 162 = .ok (.aload_n 0, 1) := by decide +kernel
theorem V.dX20_init_163 : decode cX20_init 163 = .ok (.bipush 64, 2) := by decide +kernel
theorem V.dX20_init_165 : decode cX20_init 165 = .ok (.newarray .int, 2) := by decide +kernel
theorem V.dX20_init_167 : decode cX20_init 167 = .ok (.putfield 75, 3) := by decide +kernel
theorem V.dX20_init_170 : decode cX20_init 170 = .ok (.aload_n 0, 1) := by decide +kernel
theorem V.dX20_init_171 : decode cX20_init 171 = .ok (.bipush 64, 2) := by decide +kernel
theorem V.dX20_init_173 : decode cX20_init 173 = .ok (.newarray .int, 2) := by decide +kernel
theorem V.dX20_init_175 : decode cX20_init 175 = .ok (.putfield 78, 3) := by decide +kernel
theorem V.dX20_init_178 : decode cX20_init 178 = .ok (.aload_n 0, 1) := by decide +kernel
theorem V.dX20_init_179 : decode cX20_init 179 = .ok (.bipush 64, 2) := by decide +kernel
theorem V.dX20_init_181 : decode cX20_init 181 = .ok (.newarray .long, 2) := by decide +kernel
theorem V.dX20_init_183 : decode cX20_init 183 = .ok (.putfield 81, 3) := by decide +kernel
theorem V.dX20_init_186 : decode cX20_init 186 = .ok (.aload_n 0, 1) := by decide +kernel
theorem V.dX20_init_187 : decode cX20_init 187 = .ok (.ldc2_w 84, 3) := by decide +kernel
theorem V.dX20_init_190 : decode cX20_init 190 = .ok (.putfield 86, 3) := by decide +kernel
theorem V.dX20_init_193 : decode cX20_init 193 = .ok (.aload_n 0, 1) := by decide +kernel
theorem V.dX20_init_194 : decode cX20_init 194 = .ok (.bipush 64, 2) := by decide +kernel
theorem V.dX20_init_196 : decode cX20_init 196 = .ok (.newarray .int, 2) := by decide +kernel
theorem V.dX20_init_198 : decode cX20_init 198 = .ok (.putfield 90, 3) := by decide +kernel
theorem V.dX20_init_201 : decode cX20_init 201 = .ok (.aload_n 0, 1) := by decide +kernel
theorem V.dX20_init_202 : decode cX20_init 202 = .ok (.bipush 64, 2) := by decide +kernel
theorem V.dX20_init_204 : decode cX20_init 204 = .ok (.newarray .long, 2) := by decide +kernel
theorem V.dX20_init_206 : decode cX20_init 206 = .ok (.putfield 93, 3) := by decide +kernel
theorem V.dX20_init_209 : decode cX20_init 209 = .ok (.aload_n 0, 1) := by decide +kernel
theorem V.dX20_init_210 : decode cX20_init 210 = .ok (.bipush 64, 2) := by decide +kernel
theorem V.dX20_init_212 : decode cX20_init 212 = .ok (.newarray .int, 2) := by decide +kernel
theorem V.dX20_init_214 : decode cX20_init 214 = .ok (.putfield 96, 3) := by decide +kernel
theorem V.dX20_init_217 : decode cX20_init 217 = .ok (.aload_n 0, 1) := by decide +kernel
theorem V.dX20_init_218 : decode cX20_init 218 = .ok (.bipush 64, 2) := by decide +kernel
theorem V.dX20_init_220 : decode cX20_init 220 = .ok (.newarray .int, 2) := by decide +kernel
theorem V.dX20_init_222 : decode cX20_init 222 = .ok (.putfield 99, 3) := by decide +kernel
theorem V.dX20_init_225 : decode cX20_init 225 = .ok (.aload_n 0, 1) := by decide +kernel
theorem V.dX20_init_226 : decode cX20_init 226 = .ok (.bipush 64, 2) := by decide +kernel
theorem V.dX20_init_228 : decode cX20_init 228 = .ok (.newarray .boolean, 2) := by decide +kernel
theorem V.dX20_init_230 : decode cX20_init 230 = .ok (.putfield 102, 3) := by decide +kernel
theorem V.dX20_init_233 : decode cX20_init 233 = .ok (.aload_n 0, 1) := by decide +kernel
theorem V.dX20_init_234 : decode cX20_init 234 = .ok (.bipush 64, 2) := by decide +kernel
theorem V.dX20_init_236 : decode cX20_init 236 = .ok (.newarray .int, 2) := by decide +kernel
theorem V.dX20_init_238 : decode cX20_init 238 = .ok (.putfield 105, 3) := by decide +kernel
theorem V.dX20_init_241 : decode cX20_init 241 = .ok (.aload_n 0, 1) := by decide +kernel
theorem V.dX20_init_242 : decode cX20_init 242 = .ok (.bipush 64, 2) := by decide +kernel
theorem V.dX20_init_244 : decode cX20_init 244 = .ok (.newarray .int, 2) := by decide +kernel
theorem V.dX20_init_246 : decode cX20_init 246 = .ok (.putfield 108, 3) := by decide +kernel
theorem V.dX20_init_249 : decode cX20_init 249 = .ok (.aload_n 0, 1) := by decide +kernel
theorem V.dX20_init_250 : decode cX20_init 250 = .ok (.ldc2_w 84, 3) := by decide +kernel
theorem V.dX20_init_253 : decode cX20_init 253 = .ok (.putfield 111, 3) := by decide +kernel
theorem V.dX20_init_256 : decode cX20_init 256 = .ok (.aload_n 0, 1) := by decide +kernel
theorem V.dX20_init_257 : decode cX20_init 257 = .ok (.bipush 64, 2) := by decide +kernel
theorem V.dX20_init_259 : decode cX20_init 259 = .ok (.newarray .boolean, 2) := by decide +kernel
theorem V.dX20_init_261 : decode cX20_init 261 = .ok (.putfield 114, 3) := by decide +kernel
theorem V.dX20_init_264 : decode cX20_init 264 = .ok (.aload_n 0, 1) := by decide +kernel
theorem V.dX20_init_265 : decode cX20_init 265 = .ok (.bipush 64, 2) := by decide +kernel
theorem V.dX20_init_267 : decode cX20_init 267 = .ok (.newarray .long, 2) := by decide +kernel
theorem V.dX20_init_269 : decode cX20_init 269 = .ok (.putfield 117, 3) := by decide +kernel
theorem V.dX20_init_272 : decode cX20_init 272 = .ok (.aload_n 0, 1) := by decide +kernel
theorem V.dX20_init_273 : decode cX20_init 273 = .ok (.bipush 64, 2) := by decide +kernel
theorem V.dX20_init_275 : decode cX20_init 275 = .ok (.newarray .int, 2) := by decide +kernel
theorem V.dX20_init_277 : decode cX20_init 277 = .ok (.putfield 120, 3) := by decide +kernel
theorem V.dX20_init_280 : decode cX20_init 280 = .ok (.aload_n 0, 1) := by decide +kernel
theorem V.dX20_init_281 : decode cX20_init 281 = .ok (.bipush 64, 2) := by decide +kernel
theorem V.dX20_init_283 : decode cX20_init 283 = .ok (.newarray .int, 2) := by decide +kernel
theorem V.dX20_init_285 : decode cX20_init 285 = .ok (.putfield 123, 3) := by decide +kernel
theorem V.dX20_init_288 : decode cX20_init 288 = .ok (.aload_n 0, 1) := by decide +kernel
theorem V.dX20_init_289 : decode cX20_init 289 = .ok (.bipush 64, 2) := by decide +kernel
theorem V.dX20_init_291 : decode cX20_init 291 = .ok (.newarray .int, 2) := by decide +kernel
theorem V.dX20_init_293 : decode cX20_init 293 = .ok (.putfield 126, 3) := by decide +kernel
theorem V.dX20_init_296 : decode cX20_init 296 = .ok (.aload_n 0, 1) := by decide +kernel
theorem V.dX20_init_297 : decode cX20_init 297 = .ok (.bipush 64, 2) := by decide +kernel
theorem V.dX20_init_299 : decode cX20_init 299 = .ok (.newarray .int, 2) := by decide +kernel
theorem V.dX20_init_301 : decode cX20_init 301 = .ok (.putfield 129, 3) := by decide +kernel
theorem V.dX20_init_304 : decode cX20_init 304 = .ok (.aload_n 0, 1) := by decide +kernel
theorem V.dX20_init_305 : decode cX20_init 305 = .ok (.bipush 64, 2) := by decide +kernel
theorem V.dX20_init_307 : decode cX20_init 307 = .ok (.newarray .long, 2) := by decide +kernel
theorem V.dX20_init_309 : decode cX20_init 309 = .ok (.putfield 132, 3) := by decide +kernel
theorem V.dX20_init_312 : decode cX20_init 312 = .ok (.aload_n 0, 1) := by decide +kernel
theorem V.dX20_init_313 : decode cX20_init 313 = .ok (.bipush 64, 2) := by decide +kernel
theorem V.dX20_init_315 : decode cX20_init 315 = .ok (.newarray .int, 2) := by decide +kernel
theorem V.dX20_init_317 : decode cX20_init 317 = .ok (.putfield 135, 3) := by decide +kernel
theorem V.dX20_init_320 : decode cX20_init 320 = .ok (.aload_n 0, 1) := by decide +kernel
theorem V.dX20_init_321 : decode cX20_init 321 = .ok (.bipush 64, 2) := by decide +kernel
theorem V.dX20_init_323 : decode cX20_init 323 = .ok (.newarray .int, 2) := by decide +kernel
theorem V.dX20_init_325 : decode cX20_init 325 = .ok (.putfield 138, 3) := by decide +kernel
theorem V.dX20_init_328 : decode cX20_init 328 = .ok (.aload_n 0, 1) := by decide +kernel
theorem V.dX20_init_329 : decode cX20_init 329 = .ok (.bipush 64, 2) := by decide +kernel
theorem V.dX20_init_331 : decode cX20_init 331 = .ok (.newarray .int, 2) := by decide +kernel
theorem V.dX20_init_333 : decode cX20_init 333 = .ok (.putfield 141, 3) := by decide +kernel
theorem V.dX20_init_336 : decode cX20_init 336 = .ok (.return_, 1) := by decide +kernel
theorem V.fpX20_9 : FP RX20 "<init>" 9 20 2 (.array .int) := ⟨(RX20, TX20, 58), tyX20, rfl, rfl, in_X20, by decide, tyX20_ok, nmX20, rfl, Or.inr ⟨rfl, rfl, rfl, q3363⟩⟩
theorem V.fpX20_15 {nm : String} : FP RX20 nm 15 20 3 (.int) := ⟨(RX20, TX20, 58), tyX20, rfl, rfl, in_X20, by decide, tyX20_ok, nmX20, rfl, Or.inl ⟨rfl, Or.inl q3365⟩⟩
theorem V.fpX20_19 : FP RX20 "<init>" 19 20 5 (.array .int) := ⟨(RX20, TX20, 58), tyX20, rfl, rfl, in_X20, by decide, tyX20_ok, nmX20, rfl, Or.inr ⟨rfl, rfl, rfl, q3369⟩⟩
theorem V.fpX20_22 : FP RX20 "<init>" 22 20 6 (.array .int) := ⟨(RX20, TX20, 58), tyX20, rfl, rfl, in_X20, by decide, tyX20_ok, nmX20, rfl, Or.inr ⟨rfl, rfl, rfl, q3371⟩⟩
theorem V.fpX20_25 : FP RX20 "<init>" 25 20 7 (.array .int) := ⟨(RX20, TX20, 58), tyX20, rfl, rfl, in_X20, by decide, tyX20_ok, nmX20, rfl, Or.inr ⟨rfl, rfl, rfl, q3373⟩⟩
theorem V.fpX20_28 : FP RX20 "<init>" 28 20 9 (.array .int) := ⟨(RX20, TX20, 58), tyX20, rfl, rfl, in_X20, by decide, tyX20_ok, nmX20, rfl, Or.inr ⟨rfl, rfl, rfl, q3377⟩⟩
theorem V.fpX20_31 : FP RX20 "<init>" 31 20 10 (.array .long) := ⟨(RX20, TX20, 58), tyX20, rfl, rfl, in_X20, by decide, tyX20_ok, nmX20, rfl, Or.inr ⟨rfl, rfl, rfl, q3379⟩⟩
theorem V.fpX20_35 : FP RX20 "<init>" 35 20 11 (.array .long) := ⟨(RX20, TX20, 58), tyX20, rfl, rfl, in_X20, by decide, tyX20_ok, nmX20, rfl, Or.inr ⟨rfl, rfl, rfl, q3381⟩⟩
theorem V.fpX20_38 : FP RX20 "<init>" 38 20 12 (.array .long) := ⟨(RX20, TX20, 58), tyX20, rfl, rfl, in_X20, by decide, tyX20_ok, nmX20, rfl, Or.inr ⟨rfl, rfl, rfl, q3383⟩⟩
theorem V.fpX20_41 : FP RX20 "<init>" 41 20 13 (.array .boolean) := ⟨(RX20, TX20, 58), tyX20, rfl, rfl, in_X20, by decide, tyX20_ok, nmX20, rfl, Or.inr ⟨rfl, rfl, rfl, q3385⟩⟩
theorem V.fpX20_45 : FP RX20 "<init>" 45 20 16 (.array .long) := ⟨(RX20, TX20, 58), tyX20, rfl, rfl, in_X20, by decide, tyX20_ok, nmX20, rfl, Or.inr ⟨rfl, rfl, rfl, q3391⟩⟩
theorem V.fpX20_48 : FP RX20 "<init>" 48 20 18 (.array .int) := ⟨(RX20, TX20, 58), tyX20, rfl, rfl, in_X20, by decide, tyX20_ok, nmX20, rfl, Or.inr ⟨rfl, rfl, rfl, q3395⟩⟩
theorem V.fpX20_51 : FP RX20 "<init>" 51 20 19 (.array .long) := ⟨(RX20, TX20, 58), tyX20, rfl, rfl, in_X20, by decide, tyX20_ok, nmX20, rfl, Or.inr ⟨rfl, rfl, rfl, q3397⟩⟩
theorem V.fpX20_54 : FP RX20 "<init>" 54 20 20 (.array .long) := ⟨(RX20, TX20, 58), tyX20, rfl, rfl, in_X20, by decide, tyX20_ok, nmX20, rfl, Or.inr ⟨rfl, rfl, rfl, q3399⟩⟩
theorem V.fpX20_57 : FP RX20 "<init>" 57 20 22 (.array .long) := ⟨(RX20, TX20, 58), tyX20, rfl, rfl, in_X20, by decide, tyX20_ok, nmX20, rfl, Or.inr ⟨rfl, rfl, rfl, q3403⟩⟩
theorem V.fpX20_60 : FP RX20 "<init>" 60 20 23 (.array .long) := ⟨(RX20, TX20, 58), tyX20, rfl, rfl, in_X20, by decide, tyX20_ok, nmX20, rfl, Or.inr ⟨rfl, rfl, rfl, q3405⟩⟩
theorem V.fpX20_63 : FP RX20 "<init>" 63 20 25 (.array .int) := ⟨(RX20, TX20, 58), tyX20, rfl, rfl, in_X20, by decide, tyX20_ok, nmX20, rfl, Or.inr ⟨rfl, rfl, rfl, q3409⟩⟩
theorem V.fpX20_66 : FP RX20 "<init>" 66 20 26 (.array .boolean) := ⟨(RX20, TX20, 58), tyX20, rfl, rfl, in_X20, by decide, tyX20_ok, nmX20, rfl, Or.inr ⟨rfl, rfl, rfl, q3411⟩⟩
theorem V.fpX20_69 : FP RX20 "<init>" 69 20 27 (.array .int) := ⟨(RX20, TX20, 58), tyX20, rfl, rfl, in_X20, by decide, tyX20_ok, nmX20, rfl, Or.inr ⟨rfl, rfl, rfl, q3413⟩⟩
theorem V.fpX20_72 : FP RX20 "<init>" 72 20 29 (.array .int) := ⟨(RX20, TX20, 58), tyX20, rfl, rfl, in_X20, by decide, tyX20_ok, nmX20, rfl, Or.inr ⟨rfl, rfl, rfl, q3417⟩⟩
theorem V.fpX20_75 : FP RX20 "<init>" 75 20 30 (.array .int) := ⟨(RX20, TX20, 58), tyX20, rfl, rfl, in_X20, by decide, tyX20_ok, nmX20, rfl, Or.inr ⟨rfl, rfl, rfl, q3419⟩⟩
theorem V.fpX20_78 : FP RX20 "<init>" 78 20 31 (.array .int) := ⟨(RX20, TX20, 58), tyX20, rfl, rfl, in_X20, by decide, tyX20_ok, nmX20, rfl, Or.inr ⟨rfl, rfl, rfl, q3421⟩⟩
theorem V.fpX20_81 : FP RX20 "<init>" 81 20 32 (.array .long) := ⟨(RX20, TX20, 58), tyX20, rfl, rfl, in_X20, by decide, tyX20_ok, nmX20, rfl, Or.inr ⟨rfl, rfl, rfl, q3423⟩⟩
theorem V.fpX20_86 {nm : String} : FP RX20 nm 86 20 33 (.long) := ⟨(RX20, TX20, 58), tyX20, rfl, rfl, in_X20, by decide, tyX20_ok, nmX20, rfl, Or.inl ⟨rfl, Or.inl q3425⟩⟩
theorem V.fpX20_90 : FP RX20 "<init>" 90 20 35 (.array .int) := ⟨(RX20, TX20, 58), tyX20, rfl, rfl, in_X20, by decide, tyX20_ok, nmX20, rfl, Or.inr ⟨rfl, rfl, rfl, q3429⟩⟩
theorem V.fpX20_93 : FP RX20 "<init>" 93 20 36 (.array .long) := ⟨(RX20, TX20, 58), tyX20, rfl, rfl, in_X20, by decide, tyX20_ok, nmX20, rfl, Or.inr ⟨rfl, rfl, rfl, q3431⟩⟩
theorem V.fpX20_96 : FP RX20 "<init>" 96 20 37 (.array .int) := ⟨(RX20, TX20, 58), tyX20, rfl, rfl, in_X20, by decide, tyX20_ok, nmX20, rfl, Or.inr ⟨rfl, rfl, rfl, q3433⟩⟩
theorem V.fpX20_99 : FP RX20 "<init>" 99 20 38 (.array .int) := ⟨(RX20, TX20, 58), tyX20, rfl, rfl, in_X20, by decide, tyX20_ok, nmX20, rfl, Or.inr ⟨rfl, rfl, rfl, q3435⟩⟩
theorem V.fpX20_102 : FP RX20 "<init>" 102 20 39 (.array .boolean) := ⟨(RX20, TX20, 58), tyX20, rfl, rfl, in_X20, by decide, tyX20_ok, nmX20, rfl, Or.inr ⟨rfl, rfl, rfl, q3437⟩⟩
theorem V.fpX20_105 : FP RX20 "<init>" 105 20 40 (.array .int) := ⟨(RX20, TX20, 58), tyX20, rfl, rfl, in_X20, by decide, tyX20_ok, nmX20, rfl, Or.inr ⟨rfl, rfl, rfl, q3439⟩⟩
theorem V.fpX20_108 : FP RX20 "<init>" 108 20 41 (.array .int) := ⟨(RX20, TX20, 58), tyX20, rfl, rfl, in_X20, by decide, tyX20_ok, nmX20, rfl, Or.inr ⟨rfl, rfl, rfl, q3441⟩⟩
theorem V.fpX20_111 {nm : String} : FP RX20 nm 111 20 42 (.long) := ⟨(RX20, TX20, 58), tyX20, rfl, rfl, in_X20, by decide, tyX20_ok, nmX20, rfl, Or.inl ⟨rfl, Or.inl q3443⟩⟩
theorem V.fpX20_114 : FP RX20 "<init>" 114 20 45 (.array .boolean) := ⟨(RX20, TX20, 58), tyX20, rfl, rfl, in_X20, by decide, tyX20_ok, nmX20, rfl, Or.inr ⟨rfl, rfl, rfl, q3449⟩⟩
theorem V.fpX20_117 : FP RX20 "<init>" 117 20 46 (.array .long) := ⟨(RX20, TX20, 58), tyX20, rfl, rfl, in_X20, by decide, tyX20_ok, nmX20, rfl, Or.inr ⟨rfl, rfl, rfl, q3451⟩⟩
theorem V.fpX20_120 : FP RX20 "<init>" 120 20 47 (.array .int) := ⟨(RX20, TX20, 58), tyX20, rfl, rfl, in_X20, by decide, tyX20_ok, nmX20, rfl, Or.inr ⟨rfl, rfl, rfl, q3453⟩⟩
theorem V.fpX20_123 : FP RX20 "<init>" 123 20 48 (.array .int) := ⟨(RX20, TX20, 58), tyX20, rfl, rfl, in_X20, by decide, tyX20_ok, nmX20, rfl, Or.inr ⟨rfl, rfl, rfl, q3455⟩⟩
theorem V.fpX20_126 : FP RX20 "<init>" 126 20 49 (.array .int) := ⟨(RX20, TX20, 58), tyX20, rfl, rfl, in_X20, by decide, tyX20_ok, nmX20, rfl, Or.inr ⟨rfl, rfl, rfl, q3457⟩⟩
theorem V.fpX20_129 : FP RX20 "<init>" 129 20 51 (.array .int) := ⟨(RX20, TX20, 58), tyX20, rfl, rfl, in_X20, by decide, tyX20_ok, nmX20, rfl, Or.inr ⟨rfl, rfl, rfl, q3461⟩⟩
theorem V.fpX20_132 : FP RX20 "<init>" 132 20 52 (.array .long) := ⟨(RX20, TX20, 58), tyX20, rfl, rfl, in_X20, by decide, tyX20_ok, nmX20, rfl, Or.inr ⟨rfl, rfl, rfl, q3463⟩⟩
theorem V.fpX20_135 : FP RX20 "<init>" 135 20 53 (.array .int) := ⟨(RX20, TX20, 58), tyX20, rfl, rfl, in_X20, by decide, tyX20_ok, nmX20, rfl, Or.inr ⟨rfl, rfl, rfl, q3465⟩⟩
theorem V.fpX20_138 : FP RX20 "<init>" 138 20 54 (.array .int) := ⟨(RX20, TX20, 58), tyX20, rfl, rfl, in_X20, by decide, tyX20_ok, nmX20, rfl, Or.inr ⟨rfl, rfl, rfl, q3467⟩⟩
theorem V.fpX20_141 : FP RX20 "<init>" 141 20 55 (.array .int) := ⟨(RX20, TX20, 58), tyX20, rfl, rfl, in_X20, by decide, tyX20_ok, nmX20, rfl, Or.inr ⟨rfl, rfl, rfl, q3469⟩⟩
/-! ModuleEngineModel$Plan.<init>()V -/
def V.Pln_init (σ : HS) (x0 : Nat) : Option (Unit × HS) :=
  ck (¬ x0 = 0) <|
  ck (lenok (13 : Int32)) <| newa σ 100 (13 : Int32) fun a1 σ2 =>
  ck (tg σ2 x0 = 21) <| bn (sR σ2 x0 2 a1) fun σ3 =>
  ck (tg σ3 x0 = 21) <| bn (sI σ3 x0 3 (-1 : Int32)) fun σ4 =>
  ck (lenok (64 : Int32)) <| newa σ4 100 (64 : Int32) fun a5 σ6 =>
  ck (tg σ6 x0 = 21) <| bn (sR σ6 x0 5 a5) fun σ7 =>
  ck (lenok (64 : Int32)) <| newa σ7 100 (64 : Int32) fun a8 σ9 =>
  ck (tg σ9 x0 = 21) <| bn (sR σ9 x0 6 a8) fun σ10 =>
  ck (lenok (2048 : Int32)) <| newa σ10 100 (2048 : Int32) fun a11 σ12 =>
  ck (tg σ12 x0 = 21) <| bn (sR σ12 x0 7 a11) fun σ13 =>
  ck (lenok (64 : Int32)) <| newa σ13 100 (64 : Int32) fun a14 σ15 =>
  ck (tg σ15 x0 = 21) <| bn (sR σ15 x0 9 a14) fun σ16 =>
  ck (lenok (64 : Int32)) <| newa σ16 101 (64 : Int32) fun a17 σ18 =>
  ck (tg σ18 x0 = 21) <| bn (sR σ18 x0 10 a17) fun σ19 =>
  ck (lenok (64 : Int32)) <| newa σ19 101 (64 : Int32) fun a20 σ21 =>
  ck (tg σ21 x0 = 21) <| bn (sR σ21 x0 11 a20) fun σ22 =>
  ck (lenok (64 : Int32)) <| newa σ22 101 (64 : Int32) fun a23 σ24 =>
  ck (tg σ24 x0 = 21) <| bn (sR σ24 x0 12 a23) fun σ25 =>
  ck (lenok (64 : Int32)) <| newa σ25 103 (64 : Int32) fun a26 σ27 =>
  ck (tg σ27 x0 = 21) <| bn (sR σ27 x0 13 a26) fun σ28 =>
  ck (lenok (64 : Int32)) <| newa σ28 101 (64 : Int32) fun a29 σ30 =>
  ck (tg σ30 x0 = 21) <| bn (sR σ30 x0 16 a29) fun σ31 =>
  ck (lenok (64 : Int32)) <| newa σ31 100 (64 : Int32) fun a32 σ33 =>
  ck (tg σ33 x0 = 21) <| bn (sR σ33 x0 18 a32) fun σ34 =>
  ck (lenok (64 : Int32)) <| newa σ34 101 (64 : Int32) fun a35 σ36 =>
  ck (tg σ36 x0 = 21) <| bn (sR σ36 x0 19 a35) fun σ37 =>
  ck (lenok (64 : Int32)) <| newa σ37 101 (64 : Int32) fun a38 σ39 =>
  ck (tg σ39 x0 = 21) <| bn (sR σ39 x0 20 a38) fun σ40 =>
  ck (lenok (64 : Int32)) <| newa σ40 101 (64 : Int32) fun a41 σ42 =>
  ck (tg σ42 x0 = 21) <| bn (sR σ42 x0 22 a41) fun σ43 =>
  ck (lenok (64 : Int32)) <| newa σ43 101 (64 : Int32) fun a44 σ45 =>
  ck (tg σ45 x0 = 21) <| bn (sR σ45 x0 23 a44) fun σ46 =>
  ck (lenok (64 : Int32)) <| newa σ46 100 (64 : Int32) fun a47 σ48 =>
  ck (tg σ48 x0 = 21) <| bn (sR σ48 x0 25 a47) fun σ49 =>
  ck (lenok (64 : Int32)) <| newa σ49 103 (64 : Int32) fun a50 σ51 =>
  ck (tg σ51 x0 = 21) <| bn (sR σ51 x0 26 a50) fun σ52 =>
  ck (lenok (64 : Int32)) <| newa σ52 100 (64 : Int32) fun a53 σ54 =>
  ck (tg σ54 x0 = 21) <| bn (sR σ54 x0 27 a53) fun σ55 =>
  ck (lenok (64 : Int32)) <| newa σ55 100 (64 : Int32) fun a56 σ57 =>
  ck (tg σ57 x0 = 21) <| bn (sR σ57 x0 29 a56) fun σ58 =>
  ck (lenok (64 : Int32)) <| newa σ58 100 (64 : Int32) fun a59 σ60 =>
  ck (tg σ60 x0 = 21) <| bn (sR σ60 x0 30 a59) fun σ61 =>
  ck (lenok (64 : Int32)) <| newa σ61 100 (64 : Int32) fun a62 σ63 =>
  ck (tg σ63 x0 = 21) <| bn (sR σ63 x0 31 a62) fun σ64 =>
  ck (lenok (64 : Int32)) <| newa σ64 101 (64 : Int32) fun a65 σ66 =>
  ck (tg σ66 x0 = 21) <| bn (sR σ66 x0 32 a65) fun σ67 =>
  ck (tg σ67 x0 = 21) <| bn (sJ σ67 x0 33 (-1 : Int64)) fun σ68 =>
  ck (lenok (64 : Int32)) <| newa σ68 100 (64 : Int32) fun a69 σ70 =>
  ck (tg σ70 x0 = 21) <| bn (sR σ70 x0 35 a69) fun σ71 =>
  ck (lenok (64 : Int32)) <| newa σ71 101 (64 : Int32) fun a72 σ73 =>
  ck (tg σ73 x0 = 21) <| bn (sR σ73 x0 36 a72) fun σ74 =>
  ck (lenok (64 : Int32)) <| newa σ74 100 (64 : Int32) fun a75 σ76 =>
  ck (tg σ76 x0 = 21) <| bn (sR σ76 x0 37 a75) fun σ77 =>
  ck (lenok (64 : Int32)) <| newa σ77 100 (64 : Int32) fun a78 σ79 =>
  ck (tg σ79 x0 = 21) <| bn (sR σ79 x0 38 a78) fun σ80 =>
  ck (lenok (64 : Int32)) <| newa σ80 103 (64 : Int32) fun a81 σ82 =>
  ck (tg σ82 x0 = 21) <| bn (sR σ82 x0 39 a81) fun σ83 =>
  ck (lenok (64 : Int32)) <| newa σ83 100 (64 : Int32) fun a84 σ85 =>
  ck (tg σ85 x0 = 21) <| bn (sR σ85 x0 40 a84) fun σ86 =>
  ck (lenok (64 : Int32)) <| newa σ86 100 (64 : Int32) fun a87 σ88 =>
  ck (tg σ88 x0 = 21) <| bn (sR σ88 x0 41 a87) fun σ89 =>
  ck (tg σ89 x0 = 21) <| bn (sJ σ89 x0 42 (-1 : Int64)) fun σ90 =>
  ck (lenok (64 : Int32)) <| newa σ90 103 (64 : Int32) fun a91 σ92 =>
  ck (tg σ92 x0 = 21) <| bn (sR σ92 x0 45 a91) fun σ93 =>
  ck (lenok (64 : Int32)) <| newa σ93 101 (64 : Int32) fun a94 σ95 =>
  ck (tg σ95 x0 = 21) <| bn (sR σ95 x0 46 a94) fun σ96 =>
  ck (lenok (64 : Int32)) <| newa σ96 100 (64 : Int32) fun a97 σ98 =>
  ck (tg σ98 x0 = 21) <| bn (sR σ98 x0 47 a97) fun σ99 =>
  ck (lenok (64 : Int32)) <| newa σ99 100 (64 : Int32) fun a100 σ101 =>
  ck (tg σ101 x0 = 21) <| bn (sR σ101 x0 48 a100) fun σ102 =>
  ck (lenok (64 : Int32)) <| newa σ102 100 (64 : Int32) fun a103 σ104 =>
  ck (tg σ104 x0 = 21) <| bn (sR σ104 x0 49 a103) fun σ105 =>
  ck (lenok (64 : Int32)) <| newa σ105 100 (64 : Int32) fun a106 σ107 =>
  ck (tg σ107 x0 = 21) <| bn (sR σ107 x0 51 a106) fun σ108 =>
  ck (lenok (64 : Int32)) <| newa σ108 101 (64 : Int32) fun a109 σ110 =>
  ck (tg σ110 x0 = 21) <| bn (sR σ110 x0 52 a109) fun σ111 =>
  ck (lenok (64 : Int32)) <| newa σ111 100 (64 : Int32) fun a112 σ113 =>
  ck (tg σ113 x0 = 21) <| bn (sR σ113 x0 53 a112) fun σ114 =>
  ck (lenok (64 : Int32)) <| newa σ114 100 (64 : Int32) fun a115 σ116 =>
  ck (tg σ116 x0 = 21) <| bn (sR σ116 x0 54 a115) fun σ117 =>
  ck (lenok (64 : Int32)) <| newa σ117 100 (64 : Int32) fun a118 σ119 =>
  ck (tg σ119 x0 = 21) <| bn (sR σ119 x0 55 a118) fun σ120 =>
  some ((), σ120)
theorem V.ctX20_init (x0 : Nat) : Ct yX20_init  cX20_init 1 none 1 24 eV [av x0] (fun σ => Pln_init σ x0) := by
  refine Ct.of (own := RX20) (nm := "<init>") (desc := "()V") rfl (by decide) (Nat.le_of_ble_eq_true rfl) (by decide) (fun X σ => ?_)
  show G X RX20 "<init>" cX20_init 1 none 1 24 enV 0 [(0, av x0)] [] σ (Pln_init σ x0)
  unfold Pln_init
  refine g_aload_n 0 0 dX20_init_0 rfl rfl ?_
  refine g_objInit q3357 (Nat.le_of_ble_eq_true rfl) (Nat.le_of_ble_eq_true rfl) dX20_init_1 ?_
  refine g_aload_n 0 0 dX20_init_4 rfl rfl ?_
  refine g_bipush (v := 13) dX20_init_5 (by decide) ?_
  refine g_na_int dX20_init_7 (fun a1 σ2 => ?_)
  refine g_putR fpX20_9 rfl dX20_init_9 (fun σ3 => ?_)
  refine g_aload_n 0 0 dX20_init_12 rfl rfl ?_
  refine g_iconst (v := (-1)) dX20_init_13 (by decide) ?_
  refine g_putI fpX20_15 dX20_init_14 (fun σ4 => ?_)
  refine g_aload_n 0 0 dX20_init_17 rfl rfl ?_
  refine g_bipush (v := 64) dX20_init_18 (by decide) ?_
  refine g_na_int dX20_init_20 (fun a5 σ6 => ?_)
  refine g_putR fpX20_19 rfl dX20_init_22 (fun σ7 => ?_)
  refine g_aload_n 0 0 dX20_init_25 rfl rfl ?_
  refine g_bipush (v := 64) dX20_init_26 (by decide) ?_
  refine g_na_int dX20_init_28 (fun a8 σ9 => ?_)
  refine g_putR fpX20_22 rfl dX20_init_30 (fun σ10 => ?_)
  refine g_aload_n 0 0 dX20_init_33 rfl rfl ?_
  refine g_sipush (v := 2048) dX20_init_34 (by decide) ?_
  refine g_na_int dX20_init_37 (fun a11 σ12 => ?_)
  refine g_putR fpX20_25 rfl dX20_init_39 (fun σ13 => ?_)
  refine g_aload_n 0 0 dX20_init_42 rfl rfl ?_
  refine g_bipush (v := 64) dX20_init_43 (by decide) ?_
  refine g_na_int dX20_init_45 (fun a14 σ15 => ?_)
  refine g_putR fpX20_28 rfl dX20_init_47 (fun σ16 => ?_)
  refine g_aload_n 0 0 dX20_init_50 rfl rfl ?_
  refine g_bipush (v := 64) dX20_init_51 (by decide) ?_
  refine g_na_long dX20_init_53 (fun a17 σ18 => ?_)
  refine g_putR fpX20_31 rfl dX20_init_55 (fun σ19 => ?_)
  refine g_aload_n 0 0 dX20_init_58 rfl rfl ?_
  refine g_bipush (v := 64) dX20_init_59 (by decide) ?_
  refine g_na_long dX20_init_61 (fun a20 σ21 => ?_)
  refine g_putR fpX20_35 rfl dX20_init_63 (fun σ22 => ?_)
  refine g_aload_n 0 0 dX20_init_66 rfl rfl ?_
  refine g_bipush (v := 64) dX20_init_67 (by decide) ?_
  refine g_na_long dX20_init_69 (fun a23 σ24 => ?_)
  refine g_putR fpX20_38 rfl dX20_init_71 (fun σ25 => ?_)
  refine g_aload_n 0 0 dX20_init_74 rfl rfl ?_
  refine g_bipush (v := 64) dX20_init_75 (by decide) ?_
  refine g_na_bool dX20_init_77 (fun a26 σ27 => ?_)
  refine g_putR fpX20_41 rfl dX20_init_79 (fun σ28 => ?_)
  refine g_aload_n 0 0 dX20_init_82 rfl rfl ?_
  refine g_bipush (v := 64) dX20_init_83 (by decide) ?_
  refine g_na_long dX20_init_85 (fun a29 σ30 => ?_)
  refine g_putR fpX20_45 rfl dX20_init_87 (fun σ31 => ?_)
  refine g_aload_n 0 0 dX20_init_90 rfl rfl ?_
  refine g_bipush (v := 64) dX20_init_91 (by decide) ?_
  refine g_na_int dX20_init_93 (fun a32 σ33 => ?_)
  refine g_putR fpX20_48 rfl dX20_init_95 (fun σ34 => ?_)
  refine g_aload_n 0 0 dX20_init_98 rfl rfl ?_
  refine g_bipush (v := 64) dX20_init_99 (by decide) ?_
  refine g_na_long dX20_init_101 (fun a35 σ36 => ?_)
  refine g_putR fpX20_51 rfl dX20_init_103 (fun σ37 => ?_)
  refine g_aload_n 0 0 dX20_init_106 rfl rfl ?_
  refine g_bipush (v := 64) dX20_init_107 (by decide) ?_
  refine g_na_long dX20_init_109 (fun a38 σ39 => ?_)
  refine g_putR fpX20_54 rfl dX20_init_111 (fun σ40 => ?_)
  refine g_aload_n 0 0 dX20_init_114 rfl rfl ?_
  refine g_bipush (v := 64) dX20_init_115 (by decide) ?_
  refine g_na_long dX20_init_117 (fun a41 σ42 => ?_)
  refine g_putR fpX20_57 rfl dX20_init_119 (fun σ43 => ?_)
  refine g_aload_n 0 0 dX20_init_122 rfl rfl ?_
  refine g_bipush (v := 64) dX20_init_123 (by decide) ?_
  refine g_na_long dX20_init_125 (fun a44 σ45 => ?_)
  refine g_putR fpX20_60 rfl dX20_init_127 (fun σ46 => ?_)
  refine g_aload_n 0 0 dX20_init_130 rfl rfl ?_
  refine g_bipush (v := 64) dX20_init_131 (by decide) ?_
  refine g_na_int dX20_init_133 (fun a47 σ48 => ?_)
  refine g_putR fpX20_63 rfl dX20_init_135 (fun σ49 => ?_)
  refine g_aload_n 0 0 dX20_init_138 rfl rfl ?_
  refine g_bipush (v := 64) dX20_init_139 (by decide) ?_
  refine g_na_bool dX20_init_141 (fun a50 σ51 => ?_)
  refine g_putR fpX20_66 rfl dX20_init_143 (fun σ52 => ?_)
  refine g_aload_n 0 0 dX20_init_146 rfl rfl ?_
  refine g_bipush (v := 64) dX20_init_147 (by decide) ?_
  refine g_na_int dX20_init_149 (fun a53 σ54 => ?_)
  refine g_putR fpX20_69 rfl dX20_init_151 (fun σ55 => ?_)
  refine g_aload_n 0 0 dX20_init_154 rfl rfl ?_
  refine g_bipush (v := 64) dX20_init_155 (by decide) ?_
  refine g_na_int dX20_init_157 (fun a56 σ57 => ?_)
  refine g_putR fpX20_72 rfl dX20_init_159 (fun σ58 => ?_)
  refine g_aload_n 0 0 dX20_init_162 rfl rfl ?_
  refine g_bipush (v := 64) dX20_init_163 (by decide) ?_
  refine g_na_int dX20_init_165 (fun a59 σ60 => ?_)
  refine g_putR fpX20_75 rfl dX20_init_167 (fun σ61 => ?_)
  refine g_aload_n 0 0 dX20_init_170 rfl rfl ?_
  refine g_bipush (v := 64) dX20_init_171 (by decide) ?_
  refine g_na_int dX20_init_173 (fun a62 σ63 => ?_)
  refine g_putR fpX20_78 rfl dX20_init_175 (fun σ64 => ?_)
  refine g_aload_n 0 0 dX20_init_178 rfl rfl ?_
  refine g_bipush (v := 64) dX20_init_179 (by decide) ?_
  refine g_na_long dX20_init_181 (fun a65 σ66 => ?_)
  refine g_putR fpX20_81 rfl dX20_init_183 (fun σ67 => ?_)
  refine g_aload_n 0 0 dX20_init_186 rfl rfl ?_
  refine g_ldc2 q3358 dX20_init_187 ?_
  refine g_putJ fpX20_86 dX20_init_190 (fun σ68 => ?_)
  refine g_aload_n 0 0 dX20_init_193 rfl rfl ?_
  refine g_bipush (v := 64) dX20_init_194 (by decide) ?_
  refine g_na_int dX20_init_196 (fun a69 σ70 => ?_)
  refine g_putR fpX20_90 rfl dX20_init_198 (fun σ71 => ?_)
  refine g_aload_n 0 0 dX20_init_201 rfl rfl ?_
  refine g_bipush (v := 64) dX20_init_202 (by decide) ?_
  refine g_na_long dX20_init_204 (fun a72 σ73 => ?_)
  refine g_putR fpX20_93 rfl dX20_init_206 (fun σ74 => ?_)
  refine g_aload_n 0 0 dX20_init_209 rfl rfl ?_
  refine g_bipush (v := 64) dX20_init_210 (by decide) ?_
  refine g_na_int dX20_init_212 (fun a75 σ76 => ?_)
  refine g_putR fpX20_96 rfl dX20_init_214 (fun σ77 => ?_)
  refine g_aload_n 0 0 dX20_init_217 rfl rfl ?_
  refine g_bipush (v := 64) dX20_init_218 (by decide) ?_
  refine g_na_int dX20_init_220 (fun a78 σ79 => ?_)
  refine g_putR fpX20_99 rfl dX20_init_222 (fun σ80 => ?_)
  refine g_aload_n 0 0 dX20_init_225 rfl rfl ?_
  refine g_bipush (v := 64) dX20_init_226 (by decide) ?_
  refine g_na_bool dX20_init_228 (fun a81 σ82 => ?_)
  refine g_putR fpX20_102 rfl dX20_init_230 (fun σ83 => ?_)
  refine g_aload_n 0 0 dX20_init_233 rfl rfl ?_
  refine g_bipush (v := 64) dX20_init_234 (by decide) ?_
  refine g_na_int dX20_init_236 (fun a84 σ85 => ?_)
  refine g_putR fpX20_105 rfl dX20_init_238 (fun σ86 => ?_)
  refine g_aload_n 0 0 dX20_init_241 rfl rfl ?_
  refine g_bipush (v := 64) dX20_init_242 (by decide) ?_
  refine g_na_int dX20_init_244 (fun a87 σ88 => ?_)
  refine g_putR fpX20_108 rfl dX20_init_246 (fun σ89 => ?_)
  refine g_aload_n 0 0 dX20_init_249 rfl rfl ?_
  refine g_ldc2 q3358 dX20_init_250 ?_
  refine g_putJ fpX20_111 dX20_init_253 (fun σ90 => ?_)
  refine g_aload_n 0 0 dX20_init_256 rfl rfl ?_
  refine g_bipush (v := 64) dX20_init_257 (by decide) ?_
  refine g_na_bool dX20_init_259 (fun a91 σ92 => ?_)
  refine g_putR fpX20_114 rfl dX20_init_261 (fun σ93 => ?_)
  refine g_aload_n 0 0 dX20_init_264 rfl rfl ?_
  refine g_bipush (v := 64) dX20_init_265 (by decide) ?_
  refine g_na_long dX20_init_267 (fun a94 σ95 => ?_)
  refine g_putR fpX20_117 rfl dX20_init_269 (fun σ96 => ?_)
  refine g_aload_n 0 0 dX20_init_272 rfl rfl ?_
  refine g_bipush (v := 64) dX20_init_273 (by decide) ?_
  refine g_na_int dX20_init_275 (fun a97 σ98 => ?_)
  refine g_putR fpX20_120 rfl dX20_init_277 (fun σ99 => ?_)
  refine g_aload_n 0 0 dX20_init_280 rfl rfl ?_
  refine g_bipush (v := 64) dX20_init_281 (by decide) ?_
  refine g_na_int dX20_init_283 (fun a100 σ101 => ?_)
  refine g_putR fpX20_123 rfl dX20_init_285 (fun σ102 => ?_)
  refine g_aload_n 0 0 dX20_init_288 rfl rfl ?_
  refine g_bipush (v := 64) dX20_init_289 (by decide) ?_
  refine g_na_int dX20_init_291 (fun a103 σ104 => ?_)
  refine g_putR fpX20_126 rfl dX20_init_293 (fun σ105 => ?_)
  refine g_aload_n 0 0 dX20_init_296 rfl rfl ?_
  refine g_bipush (v := 64) dX20_init_297 (by decide) ?_
  refine g_na_int dX20_init_299 (fun a106 σ107 => ?_)
  refine g_putR fpX20_129 rfl dX20_init_301 (fun σ108 => ?_)
  refine g_aload_n 0 0 dX20_init_304 rfl rfl ?_
  refine g_bipush (v := 64) dX20_init_305 (by decide) ?_
  refine g_na_long dX20_init_307 (fun a109 σ110 => ?_)
  refine g_putR fpX20_132 rfl dX20_init_309 (fun σ111 => ?_)
  refine g_aload_n 0 0 dX20_init_312 rfl rfl ?_
  refine g_bipush (v := 64) dX20_init_313 (by decide) ?_
  refine g_na_int dX20_init_315 (fun a112 σ113 => ?_)
  refine g_putR fpX20_135 rfl dX20_init_317 (fun σ114 => ?_)
  refine g_aload_n 0 0 dX20_init_320 rfl rfl ?_
  refine g_bipush (v := 64) dX20_init_321 (by decide) ?_
  refine g_na_int dX20_init_323 (fun a115 σ116 => ?_)
  refine g_putR fpX20_138 rfl dX20_init_325 (fun σ117 => ?_)
  refine g_aload_n 0 0 dX20_init_328 rfl rfl ?_
  refine g_bipush (v := 64) dX20_init_329 (by decide) ?_
  refine g_na_int dX20_init_331 (fun a118 σ119 => ?_)
  refine g_putR fpX20_141 rfl dX20_init_333 (fun σ120 => ?_)
  exact g_return rfl dX20_init_336
theorem V.dX20_begin_0 : decode cX20_begin 0 = .ok (.aload_n 0, 1) := by decide +kernel
theorem V.dX20_begin_1 : decode cX20_begin 1 = .ok (.iload_n 1, 1) := by decide +kernel
theorem V.dX20_begin_2 : decode cX20_begin 2 = .ok (.putfield 144, 3) := by decide +kernel
theorem V.dX20_begin_5 : decode cX20_begin 5 = .ok (.aload_n 0, 1) := by decide +kernel
theorem V.dX20_begin_6 : decode cX20_begin 6 = .ok (.iload_n 1, 1) := by decide +kernel
theorem V.dX20_begin_7 : decode cX20_begin 7 = .ok (.newarray .byte, 2) := by decide +kernel
theorem V.dX20_begin_9 : decode cX20_begin 9 = .ok (.putfield 147, 3) := by decide +kernel
theorem V.dX20_begin_12 : decode cX20_begin 12 = .ok (.aload_n 0, 1) := by decide +kernel
theorem V.dX20_begin_13 : decode cX20_begin 13 = .ok (.iload_n 1, 1) := by decide +kernel
theorem V.dX20_begin_14 : decode cX20_begin 14 = .ok (.newarray .int, 2) := by decide +kernel
theorem V.dX20_begin_16 : decode cX20_begin 16 = .ok (.putfield 151, 3) := by decide +kernel
theorem V.dX20_begin_19 : decode cX20_begin 19 = .ok (.aload_n 0, 1) := by decide +kernel
theorem V.dX20_begin_20 : decode cX20_begin 20 = .ok (.iload_n 1, 1) := by decide +kernel
theorem V.dX20_begin_21 : decode cX20_begin 21 = .ok (.newarray .int, 2) := by decide +kernel
theorem V.dX20_begin_23 : decode cX20_begin 23 = .ok (.putfield 154, 3) := by decide +kernel
theorem V.dX20_begin_26 : decode cX20_begin 26 = .ok (.iconst 0, 1) := by decide +kernel
theorem V.dX20_begin_27 : decode cX20_begin 27 = .ok (.istore_n 2, 1) := by decide +kernel
theorem V.dX20_begin_28 : decode cX20_begin 28 = .ok (.iload_n 2, 1) := by decide +kernel
theorem V.dX20_begin_29 : decode cX20_begin 29 = .ok (.bipush 13, 2) := by decide +kernel
theorem V.dX20_begin_31 : decode cX20_begin 31 = .ok (.if_icmp .ge 16, 3) := by decide +kernel
theorem V.dX20_begin_34 : decode cX20_begin 34 = .ok (.aload_n 0, 1) := by decide +kernel
theorem V.dX20_begin_35 : decode cX20_begin 35 = .ok (.getfield 9, 3) := by decide +kernel
theorem V.dX20_begin_38 : decode cX20_begin 38 = .ok (.iload_n 2, 1) := by decide +kernel
theorem V.dX20_begin_39 : decode cX20_begin 39 = .ok (.iconst (-1), 1) := by decide +kernel
theorem V.dX20_begin_40 : decode cX20_begin 40 = .ok (.iastore, 1) := by decide +kernel
theorem V.dX20_begin_41 : decode cX20_begin 41 = .ok (.iinc 2 1, 3) := by decide +kernel
theorem V.dX20_begin_44 : decode cX20_begin 44 = .ok (.goto (-16), 3) := by decide +kernel
theorem V.dX20_begin_47 : decode cX20_begin 47 = .ok (.aload_n 0, 1) := by decide +kernel
theorem V.dX20_begin_48 : decode cX20_begin 48 = .ok (.iconst (-1), 1) := by decide +kernel
theorem V.dX20_begin_49 : decode cX20_begin 49 = .ok (.putfield 15, 3) := by decide +kernel
theorem V.dX20_begin_52 : decode cX20_begin 52 = .ok (.aload_n 0, 1) := by decide +kernel
theorem V.dX20_begin_53 : decode cX20_begin 53 = .ok (.iconst 0, 1) := by decide +kernel
theorem V.dX20_begin_54 : decode cX20_begin 54 = .ok (.putfield 157, 3) := by decide +kernel
theorem V.dX20_begin_57 : decode cX20_begin 57 = .ok (.aload_n 0, 1) := by decide +kernel
theorem V.dX20_begin_58 : decode cX20_begin 58 = .ok (.iconst 0, 1) := by decide +kernel
theorem V.dX20_begin_59 : decode cX20_begin 59 = .ok (.putfield 160, 3) := by decide +kernel
theorem V.dX20_begin_62 : decode cX20_begin 62 = .ok (.aload_n 0, 1) := by decide +kernel
theorem V.dX20_begin_63 : decode cX20_begin 63 = .ok (.lconst 0, 1) := by decide +kernel
theorem V.dX20_begin_64 : decode cX20_begin 64 = .ok (.putfield 163, 3) := by decide +kernel
theorem V.dX20_begin_67 : decode cX20_begin 67 = .ok (.aload_n 0, 1) := by decide +kernel
theorem V.dX20_begin_68 : decode cX20_begin 68 = .ok (.iconst 0, 1) := by decide +kernel
theorem V.dX20_begin_69 : decode cX20_begin 69 = .ok (.putfield 166, 3) := by decide +kernel
theorem V.dX20_begin_72 : decode cX20_begin 72 = .ok (.aload_n 0, 1) := by decide +kernel
theorem V.dX20_begin_73 : decode cX20_begin 73 = .ok (.iconst 0, 1) := by decide +kernel
theorem V.dX20_begin_74 : decode cX20_begin 74 = .ok (.putfield 169, 3) := by decide +kernel
theorem V.dX20_begin_77 : decode cX20_begin 77 = .ok (.aload_n 0, 1) := by decide +kernel
theorem V.dX20_begin_78 : decode cX20_begin 78 = .ok (.iconst 0, 1) := by decide +kernel
theorem V.dX20_begin_79 : decode cX20_begin 79 = .ok (.putfield 172, 3) := by decide +kernel
theorem V.dX20_begin_82 : decode cX20_begin 82 = .ok (.aload_n 0, 1) := by decide +kernel
theorem V.dX20_begin_83 : decode cX20_begin 83 = .ok (.iconst 0, 1) := by decide +kernel
theorem V.dX20_begin_84 : decode cX20_begin 84 = .ok (.putfield 175, 3) := by decide +kernel
theorem V.dX20_begin_87 : decode cX20_begin 87 = .ok (.aload_n 0, 1) := by decide +kernel
theorem V.dX20_begin_88 : decode cX20_begin 88 = .ok (.iconst 0, 1) := by decide +kernel
theorem V.dX20_begin_89 : decode cX20_begin 89 = .ok (.putfield 178, 3) := by decide +kernel
theorem V.dX20_begin_92 : decode cX20_begin 92 = .ok (.aload_n 0, 1) := by decide +kernel
theorem V.dX20_begin_93 : decode cX20_begin 93 = .ok (.ldc2_w 84, 3) := by decide +kernel
theorem V.dX20_begin_96 : decode cX20_begin 96 = .ok (.putfield 86, 3) := by decide +kernel
theorem V.dX20_begin_99 : decode cX20_begin 99 = .ok (.aload_n 0, 1) := by decide +kernel
theorem V.dX20_begin_100 : decode cX20_begin 100 = .ok (.iconst 0, 1) := by decide +kernel
theorem V.dX20_begin_101 : decode cX20_begin 101 = .ok (.putfield 181, 3) := by decide +kernel
theorem V.dX20_begin_104 : decode cX20_begin 104 = .ok (.aload_n 0, 1) := by decide +kernel
theorem V.dX20_begin_105 : decode cX20_begin 105 = .ok (.ldc2_w 84, 3) := by decide +kernel
theorem V.dX20_begin_108 : decode cX20_begin 108 = .ok (.putfield 111, 3) := by decide +kernel
theorem V.dX20_begin_111 : decode cX20_begin 111 = .ok (.aload_n 0, 1) := by decide +kernel
theorem V.dX20_begin_112 : decode cX20_begin 112 = .ok (.lconst 0, 1) := by decide +kernel
theorem V.dX20_begin_113 : decode cX20_begin 113 = .ok (.putfield 184, 3) := by decide +kernel
theorem V.dX20_begin_116 : decode cX20_begin 116 = .ok (.aload_n 0, 1) := by decide +kernel
theorem V.dX20_begin_117 : decode cX20_begin 117 = .ok (.iconst 0, 1) := by decide +kernel
theorem V.dX20_begin_118 : decode cX20_begin 118 = .ok (.putfield 187, 3) := by decide +kernel
theorem V.dX20_begin_121 : decode cX20_begin 121 = .ok (.aload_n 0, 1) := by decide +kernel
theorem V.dX20_begin_122 : decode cX20_begin 122 = .ok (.lconst 0, 1) := by decide +kernel
theorem V.dX20_begin_123 : decode cX20_begin 123 = .ok (.putfield 190, 3) := by decide +kernel
theorem V.dX20_begin_126 : decode cX20_begin 126 = .ok (.return_, 1) := by decide +kernel
theorem V.fpX20_144 {nm : String} : FP RX20 nm 144 20 1 (.int) := ⟨(RX20, TX20, 58), tyX20, rfl, rfl, in_X20, by decide, tyX20_ok, nmX20, rfl, Or.inl ⟨rfl, Or.inl q3361⟩⟩
theorem V.fpX20_147 {nm : String} : FP RX20 nm 147 20 0 (.array .byte) := ⟨(RX20, TX20, 58), tyX20, rfl, rfl, in_X20, by decide, tyX20_ok, nmX20, rfl, Or.inl ⟨rfl, Or.inl q3359⟩⟩
theorem V.fpX20_151 {nm : String} : FP RX20 nm 151 20 56 (.array .int) := ⟨(RX20, TX20, 58), tyX20, rfl, rfl, in_X20, by decide, tyX20_ok, nmX20, rfl, Or.inl ⟨rfl, Or.inl q3471⟩⟩
theorem V.fpX20_154 {nm : String} : FP RX20 nm 154 20 57 (.array .int) := ⟨(RX20, TX20, 58), tyX20, rfl, rfl, in_X20, by decide, tyX20_ok, nmX20, rfl, Or.inl ⟨rfl, Or.inl q3473⟩⟩
theorem V.fpX20_157 {nm : String} : FP RX20 nm 157 20 4 (.int) := ⟨(RX20, TX20, 58), tyX20, rfl, rfl, in_X20, by decide, tyX20_ok, nmX20, rfl, Or.inl ⟨rfl, Or.inl q3367⟩⟩
theorem V.fpX20_160 {nm : String} : FP RX20 nm 160 20 8 (.int) := ⟨(RX20, TX20, 58), tyX20, rfl, rfl, in_X20, by decide, tyX20_ok, nmX20, rfl, Or.inl ⟨rfl, Or.inl q3375⟩⟩
theorem V.fpX20_163 {nm : String} : FP RX20 nm 163 20 14 (.long) := ⟨(RX20, TX20, 58), tyX20, rfl, rfl, in_X20, by decide, tyX20_ok, nmX20, rfl, Or.inl ⟨rfl, Or.inl q3387⟩⟩
theorem V.fpX20_166 {nm : String} : FP RX20 nm 166 20 15 (.int) := ⟨(RX20, TX20, 58), tyX20, rfl, rfl, in_X20, by decide, tyX20_ok, nmX20, rfl, Or.inl ⟨rfl, Or.inl q3389⟩⟩
theorem V.fpX20_169 {nm : String} : FP RX20 nm 169 20 17 (.int) := ⟨(RX20, TX20, 58), tyX20, rfl, rfl, in_X20, by decide, tyX20_ok, nmX20, rfl, Or.inl ⟨rfl, Or.inl q3393⟩⟩
theorem V.fpX20_172 {nm : String} : FP RX20 nm 172 20 21 (.int) := ⟨(RX20, TX20, 58), tyX20, rfl, rfl, in_X20, by decide, tyX20_ok, nmX20, rfl, Or.inl ⟨rfl, Or.inl q3401⟩⟩
theorem V.fpX20_175 {nm : String} : FP RX20 nm 175 20 24 (.int) := ⟨(RX20, TX20, 58), tyX20, rfl, rfl, in_X20, by decide, tyX20_ok, nmX20, rfl, Or.inl ⟨rfl, Or.inl q3407⟩⟩
theorem V.fpX20_178 {nm : String} : FP RX20 nm 178 20 28 (.int) := ⟨(RX20, TX20, 58), tyX20, rfl, rfl, in_X20, by decide, tyX20_ok, nmX20, rfl, Or.inl ⟨rfl, Or.inl q3415⟩⟩
theorem V.fpX20_181 {nm : String} : FP RX20 nm 181 20 34 (.int) := ⟨(RX20, TX20, 58), tyX20, rfl, rfl, in_X20, by decide, tyX20_ok, nmX20, rfl, Or.inl ⟨rfl, Or.inl q3427⟩⟩
theorem V.fpX20_184 {nm : String} : FP RX20 nm 184 20 43 (.long) := ⟨(RX20, TX20, 58), tyX20, rfl, rfl, in_X20, by decide, tyX20_ok, nmX20, rfl, Or.inl ⟨rfl, Or.inl q3445⟩⟩
theorem V.fpX20_187 {nm : String} : FP RX20 nm 187 20 44 (.int) := ⟨(RX20, TX20, 58), tyX20, rfl, rfl, in_X20, by decide, tyX20_ok, nmX20, rfl, Or.inl ⟨rfl, Or.inl q3447⟩⟩
theorem V.fpX20_190 {nm : String} : FP RX20 nm 190 20 50 (.long) := ⟨(RX20, TX20, 58), tyX20, rfl, rfl, in_X20, by decide, tyX20_ok, nmX20, rfl, Or.inl ⟨rfl, Or.inl q3459⟩⟩
theorem V.fdX20_9 : FD RX20 9 20 2 2 := ⟨(RX20, TX20, 58), tyX20, rfl, rfl, in_X20, by decide, Or.inl q3363, rfl⟩
/-! ModuleEngineModel$Plan.begin(I)V -/
def V.Pln_begin_p28  : Nat → HS → Nat → Int32 → Option (Unit × HS)
  | 0, _, _, _ => none
  | n + 1, σ, x0, x2 =>
    if (13 : Int32) ≤ x2 then (
      ck (tg σ x0 = 21) <| bn (sI σ x0 3 (-1 : Int32)) fun σ1 =>
      ck (tg σ1 x0 = 21) <| bn (sI σ1 x0 4 (0 : Int32)) fun σ2 =>
      ck (tg σ2 x0 = 21) <| bn (sI σ2 x0 8 (0 : Int32)) fun σ3 =>
      ck (tg σ3 x0 = 21) <| bn (sJ σ3 x0 14 (0 : Int64)) fun σ4 =>
      ck (tg σ4 x0 = 21) <| bn (sI σ4 x0 15 (0 : Int32)) fun σ5 =>
      ck (tg σ5 x0 = 21) <| bn (sI σ5 x0 17 (0 : Int32)) fun σ6 =>
      ck (tg σ6 x0 = 21) <| bn (sI σ6 x0 21 (0 : Int32)) fun σ7 =>
      ck (tg σ7 x0 = 21) <| bn (sI σ7 x0 24 (0 : Int32)) fun σ8 =>
      ck (tg σ8 x0 = 21) <| bn (sI σ8 x0 28 (0 : Int32)) fun σ9 =>
      ck (tg σ9 x0 = 21) <| bn (sJ σ9 x0 33 (-1 : Int64)) fun σ10 =>
      ck (tg σ10 x0 = 21) <| bn (sI σ10 x0 34 (0 : Int32)) fun σ11 =>
      ck (tg σ11 x0 = 21) <| bn (sJ σ11 x0 42 (-1 : Int64)) fun σ12 =>
      ck (tg σ12 x0 = 21) <| bn (sJ σ12 x0 43 (0 : Int64)) fun σ13 =>
      ck (tg σ13 x0 = 21) <| bn (sI σ13 x0 44 (0 : Int32)) fun σ14 =>
      ck (tg σ14 x0 = 21) <| bn (sJ σ14 x0 50 (0 : Int64)) fun σ15 =>
      some ((), σ15))
    else (
      ck (tg σ x0 = 21) <|
      ck (tg σ (gR σ x0 2) = 100 ∧ inb x2 (ln σ (gR σ x0 2))) <| bn (sI σ (gR σ x0 2) (ix x2) (-1 : Int32)) fun σ16 =>
      bn (x2 + (1 : Int32)) fun y17 =>
      Pln_begin_p28 n σ16 x0 y17)
theorem V.gX20_begin_p28 {X : CX}  : ∀ (n : Nat) (σ : HS) (x0 : Nat) (x2 : Int32), G X RX20 "begin" cX20_begin 3 none 0 0 enV 28 [(0, av x0), (2, iv x2)] [] σ (Pln_begin_p28 n σ x0 x2)
  | 0, σ, x0, x2 => by rw [Pln_begin_p28]; exact G.nul
  | n + 1, σ, x0, x2 => by
    rw [Pln_begin_p28]
    refine g_iload_n 2 1 dX20_begin_28 rfl rfl ?_
    refine g_bipush (v := 13) dX20_begin_29 (by decide) ?_
    refine g_icmp_ge 47 dX20_begin_31 (by decide) ?_ ?_
    · refine g_aload_n 0 0 dX20_begin_47 rfl rfl ?_
      refine g_iconst (v := (-1)) dX20_begin_48 (by decide) ?_
      refine g_putI fpX20_15 dX20_begin_49 (fun σ1 => ?_)
      refine g_aload_n 0 0 dX20_begin_52 rfl rfl ?_
      refine g_iconst (v := 0) dX20_begin_53 (by decide) ?_
      refine g_putI fpX20_157 dX20_begin_54 (fun σ2 => ?_)
      refine g_aload_n 0 0 dX20_begin_57 rfl rfl ?_
      refine g_iconst (v := 0) dX20_begin_58 (by decide) ?_
      refine g_putI fpX20_160 dX20_begin_59 (fun σ3 => ?_)
      refine g_aload_n 0 0 dX20_begin_62 rfl rfl ?_
      refine g_lconst (v := 0) dX20_begin_63 (by decide) ?_
      refine g_putJ fpX20_163 dX20_begin_64 (fun σ4 => ?_)
      refine g_aload_n 0 0 dX20_begin_67 rfl rfl ?_
      refine g_iconst (v := 0) dX20_begin_68 (by decide) ?_
      refine g_putI fpX20_166 dX20_begin_69 (fun σ5 => ?_)
      refine g_aload_n 0 0 dX20_begin_72 rfl rfl ?_
      refine g_iconst (v := 0) dX20_begin_73 (by decide) ?_
      refine g_putI fpX20_169 dX20_begin_74 (fun σ6 => ?_)
      refine g_aload_n 0 0 dX20_begin_77 rfl rfl ?_
      refine g_iconst (v := 0) dX20_begin_78 (by decide) ?_
      refine g_putI fpX20_172 dX20_begin_79 (fun σ7 => ?_)
      refine g_aload_n 0 0 dX20_begin_82 rfl rfl ?_
      refine g_iconst (v := 0) dX20_begin_83 (by decide) ?_
      refine g_putI fpX20_175 dX20_begin_84 (fun σ8 => ?_)
      refine g_aload_n 0 0 dX20_begin_87 rfl rfl ?_
      refine g_iconst (v := 0) dX20_begin_88 (by decide) ?_
      refine g_putI fpX20_178 dX20_begin_89 (fun σ9 => ?_)
      refine g_aload_n 0 0 dX20_begin_92 rfl rfl ?_
      refine g_ldc2 q3358 dX20_begin_93 ?_
      refine g_putJ fpX20_86 dX20_begin_96 (fun σ10 => ?_)
      refine g_aload_n 0 0 dX20_begin_99 rfl rfl ?_
      refine g_iconst (v := 0) dX20_begin_100 (by decide) ?_
      refine g_putI fpX20_181 dX20_begin_101 (fun σ11 => ?_)
      refine g_aload_n 0 0 dX20_begin_104 rfl rfl ?_
      refine g_ldc2 q3358 dX20_begin_105 ?_
      refine g_putJ fpX20_111 dX20_begin_108 (fun σ12 => ?_)
      refine g_aload_n 0 0 dX20_begin_111 rfl rfl ?_
      refine g_lconst (v := 0) dX20_begin_112 (by decide) ?_
      refine g_putJ fpX20_184 dX20_begin_113 (fun σ13 => ?_)
      refine g_aload_n 0 0 dX20_begin_116 rfl rfl ?_
      refine g_iconst (v := 0) dX20_begin_117 (by decide) ?_
      refine g_putI fpX20_187 dX20_begin_118 (fun σ14 => ?_)
      refine g_aload_n 0 0 dX20_begin_121 rfl rfl ?_
      refine g_lconst (v := 0) dX20_begin_122 (by decide) ?_
      refine g_putJ fpX20_190 dX20_begin_123 (fun σ15 => ?_)
      exact g_return rfl dX20_begin_126
    · refine g_aload_n 0 0 dX20_begin_34 rfl rfl ?_
      refine g_getR fdX20_9 dX20_begin_35 ?_
      refine g_iload_n 2 1 dX20_begin_38 rfl rfl ?_
      refine g_iconst (v := (-1)) dX20_begin_39 (by decide) ?_
      refine g_iastore dX20_begin_40 (fun σ16 => ?_)
      refine g_iincB (w := 1) 1 dX20_begin_41 rfl (by decide) (by decide) (fun _ => rfl) (fun y17 => ?_)
      refine g_goto 28 dX20_begin_44 (by decide) ?_
      refine G.sub [1, 0] rfl ?_
      exact gX20_begin_p28 n _ _ _
def V.Pln_begin (σ : HS) (x0 : Nat) (x1 : Int32) : Option (Unit × HS) :=
  ck (tg σ x0 = 21) <| bn (sI σ x0 1 x1) fun σ1 =>
  ck (lenok x1) <| newa σ1 102 x1 fun a2 σ3 =>
  ck (tg σ3 x0 = 21) <| bn (sR σ3 x0 0 a2) fun σ4 =>
  ck (lenok x1) <| newa σ4 100 x1 fun a5 σ6 =>
  ck (tg σ6 x0 = 21) <| bn (sR σ6 x0 56 a5) fun σ7 =>
  ck (lenok x1) <| newa σ7 100 x1 fun a8 σ9 =>
  ck (tg σ9 x0 = 21) <| bn (sR σ9 x0 57 a8) fun σ10 =>
  Pln_begin_p28 FU σ10 x0 (0 : Int32)
theorem V.ctX20_begin (x0 : Nat) (x1 : Int32) : Ct yX20_begin  cX20_begin 3 none 0 0 eV [av x0, iv x1] (fun σ => Pln_begin σ x0 x1) := by
  refine Ct.of (own := RX20) (nm := "begin") (desc := "(I)V") rfl (by decide) (Nat.le_of_ble_eq_true rfl) (by decide) (fun X σ => ?_)
  show G X RX20 "begin" cX20_begin 3 none 0 0 enV 0 [(0, av x0), (1, iv x1)] [] σ (Pln_begin σ x0 x1)
  unfold Pln_begin
  refine g_aload_n 0 0 dX20_begin_0 rfl rfl ?_
  refine g_iload_n 1 1 dX20_begin_1 rfl rfl ?_
  refine g_putI fpX20_144 dX20_begin_2 (fun σ1 => ?_)
  refine g_aload_n 0 0 dX20_begin_5 rfl rfl ?_
  refine g_iload_n 1 1 dX20_begin_6 rfl rfl ?_
  refine g_na_byte dX20_begin_7 (fun a2 σ3 => ?_)
  refine g_putR fpX20_147 rfl dX20_begin_9 (fun σ4 => ?_)
  refine g_aload_n 0 0 dX20_begin_12 rfl rfl ?_
  refine g_iload_n 1 1 dX20_begin_13 rfl rfl ?_
  refine g_na_int dX20_begin_14 (fun a5 σ6 => ?_)
  refine g_putR fpX20_151 rfl dX20_begin_16 (fun σ7 => ?_)
  refine g_aload_n 0 0 dX20_begin_19 rfl rfl ?_
  refine g_iload_n 1 1 dX20_begin_20 rfl rfl ?_
  refine g_na_int dX20_begin_21 (fun a8 σ9 => ?_)
  refine g_putR fpX20_154 rfl dX20_begin_23 (fun σ10 => ?_)
  refine g_iconst (v := 0) dX20_begin_26 (by decide) ?_
  refine g_istore_n 2 dX20_begin_27 rfl (by decide) rfl ?_
  refine G.sub [1, 0] rfl ?_
  exact gX20_begin_p28 FU _ _ _
