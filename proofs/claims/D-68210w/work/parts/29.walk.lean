set_option maxRecDepth 100000
theorem V.dX8_checkRoom_0 : decode cX8_checkRoom 0 = .ok (.aload_n 0, 1) := by decide +kernel
theorem V.dX8_checkRoom_1 : decode cX8_checkRoom 1 = .ok (.aload_n 0, 1) := by decide +kernel
theorem V.dX8_checkRoom_2 : decode cX8_checkRoom 2 = .ok (.getfield 57, 3) := by decide +kernel
theorem V.dX8_checkRoom_5 : decode cX8_checkRoom 5 = .ok (.invokevirtual 121, 3) := by decide +kernel
theorem V.dX8_checkRoom_8 : decode cX8_checkRoom 8 = .ok (.bipush 64, 2) := by decide +kernel
theorem V.dX8_checkRoom_10 : decode cX8_checkRoom 10 = .ok (.if_icmp .gt 14, 3) := by decide +kernel
theorem V.dX8_checkRoom_13 : decode cX8_checkRoom 13 = .ok (.aload_n 0, 1) := by decide +kernel
theorem V.dX8_checkRoom_14 : decode cX8_checkRoom 14 = .ok (.invokevirtual 124, 3) := by decide +kernel
theorem V.dX8_checkRoom_17 : decode cX8_checkRoom 17 = .ok (.ifCond .eq 7, 3) := by decide +kernel
theorem V.dX8_checkRoom_20 : decode cX8_checkRoom 20 = .ok (.iconst 1, 1) := by decide +kernel
theorem V.dX8_checkRoom_21 : decode cX8_checkRoom 21 = .ok (.goto 4, 3) := by decide +kernel
theorem V.dX8_checkRoom_24 : decode cX8_checkRoom 24 = .ok (.iconst 0, 1) := by decide +kernel
theorem V.dX8_checkRoom_25 : decode cX8_checkRoom 25 = .ok (.bipush 40, 2) := by decide +kernel
theorem V.dX8_checkRoom_27 : decode cX8_checkRoom 27 = .ok (.aload_n 0, 1) := by decide +kernel
theorem V.dX8_checkRoom_28 : decode cX8_checkRoom 28 = .ok (.iconst 1, 1) := by decide +kernel
theorem V.dX8_checkRoom_29 : decode cX8_checkRoom 29 = .ok (.invokevirtual 128, 3) := by decide +kernel
theorem V.dX8_checkRoom_32 : decode cX8_checkRoom 32 = .ok (.invokevirtual 132, 3) := by decide +kernel
theorem V.dX8_checkRoom_35 : decode cX8_checkRoom 35 = .ok (.aload_n 0, 1) := by decide +kernel
theorem V.dX8_checkRoom_36 : decode cX8_checkRoom 36 = .ok (.aload_n 0, 1) := by decide +kernel
theorem V.dX8_checkRoom_37 : decode cX8_checkRoom 37 = .ok (.getfield 57, 3) := by decide +kernel
theorem V.dX8_checkRoom_40 : decode cX8_checkRoom 40 = .ok (.getfield 136, 3) := by decide +kernel
theorem V.dX8_checkRoom_43 : decode cX8_checkRoom 43 = .ok (.bipush 9, 2) := by decide +kernel
theorem V.dX8_checkRoom_45 : decode cX8_checkRoom 45 = .ok (.invokestatic 139, 3) := by decide +kernel
theorem V.dX8_checkRoom_48 : decode cX8_checkRoom 48 = .ok (.bipush 64, 2) := by decide +kernel
theorem V.dX8_checkRoom_50 : decode cX8_checkRoom 50 = .ok (.if_icmp .gt 7, 3) := by decide +kernel
theorem V.dX8_checkRoom_53 : decode cX8_checkRoom 53 = .ok (.iconst 1, 1) := by decide +kernel
theorem V.dX8_checkRoom_54 : decode cX8_checkRoom 54 = .ok (.goto 4, 3) := by decide +kernel
theorem V.dX8_checkRoom_57 : decode cX8_checkRoom 57 = .ok (.iconst 0, 1) := by decide +kernel
theorem V.dX8_checkRoom_58 : decode cX8_checkRoom 58 = .ok (.bipush 40, 2) := by decide +kernel
theorem V.dX8_checkRoom_60 : decode cX8_checkRoom 60 = .ok (.aload_n 0, 1) := by decide +kernel
theorem V.dX8_checkRoom_61 : decode cX8_checkRoom 61 = .ok (.iconst 2, 1) := by decide +kernel
theorem V.dX8_checkRoom_62 : decode cX8_checkRoom 62 = .ok (.invokevirtual 128, 3) := by decide +kernel
theorem V.dX8_checkRoom_65 : decode cX8_checkRoom 65 = .ok (.invokevirtual 132, 3) := by decide +kernel
theorem V.dX8_checkRoom_68 : decode cX8_checkRoom 68 = .ok (.aload_n 0, 1) := by decide +kernel
theorem V.dX8_checkRoom_69 : decode cX8_checkRoom 69 = .ok (.aload_n 0, 1) := by decide +kernel
theorem V.dX8_checkRoom_70 : decode cX8_checkRoom 70 = .ok (.getfield 57, 3) := by decide +kernel
theorem V.dX8_checkRoom_73 : decode cX8_checkRoom 73 = .ok (.getfield 96, 3) := by decide +kernel
theorem V.dX8_checkRoom_76 : decode cX8_checkRoom 76 = .ok (.invokevirtual 100, 3) := by decide +kernel
theorem V.dX8_checkRoom_79 : decode cX8_checkRoom 79 = .ok (.bipush 64, 2) := by decide +kernel
theorem V.dX8_checkRoom_81 : decode cX8_checkRoom 81 = .ok (.if_icmp .gt 7, 3) := by decide +kernel
theorem V.dX8_checkRoom_84 : decode cX8_checkRoom 84 = .ok (.iconst 1, 1) := by decide +kernel
theorem V.dX8_checkRoom_85 : decode cX8_checkRoom 85 = .ok (.goto 4, 3) := by decide +kernel
theorem V.dX8_checkRoom_88 : decode cX8_checkRoom 88 = .ok (.iconst 0, 1) := by decide +kernel
theorem V.dX8_checkRoom_89 : decode cX8_checkRoom 89 = .ok (.bipush 40, 2) := by decide +kernel
theorem V.dX8_checkRoom_91 : decode cX8_checkRoom 91 = .ok (.aload_n 0, 1) := by decide +kernel
theorem V.dX8_checkRoom_92 : decode cX8_checkRoom 92 = .ok (.iconst 3, 1) := by decide +kernel
theorem V.dX8_checkRoom_93 : decode cX8_checkRoom 93 = .ok (.invokevirtual 128, 3) := by decide +kernel
theorem V.dX8_checkRoom_96 : decode cX8_checkRoom 96 = .ok (.invokevirtual 132, 3) := by decide +kernel
theorem V.dX8_checkRoom_99 : decode cX8_checkRoom 99 = .ok (.aload_n 0, 1) := by decide +kernel
theorem V.dX8_checkRoom_100 : decode cX8_checkRoom 100 = .ok (.aload_n 0, 1) := by decide +kernel
theorem V.dX8_checkRoom_101 : decode cX8_checkRoom 101 = .ok (.getfield 57, 3) := by decide +kernel
theorem V.dX8_checkRoom_104 : decode cX8_checkRoom 104 = .ok (.getfield 143, 3) := by decide +kernel
theorem V.dX8_checkRoom_107 : decode cX8_checkRoom 107 = .ok (.iconst 4, 1) := by decide +kernel
theorem V.dX8_checkRoom_108 : decode cX8_checkRoom 108 = .ok (.invokestatic 139, 3) := by decide +kernel
theorem V.dX8_checkRoom_111 : decode cX8_checkRoom 111 = .ok (.bipush 64, 2) := by decide +kernel
theorem V.dX8_checkRoom_113 : decode cX8_checkRoom 113 = .ok (.if_icmp .gt 7, 3) := by decide +kernel
theorem V.dX8_checkRoom_116 : decode cX8_checkRoom 116 = .ok (.iconst 1, 1) := by decide +kernel
theorem V.dX8_checkRoom_117 : decode cX8_checkRoom 117 = .ok (.goto 4, 3) := by decide +kernel
theorem V.dX8_checkRoom_120 : decode cX8_checkRoom 120 = .ok (.iconst 0, 1) := by decide +kernel
theorem V.dX8_checkRoom_121 : decode cX8_checkRoom 121 = .ok (.bipush 40, 2) := by decide +kernel
theorem V.dX8_checkRoom_123 : decode cX8_checkRoom 123 = .ok (.aload_n 0, 1) := by decide +kernel
theorem V.dX8_checkRoom_124 : decode cX8_checkRoom 124 = .ok (.iconst 4, 1) := by decide +kernel
theorem V.dX8_checkRoom_125 : decode cX8_checkRoom 125 = .ok (.invokevirtual 128, 3) := by decide +kernel
theorem V.dX8_checkRoom_128 : decode cX8_checkRoom 128 = .ok (.invokevirtual 132, 3) := by decide +kernel
theorem V.dX8_checkRoom_131 : decode cX8_checkRoom 131 = .ok (.aload_n 0, 1) := by decide +kernel
theorem V.dX8_checkRoom_132 : decode cX8_checkRoom 132 = .ok (.aload_n 0, 1) := by decide +kernel
theorem V.dX8_checkRoom_133 : decode cX8_checkRoom 133 = .ok (.getfield 57, 3) := by decide +kernel
theorem V.dX8_checkRoom_136 : decode cX8_checkRoom 136 = .ok (.getfield 146, 3) := by decide +kernel
theorem V.dX8_checkRoom_139 : decode cX8_checkRoom 139 = .ok (.iconst 4, 1) := by decide +kernel
theorem V.dX8_checkRoom_140 : decode cX8_checkRoom 140 = .ok (.invokestatic 139, 3) := by decide +kernel
theorem V.dX8_checkRoom_143 : decode cX8_checkRoom 143 = .ok (.bipush 64, 2) := by decide +kernel
theorem V.dX8_checkRoom_145 : decode cX8_checkRoom 145 = .ok (.if_icmp .gt 7, 3) := by decide +kernel
theorem V.dX8_checkRoom_148 : decode cX8_checkRoom 148 = .ok (.iconst 1, 1) := by decide +kernel
theorem V.dX8_checkRoom_149 : decode cX8_checkRoom 149 = .ok (.goto 4, 3) := by decide +kernel
theorem V.dX8_checkRoom_152 : decode cX8_checkRoom 152 = .ok (.iconst 0, 1) := by decide +kernel
theorem V.dX8_checkRoom_153 : decode cX8_checkRoom 153 = .ok (.bipush 40, 2) := by decide +kernel
theorem V.dX8_checkRoom_155 : decode cX8_checkRoom 155 = .ok (.aload_n 0, 1) := by decide +kernel
theorem V.dX8_checkRoom_156 : decode cX8_checkRoom 156 = .ok (.iconst 5, 1) := by decide +kernel
theorem V.dX8_checkRoom_157 : decode cX8_checkRoom 157 = .ok (.invokevirtual 128, 3) := by decide +kernel
theorem V.dX8_checkRoom_160 : decode cX8_checkRoom 160 = .ok (.invokevirtual 132, 3) := by decide +kernel
theorem V.dX8_checkRoom_163 : decode cX8_checkRoom 163 = .ok (.aload_n 0, 1) := by decide +kernel
theorem V.dX8_checkRoom_164 : decode cX8_checkRoom 164 = .ok (.aload_n 0, 1) := by decide +kernel
theorem V.dX8_checkRoom_165 : decode cX8_checkRoom 165 = .ok (.getfield 57, 3) := by decide +kernel
theorem V.dX8_checkRoom_168 : decode cX8_checkRoom 168 = .ok (.getfield 149, 3) := by decide +kernel
theorem V.dX8_checkRoom_171 : decode cX8_checkRoom 171 = .ok (.iconst 4, 1) := by decide +kernel
theorem V.dX8_checkRoom_172 : decode cX8_checkRoom 172 = .ok (.invokestatic 139, 3) := by decide +kernel
theorem V.dX8_checkRoom_175 : decode cX8_checkRoom 175 = .ok (.bipush 64, 2) := by decide +kernel
theorem V.dX8_checkRoom_177 : decode cX8_checkRoom 177 = .ok (.if_icmp .gt 7, 3) := by decide +kernel
theorem V.dX8_checkRoom_180 : decode cX8_checkRoom 180 = .ok (.iconst 1, 1) := by decide +kernel
theorem V.dX8_checkRoom_181 : decode cX8_checkRoom 181 = .ok (.goto 4, 3) := by decide +kernel
theorem V.dX8_checkRoom_184 : decode cX8_checkRoom 184 = .ok (.iconst 0, 1) := by decide +kernel
theorem V.dX8_checkRoom_185 : decode cX8_checkRoom 185 = .ok (.bipush 40, 2) := by decide +kernel
theorem V.dX8_checkRoom_187 : decode cX8_checkRoom 187 = .ok (.aload_n 0, 1) := by decide +kernel
theorem V.dX8_checkRoom_188 : decode cX8_checkRoom 188 = .ok (.bipush 6, 2) := by decide +kernel
theorem V.dX8_checkRoom_190 : decode cX8_checkRoom 190 = .ok (.invokevirtual 128, 3) := by decide +kernel
theorem V.dX8_checkRoom_193 : decode cX8_checkRoom 193 = .ok (.invokevirtual 132, 3) := by decide +kernel
theorem V.dX8_checkRoom_196 : decode cX8_checkRoom 196 = .ok (.aload_n 0, 1) := by decide +kernel
theorem V.dX8_checkRoom_197 : decode cX8_checkRoom 197 = .ok (.aload_n 0, 1) := by decide +kernel
theorem V.dX8_checkRoom_198 : decode cX8_checkRoom 198 = .ok (.getfield 57, 3) := by decide +kernel
theorem V.dX8_checkRoom_201 : decode cX8_checkRoom 201 = .ok (.getfield 152, 3) := by decide +kernel
theorem V.dX8_checkRoom_204 : decode cX8_checkRoom 204 = .ok (.iconst 4, 1) := by decide +kernel
theorem V.dX8_checkRoom_205 : decode cX8_checkRoom 205 = .ok (.invokestatic 139, 3) := by decide +kernel
theorem V.dX8_checkRoom_208 : decode cX8_checkRoom 208 = .ok (.bipush 64, 2) := by decide +kernel
theorem V.dX8_checkRoom_210 : decode cX8_checkRoom 210 = .ok (.if_icmp .gt 7, 3) := by decide +kernel
theorem V.dX8_checkRoom_213 : decode cX8_checkRoom 213 = .ok (.iconst 1, 1) := by decide +kernel
theorem V.dX8_checkRoom_214 : decode cX8_checkRoom 214 = .ok (.goto 4, 3) := by decide +kernel
theorem V.dX8_checkRoom_217 : decode cX8_checkRoom 217 = .ok (.iconst 0, 1) := by decide +kernel
theorem V.dX8_checkRoom_218 : decode cX8_checkRoom 218 = .ok (.bipush 40, 2) := by decide +kernel
theorem V.dX8_checkRoom_220 : decode cX8_checkRoom 220 = .ok (.aload_n 0, 1) := by decide +kernel
theorem V.dX8_checkRoom_221 : decode cX8_checkRoom 221 = .ok (.bipush 7, 2) := by decide +kernel
theorem V.dX8_checkRoom_223 : decode cX8_checkRoom 223 = .ok (.invokevirtual 128, 3) := by decide +kernel
theorem V.dX8_checkRoom_226 : decode cX8_checkRoom 226 = .ok (.invokevirtual 132, 3) := by decide +kernel
theorem V.dX8_checkRoom_229 : decode cX8_checkRoom 229 = .ok (.aload_n 0, 1) := by decide +kernel
theorem V.dX8_checkRoom_230 : decode cX8_checkRoom 230 = .ok (.aload_n 0, 1) := by decide +kernel
theorem V.dX8_checkRoom_231 : decode cX8_checkRoom 231 = .ok (.getfield 57, 3) := by decide +kernel
theorem V.dX8_checkRoom_234 : decode cX8_checkRoom 234 = .ok (.getfield 155, 3) := by decide +kernel
theorem V.dX8_checkRoom_237 : decode cX8_checkRoom 237 = .ok (.bipush 8, 2) := by decide +kernel
theorem V.dX8_checkRoom_239 : decode cX8_checkRoom 239 = .ok (.invokestatic 139, 3) := by decide +kernel
theorem V.dX8_checkRoom_242 : decode cX8_checkRoom 242 = .ok (.bipush 64, 2) := by decide +kernel
theorem V.dX8_checkRoom_244 : decode cX8_checkRoom 244 = .ok (.if_icmp .gt 7, 3) := by decide +kernel
theorem V.dX8_checkRoom_247 : decode cX8_checkRoom 247 = .ok (.iconst 1, 1) := by decide +kernel
theorem V.dX8_checkRoom_248 : decode cX8_checkRoom 248 = .ok (.goto 4, 3) := by decide +kernel
theorem V.dX8_checkRoom_251 : decode cX8_checkRoom 251 = .ok (.iconst 0, 1) := by decide +kernel
theorem V.dX8_checkRoom_252 : decode cX8_checkRoom 252 = .ok (.bipush 40, 2) := by decide +kernel
theorem V.dX8_checkRoom_254 : decode cX8_checkRoom 254 = .ok (.aload_n 0, 1) := by decide +kernel
theorem V.dX8_checkRoom_255 : decode cX8_checkRoom 255 = .ok (.bipush 9, 2) := by decide +kernel
theorem V.dX8_checkRoom_257 : decode cX8_checkRoom 257 = .ok (.invokevirtual 128, 3) := by decide +kernel
theorem V.dX8_checkRoom_260 : decode cX8_checkRoom 260 = .ok (.invokevirtual 132, 3) := by decide +kernel
theorem V.dX8_checkRoom_263 : decode cX8_checkRoom 263 = .ok (.iconst 0, 1) := by decide +kernel
theorem V.dX8_checkRoom_264 : decode cX8_checkRoom 264 = .ok (.istore_n 1, 1) := by decide +kernel
theorem V.dX8_checkRoom_265 : decode cX8_checkRoom 265 = .ok (.iload_n 1, 1) := by decide +kernel
theorem V.dX8_checkRoom_266 : decode cX8_checkRoom 266 = .ok (.aload_n 0, 1) := by decide +kernel
theorem V.dX8_checkRoom_267 : decode cX8_checkRoom 267 = .ok (.getfield 57, 3) := by decide +kernel
theorem V.dX8_checkRoom_270 : decode cX8_checkRoom 270 = .ok (.getfield 96, 3) := by decide +kernel
theorem V.dX8_checkRoom_273 : decode cX8_checkRoom 273 = .ok (.invokevirtual 100, 3) := by decide +kernel
theorem V.dX8_checkRoom_276 : decode cX8_checkRoom 276 = .ok (.if_icmp .ge 26, 3) := by decide +kernel
theorem V.dX8_checkRoom_279 : decode cX8_checkRoom 279 = .ok (.aload_n 0, 1) := by decide +kernel
theorem V.dX8_checkRoom_280 : decode cX8_checkRoom 280 = .ok (.aload_n 0, 1) := by decide +kernel
theorem V.dX8_checkRoom_281 : decode cX8_checkRoom 281 = .ok (.iload_n 1, 1) := by decide +kernel
theorem V.dX8_checkRoom_282 : decode cX8_checkRoom 282 = .ok (.invokevirtual 158, 3) := by decide +kernel
theorem V.dX8_checkRoom_285 : decode cX8_checkRoom 285 = .ok (.bipush 40, 2) := by decide +kernel
theorem V.dX8_checkRoom_287 : decode cX8_checkRoom 287 = .ok (.aload_n 0, 1) := by decide +kernel
theorem V.dX8_checkRoom_288 : decode cX8_checkRoom 288 = .ok (.bipush 10, 2) := by decide +kernel
theorem V.dX8_checkRoom_290 : decode cX8_checkRoom 290 = .ok (.invokevirtual 128, 3) := by decide +kernel
theorem V.dX8_checkRoom_293 : decode cX8_checkRoom 293 = .ok (.invokevirtual 132, 3) := by decide +kernel
theorem V.dX8_checkRoom_296 : decode cX8_checkRoom 296 = .ok (.iinc 1 1, 3) := by decide +kernel
theorem V.dX8_checkRoom_299 : decode cX8_checkRoom 299 = .ok (.goto (-34), 3) := by decide +kernel
theorem V.dX8_checkRoom_302 : decode cX8_checkRoom 302 = .ok (.aload_n 0, 1) := by decide +kernel
theorem V.dX8_checkRoom_303 : decode cX8_checkRoom 303 = .ok (.aload_n 0, 1) := by decide +kernel
theorem V.dX8_checkRoom_304 : decode cX8_checkRoom 304 = .ok (.getfield 57, 3) := by decide +kernel
theorem V.dX8_checkRoom_307 : decode cX8_checkRoom 307 = .ok (.getfield 162, 3) := by decide +kernel
theorem V.dX8_checkRoom_310 : decode cX8_checkRoom 310 = .ok (.bipush 6, 2) := by decide +kernel
theorem V.dX8_checkRoom_312 : decode cX8_checkRoom 312 = .ok (.invokestatic 139, 3) := by decide +kernel
theorem V.dX8_checkRoom_315 : decode cX8_checkRoom 315 = .ok (.bipush 64, 2) := by decide +kernel
theorem V.dX8_checkRoom_317 : decode cX8_checkRoom 317 = .ok (.if_icmp .gt 7, 3) := by decide +kernel
theorem V.dX8_checkRoom_320 : decode cX8_checkRoom 320 = .ok (.iconst 1, 1) := by decide +kernel
theorem V.dX8_checkRoom_321 : decode cX8_checkRoom 321 = .ok (.goto 4, 3) := by decide +kernel
theorem V.dX8_checkRoom_324 : decode cX8_checkRoom 324 = .ok (.iconst 0, 1) := by decide +kernel
theorem V.dX8_checkRoom_325 : decode cX8_checkRoom 325 = .ok (.bipush 40, 2) := by decide +kernel
theorem V.dX8_checkRoom_327 : decode cX8_checkRoom 327 = .ok (.aload_n 0, 1) := by decide +kernel
theorem V.dX8_checkRoom_328 : decode cX8_checkRoom 328 = .ok (.bipush 11, 2) := by decide +kernel
theorem V.dX8_checkRoom_330 : decode cX8_checkRoom 330 = .ok (.invokevirtual 128, 3) := by decide +kernel
theorem V.dX8_checkRoom_333 : decode cX8_checkRoom 333 = .ok (.invokevirtual 132, 3) := by decide +kernel
theorem V.dX8_checkRoom_336 : decode cX8_checkRoom 336 = .ok (.return_, 1) := by decide +kernel
theorem V.mdX8_124 : MD RX8 124 yX8_typesFit cX8_typesFit 2 (some .boolean) 0 := ⟨Or.inl q1553, q368, q1556, by decide, by decide, by decide +kernel⟩
theorem V.mdX8_128 : MD RX8 128 yX8_section cX8_section 5 (some .int) 1 := ⟨Or.inl q1567, q368, q1570, by decide, by decide, by decide +kernel⟩
theorem V.mdX8_132 : MD RX8 132 yX8_need cX8_need 4 none 3 := ⟨Or.inl q1588, q368, q1591, by decide, by decide, by decide +kernel⟩
theorem V.fdX8_136 : FD RX8 136 2 3 2 := ⟨(RX2, TX2, 21), tyX2, rfl, rfl, in_X2, by decide, Or.inr ⟨_, q433⟩, rfl⟩
theorem V.mdX8_139 : MD RX8 139 yX8_count cX8_count 2 (some .int) 2 := ⟨Or.inl q1597, q368, q1599, by decide, by decide, by decide +kernel⟩
theorem V.fdX8_96 : FD RX8 96 2 4 2 := ⟨(RX2, TX2, 21), tyX2, rfl, rfl, in_X2, by decide, Or.inr ⟨_, q437⟩, rfl⟩
theorem V.fdX8_143 : FD RX8 143 2 5 2 := ⟨(RX2, TX2, 21), tyX2, rfl, rfl, in_X2, by decide, Or.inr ⟨_, q441⟩, rfl⟩
theorem V.fdX8_146 : FD RX8 146 2 6 2 := ⟨(RX2, TX2, 21), tyX2, rfl, rfl, in_X2, by decide, Or.inr ⟨_, q445⟩, rfl⟩
theorem V.fdX8_149 : FD RX8 149 2 7 2 := ⟨(RX2, TX2, 21), tyX2, rfl, rfl, in_X2, by decide, Or.inr ⟨_, q449⟩, rfl⟩
theorem V.fdX8_152 : FD RX8 152 2 8 2 := ⟨(RX2, TX2, 21), tyX2, rfl, rfl, in_X2, by decide, Or.inr ⟨_, q453⟩, rfl⟩
theorem V.fdX8_155 : FD RX8 155 2 9 2 := ⟨(RX2, TX2, 21), tyX2, rfl, rfl, in_X2, by decide, Or.inr ⟨_, q457⟩, rfl⟩
theorem V.fdX8_162 : FD RX8 162 2 13 2 := ⟨(RX2, TX2, 21), tyX2, rfl, rfl, in_X2, by decide, Or.inr ⟨_, q473⟩, rfl⟩
theorem V.mdX8_158 : MD RX8 158 yX8_bodyFits cX8_bodyFits 3 (some .boolean) 1 := ⟨Or.inl q1601, q368, q1604, by decide, by decide, by decide +kernel⟩
/-! ModuleEngine$Loader.checkRoom()V -/
def V.Ldr_checkRoom_p325  (σ : HS) (x0 : Nat) (s0 : Int32) (s1 : Nat) : Option ((Nat ⊕ Unit) × HS) :=
  ck (tg σ x0 = 9) <| cl (Ldr_section σ x0 (11 : Int32)) fun r2 σ1 =>
  ck (tg σ1 s1 = 9) <| clT (Ldr_need σ1 s1 s0 (40 : Int32) r2) fun _ σ3 =>
  some (.inr (), σ3)
theorem V.gX8_checkRoom_p325 {X : CX}  (σ : HS) (x0 : Nat) (s0 : Int32) (s1 : Nat) : G X RX8 "checkRoom" cX8_checkRoom 2 none 8 131 (enX enV (cxz X)) 325 [(0, av x0)] [iv s0, av s1] σ (Ldr_checkRoom_p325 σ x0 s0 s1) := by
  unfold Ldr_checkRoom_p325
  refine g_bipush (v := 40) dX8_checkRoom_325 (by decide) ?_
  refine g_aload_n 0 0 dX8_checkRoom_327 rfl rfl ?_
  refine g_bipush (v := 11) dX8_checkRoom_328 (by decide) ?_
  refine g_callV (fc := fun sς => Ldr_section sς x0 (11 : Int32)) (ci := 8) (as := [iv (11 : Int32)]) rfl rfl rfl q1569 qs38 mdX8_128 (ctX8_section x0 (11 : Int32)) rfl (Nat.le_of_ble_eq_true rfl) (Nat.le_of_ble_eq_true rfl) (Nat.le_of_ble_eq_true rfl) pu_I dX8_checkRoom_330 (fun r2 σ1 => ?_)
  refine g_callVT (fc := fun sς => Ldr_need sς s1 s0 (40 : Int32) r2) (ci := 8) (as := [iv s0, iv (40 : Int32), iv r2]) rfl rfl rfl q1590 qs42 q1588 mdX8_132 (ctX8_need s1 s0 (40 : Int32) r2) rfl (Nat.le_of_ble_eq_true rfl) (Nat.le_of_ble_eq_true rfl) (Nat.le_of_ble_eq_true rfl) pu_V (by decide) dX8_checkRoom_333 (fun _ σ3 => ?_)
  exact g_return rfl dX8_checkRoom_336
def V.Ldr_checkRoom_p265  : Nat → HS → Nat → Int32 → Option ((Nat ⊕ Unit) × HS)
  | 0, _, _, _ => none
  | n + 1, σ, x0, x1 =>
    ck (tg σ x0 = 9) <|
    ck (tg σ (gR σ x0 7) = 3) <|
    ck (tg σ (gR σ (gR σ x0 7) 4) = 4) <| cl (Row_size σ (gR σ (gR σ x0 7) 4) ) fun r2 σ1 =>
    if r2 ≤ x1 then (
      ck (tg σ1 x0 = 9) <|
      ck (tg σ1 (gR σ1 x0 7) = 3) <|
      cl (Ldr_count σ1 (gR σ1 (gR σ1 x0 7) 13) (6 : Int32)) fun r4 σ3 =>
      if (64 : Int32) < r4 then (
        Ldr_checkRoom_p325 σ3 x0 (0 : Int32) x0)
      else (
        Ldr_checkRoom_p325 σ3 x0 (1 : Int32) x0))
    else (
      ck (tg σ1 x0 = 9) <| cl (Ldr_bodyFits σ1 x0 x1) fun r6 σ5 =>
      ck (tg σ5 x0 = 9) <| cl (Ldr_section σ5 x0 (10 : Int32)) fun r8 σ7 =>
      ck (tg σ7 x0 = 9) <| clT (Ldr_need σ7 x0 r6 (40 : Int32) r8) fun _ σ9 =>
      bn (x1 + (1 : Int32)) fun y10 =>
      Ldr_checkRoom_p265 n σ9 x0 y10)
theorem V.gX8_checkRoom_p265 {X : CX}  : ∀ (n : Nat) (σ : HS) (x0 : Nat) (x1 : Int32), G X RX8 "checkRoom" cX8_checkRoom 2 none 8 131 (enX enV (cxz X)) 265 [(0, av x0), (1, iv x1)] [] σ (Ldr_checkRoom_p265 n σ x0 x1)
  | 0, σ, x0, x1 => by rw [Ldr_checkRoom_p265]; exact G.nul
  | n + 1, σ, x0, x1 => by
    rw [Ldr_checkRoom_p265]
    refine g_iload_n 1 1 dX8_checkRoom_265 rfl rfl ?_
    refine g_aload_n 0 0 dX8_checkRoom_266 rfl rfl ?_
    refine g_getR fdX8_57 dX8_checkRoom_267 ?_
    refine g_getR fdX8_96 dX8_checkRoom_270 ?_
    refine g_callV (fc := fun sς => Row_size sς (gR σ (gR σ x0 7) 4) ) (ci := 3) (as := []) rfl rfl rfl q1421 q1422 mdX8_100 (ctX3_size (gR σ (gR σ x0 7) 4) ) rfl (Nat.le_of_ble_eq_true rfl) (Nat.le_of_ble_eq_true rfl) (Nat.le_of_ble_eq_true rfl) pu_I dX8_checkRoom_273 (fun r2 σ1 => ?_)
    refine g_icmp_ge 302 dX8_checkRoom_276 (by decide) ?_ ?_
    · refine g_aload_n 0 0 dX8_checkRoom_302 rfl rfl ?_
      refine g_aload_n 0 0 dX8_checkRoom_303 rfl rfl ?_
      refine g_getR fdX8_57 dX8_checkRoom_304 ?_
      refine g_getR fdX8_162 dX8_checkRoom_307 ?_
      refine g_bipush (v := 6) dX8_checkRoom_310 (by decide) ?_
      refine g_callS (fc := fun sς => Ldr_count sς (gR σ1 (gR σ1 x0 7) 13) (6 : Int32)) (as := [av (gR σ1 (gR σ1 x0 7) 13), iv (6 : Int32)]) q1598 mdX8_139 (ctX8_count (gR σ1 (gR σ1 x0 7) 13) (6 : Int32)) rfl (Nat.le_of_ble_eq_true rfl) (Nat.le_of_ble_eq_true rfl) (Nat.le_of_ble_eq_true rfl) pu_I dX8_checkRoom_312 (fun r4 σ3 => ?_)
      refine g_bipush (v := 64) dX8_checkRoom_315 (by decide) ?_
      refine g_icmp_gt 324 dX8_checkRoom_317 (by decide) ?_ ?_
      · refine g_iconst (v := 0) dX8_checkRoom_324 (by decide) ?_
        refine G.sub [0] rfl ?_
        exact gX8_checkRoom_p325 _ _ _ _
      · refine g_iconst (v := 1) dX8_checkRoom_320 (by decide) ?_
        refine g_goto 325 dX8_checkRoom_321 (by decide) ?_
        refine G.sub [0] rfl ?_
        exact gX8_checkRoom_p325 _ _ _ _
    · refine g_aload_n 0 0 dX8_checkRoom_279 rfl rfl ?_
      refine g_aload_n 0 0 dX8_checkRoom_280 rfl rfl ?_
      refine g_iload_n 1 1 dX8_checkRoom_281 rfl rfl ?_
      refine g_callV (fc := fun sς => Ldr_bodyFits sς x0 x1) (ci := 8) (as := [iv x1]) rfl rfl rfl q1603 qs44 mdX8_158 (ctX8_bodyFits x0 x1) rfl (Nat.le_of_ble_eq_true rfl) (Nat.le_of_ble_eq_true rfl) (Nat.le_of_ble_eq_true rfl) pu_I dX8_checkRoom_282 (fun r6 σ5 => ?_)
      refine g_bipush (v := 40) dX8_checkRoom_285 (by decide) ?_
      refine g_aload_n 0 0 dX8_checkRoom_287 rfl rfl ?_
      refine g_bipush (v := 10) dX8_checkRoom_288 (by decide) ?_
      refine g_callV (fc := fun sς => Ldr_section sς x0 (10 : Int32)) (ci := 8) (as := [iv (10 : Int32)]) rfl rfl rfl q1569 qs38 mdX8_128 (ctX8_section x0 (10 : Int32)) rfl (Nat.le_of_ble_eq_true rfl) (Nat.le_of_ble_eq_true rfl) (Nat.le_of_ble_eq_true rfl) pu_I dX8_checkRoom_290 (fun r8 σ7 => ?_)
      refine g_callVT (fc := fun sς => Ldr_need sς x0 r6 (40 : Int32) r8) (ci := 8) (as := [iv r6, iv (40 : Int32), iv r8]) rfl rfl rfl q1590 qs42 q1588 mdX8_132 (ctX8_need x0 r6 (40 : Int32) r8) rfl (Nat.le_of_ble_eq_true rfl) (Nat.le_of_ble_eq_true rfl) (Nat.le_of_ble_eq_true rfl) pu_V (by decide) dX8_checkRoom_293 (fun _ σ9 => ?_)
      refine g_iincB (w := 1) 1 dX8_checkRoom_296 rfl (by decide) (by decide) (fun _ => rfl) (fun y10 => ?_)
      refine g_goto 265 dX8_checkRoom_299 (by decide) ?_
      refine G.sub [1, 0] rfl ?_
      exact gX8_checkRoom_p265 n _ _ _
def V.Ldr_checkRoom_p252  (σ : HS) (x0 : Nat) (s0 : Int32) (s1 : Nat) : Option ((Nat ⊕ Unit) × HS) :=
  ck (tg σ x0 = 9) <| cl (Ldr_section σ x0 (9 : Int32)) fun r2 σ1 =>
  ck (tg σ1 s1 = 9) <| clT (Ldr_need σ1 s1 s0 (40 : Int32) r2) fun _ σ3 =>
  Ldr_checkRoom_p265 FU σ3 x0 (0 : Int32)
theorem V.gX8_checkRoom_p252 {X : CX}  (σ : HS) (x0 : Nat) (s0 : Int32) (s1 : Nat) : G X RX8 "checkRoom" cX8_checkRoom 2 none 8 131 (enX enV (cxz X)) 252 [(0, av x0)] [iv s0, av s1] σ (Ldr_checkRoom_p252 σ x0 s0 s1) := by
  unfold Ldr_checkRoom_p252
  refine g_bipush (v := 40) dX8_checkRoom_252 (by decide) ?_
  refine g_aload_n 0 0 dX8_checkRoom_254 rfl rfl ?_
  refine g_bipush (v := 9) dX8_checkRoom_255 (by decide) ?_
  refine g_callV (fc := fun sς => Ldr_section sς x0 (9 : Int32)) (ci := 8) (as := [iv (9 : Int32)]) rfl rfl rfl q1569 qs38 mdX8_128 (ctX8_section x0 (9 : Int32)) rfl (Nat.le_of_ble_eq_true rfl) (Nat.le_of_ble_eq_true rfl) (Nat.le_of_ble_eq_true rfl) pu_I dX8_checkRoom_257 (fun r2 σ1 => ?_)
  refine g_callVT (fc := fun sς => Ldr_need sς s1 s0 (40 : Int32) r2) (ci := 8) (as := [iv s0, iv (40 : Int32), iv r2]) rfl rfl rfl q1590 qs42 q1588 mdX8_132 (ctX8_need s1 s0 (40 : Int32) r2) rfl (Nat.le_of_ble_eq_true rfl) (Nat.le_of_ble_eq_true rfl) (Nat.le_of_ble_eq_true rfl) pu_V (by decide) dX8_checkRoom_260 (fun _ σ3 => ?_)
  refine g_iconst (v := 0) dX8_checkRoom_263 (by decide) ?_
  refine g_istore_n 1 dX8_checkRoom_264 rfl (by decide) rfl ?_
  refine G.sub [1, 0] rfl ?_
  exact gX8_checkRoom_p265 FU _ _ _
def V.Ldr_checkRoom_p218  (σ : HS) (x0 : Nat) (s0 : Int32) (s1 : Nat) : Option ((Nat ⊕ Unit) × HS) :=
  ck (tg σ x0 = 9) <| cl (Ldr_section σ x0 (7 : Int32)) fun r2 σ1 =>
  ck (tg σ1 s1 = 9) <| clT (Ldr_need σ1 s1 s0 (40 : Int32) r2) fun _ σ3 =>
  ck (tg σ3 x0 = 9) <|
  ck (tg σ3 (gR σ3 x0 7) = 3) <|
  cl (Ldr_count σ3 (gR σ3 (gR σ3 x0 7) 9) (8 : Int32)) fun r5 σ4 =>
  if (64 : Int32) < r5 then (
    Ldr_checkRoom_p252 σ4 x0 (0 : Int32) x0)
  else (
    Ldr_checkRoom_p252 σ4 x0 (1 : Int32) x0)
theorem V.gX8_checkRoom_p218 {X : CX}  (σ : HS) (x0 : Nat) (s0 : Int32) (s1 : Nat) : G X RX8 "checkRoom" cX8_checkRoom 2 none 8 131 (enX enV (cxz X)) 218 [(0, av x0)] [iv s0, av s1] σ (Ldr_checkRoom_p218 σ x0 s0 s1) := by
  unfold Ldr_checkRoom_p218
  refine g_bipush (v := 40) dX8_checkRoom_218 (by decide) ?_
  refine g_aload_n 0 0 dX8_checkRoom_220 rfl rfl ?_
  refine g_bipush (v := 7) dX8_checkRoom_221 (by decide) ?_
  refine g_callV (fc := fun sς => Ldr_section sς x0 (7 : Int32)) (ci := 8) (as := [iv (7 : Int32)]) rfl rfl rfl q1569 qs38 mdX8_128 (ctX8_section x0 (7 : Int32)) rfl (Nat.le_of_ble_eq_true rfl) (Nat.le_of_ble_eq_true rfl) (Nat.le_of_ble_eq_true rfl) pu_I dX8_checkRoom_223 (fun r2 σ1 => ?_)
  refine g_callVT (fc := fun sς => Ldr_need sς s1 s0 (40 : Int32) r2) (ci := 8) (as := [iv s0, iv (40 : Int32), iv r2]) rfl rfl rfl q1590 qs42 q1588 mdX8_132 (ctX8_need s1 s0 (40 : Int32) r2) rfl (Nat.le_of_ble_eq_true rfl) (Nat.le_of_ble_eq_true rfl) (Nat.le_of_ble_eq_true rfl) pu_V (by decide) dX8_checkRoom_226 (fun _ σ3 => ?_)
  refine g_aload_n 0 0 dX8_checkRoom_229 rfl rfl ?_
  refine g_aload_n 0 0 dX8_checkRoom_230 rfl rfl ?_
  refine g_getR fdX8_57 dX8_checkRoom_231 ?_
  refine g_getR fdX8_155 dX8_checkRoom_234 ?_
  refine g_bipush (v := 8) dX8_checkRoom_237 (by decide) ?_
  refine g_callS (fc := fun sς => Ldr_count sς (gR σ3 (gR σ3 x0 7) 9) (8 : Int32)) (as := [av (gR σ3 (gR σ3 x0 7) 9), iv (8 : Int32)]) q1598 mdX8_139 (ctX8_count (gR σ3 (gR σ3 x0 7) 9) (8 : Int32)) rfl (Nat.le_of_ble_eq_true rfl) (Nat.le_of_ble_eq_true rfl) (Nat.le_of_ble_eq_true rfl) pu_I dX8_checkRoom_239 (fun r5 σ4 => ?_)
  refine g_bipush (v := 64) dX8_checkRoom_242 (by decide) ?_
  refine g_icmp_gt 251 dX8_checkRoom_244 (by decide) ?_ ?_
  · refine g_iconst (v := 0) dX8_checkRoom_251 (by decide) ?_
    exact gX8_checkRoom_p252 _ _ _ _
  · refine g_iconst (v := 1) dX8_checkRoom_247 (by decide) ?_
    refine g_goto 252 dX8_checkRoom_248 (by decide) ?_
    exact gX8_checkRoom_p252 _ _ _ _
def V.Ldr_checkRoom_p185  (σ : HS) (x0 : Nat) (s0 : Int32) (s1 : Nat) : Option ((Nat ⊕ Unit) × HS) :=
  ck (tg σ x0 = 9) <| cl (Ldr_section σ x0 (6 : Int32)) fun r2 σ1 =>
  ck (tg σ1 s1 = 9) <| clT (Ldr_need σ1 s1 s0 (40 : Int32) r2) fun _ σ3 =>
  ck (tg σ3 x0 = 9) <|
  ck (tg σ3 (gR σ3 x0 7) = 3) <|
  cl (Ldr_count σ3 (gR σ3 (gR σ3 x0 7) 8) (4 : Int32)) fun r5 σ4 =>
  if (64 : Int32) < r5 then (
    Ldr_checkRoom_p218 σ4 x0 (0 : Int32) x0)
  else (
    Ldr_checkRoom_p218 σ4 x0 (1 : Int32) x0)
theorem V.gX8_checkRoom_p185 {X : CX}  (σ : HS) (x0 : Nat) (s0 : Int32) (s1 : Nat) : G X RX8 "checkRoom" cX8_checkRoom 2 none 8 131 (enX enV (cxz X)) 185 [(0, av x0)] [iv s0, av s1] σ (Ldr_checkRoom_p185 σ x0 s0 s1) := by
  unfold Ldr_checkRoom_p185
  refine g_bipush (v := 40) dX8_checkRoom_185 (by decide) ?_
  refine g_aload_n 0 0 dX8_checkRoom_187 rfl rfl ?_
  refine g_bipush (v := 6) dX8_checkRoom_188 (by decide) ?_
  refine g_callV (fc := fun sς => Ldr_section sς x0 (6 : Int32)) (ci := 8) (as := [iv (6 : Int32)]) rfl rfl rfl q1569 qs38 mdX8_128 (ctX8_section x0 (6 : Int32)) rfl (Nat.le_of_ble_eq_true rfl) (Nat.le_of_ble_eq_true rfl) (Nat.le_of_ble_eq_true rfl) pu_I dX8_checkRoom_190 (fun r2 σ1 => ?_)
  refine g_callVT (fc := fun sς => Ldr_need sς s1 s0 (40 : Int32) r2) (ci := 8) (as := [iv s0, iv (40 : Int32), iv r2]) rfl rfl rfl q1590 qs42 q1588 mdX8_132 (ctX8_need s1 s0 (40 : Int32) r2) rfl (Nat.le_of_ble_eq_true rfl) (Nat.le_of_ble_eq_true rfl) (Nat.le_of_ble_eq_true rfl) pu_V (by decide) dX8_checkRoom_193 (fun _ σ3 => ?_)
  refine g_aload_n 0 0 dX8_checkRoom_196 rfl rfl ?_
  refine g_aload_n 0 0 dX8_checkRoom_197 rfl rfl ?_
  refine g_getR fdX8_57 dX8_checkRoom_198 ?_
  refine g_getR fdX8_152 dX8_checkRoom_201 ?_
  refine g_iconst (v := 4) dX8_checkRoom_204 (by decide) ?_
  refine g_callS (fc := fun sς => Ldr_count sς (gR σ3 (gR σ3 x0 7) 8) (4 : Int32)) (as := [av (gR σ3 (gR σ3 x0 7) 8), iv (4 : Int32)]) q1598 mdX8_139 (ctX8_count (gR σ3 (gR σ3 x0 7) 8) (4 : Int32)) rfl (Nat.le_of_ble_eq_true rfl) (Nat.le_of_ble_eq_true rfl) (Nat.le_of_ble_eq_true rfl) pu_I dX8_checkRoom_205 (fun r5 σ4 => ?_)
  refine g_bipush (v := 64) dX8_checkRoom_208 (by decide) ?_
  refine g_icmp_gt 217 dX8_checkRoom_210 (by decide) ?_ ?_
  · refine g_iconst (v := 0) dX8_checkRoom_217 (by decide) ?_
    exact gX8_checkRoom_p218 _ _ _ _
  · refine g_iconst (v := 1) dX8_checkRoom_213 (by decide) ?_
    refine g_goto 218 dX8_checkRoom_214 (by decide) ?_
    exact gX8_checkRoom_p218 _ _ _ _
def V.Ldr_checkRoom_p153  (σ : HS) (x0 : Nat) (s0 : Int32) (s1 : Nat) : Option ((Nat ⊕ Unit) × HS) :=
  ck (tg σ x0 = 9) <| cl (Ldr_section σ x0 (5 : Int32)) fun r2 σ1 =>
  ck (tg σ1 s1 = 9) <| clT (Ldr_need σ1 s1 s0 (40 : Int32) r2) fun _ σ3 =>
  ck (tg σ3 x0 = 9) <|
  ck (tg σ3 (gR σ3 x0 7) = 3) <|
  cl (Ldr_count σ3 (gR σ3 (gR σ3 x0 7) 7) (4 : Int32)) fun r5 σ4 =>
  if (64 : Int32) < r5 then (
    Ldr_checkRoom_p185 σ4 x0 (0 : Int32) x0)
  else (
    Ldr_checkRoom_p185 σ4 x0 (1 : Int32) x0)
theorem V.gX8_checkRoom_p153 {X : CX}  (σ : HS) (x0 : Nat) (s0 : Int32) (s1 : Nat) : G X RX8 "checkRoom" cX8_checkRoom 2 none 8 131 (enX enV (cxz X)) 153 [(0, av x0)] [iv s0, av s1] σ (Ldr_checkRoom_p153 σ x0 s0 s1) := by
  unfold Ldr_checkRoom_p153
  refine g_bipush (v := 40) dX8_checkRoom_153 (by decide) ?_
  refine g_aload_n 0 0 dX8_checkRoom_155 rfl rfl ?_
  refine g_iconst (v := 5) dX8_checkRoom_156 (by decide) ?_
  refine g_callV (fc := fun sς => Ldr_section sς x0 (5 : Int32)) (ci := 8) (as := [iv (5 : Int32)]) rfl rfl rfl q1569 qs38 mdX8_128 (ctX8_section x0 (5 : Int32)) rfl (Nat.le_of_ble_eq_true rfl) (Nat.le_of_ble_eq_true rfl) (Nat.le_of_ble_eq_true rfl) pu_I dX8_checkRoom_157 (fun r2 σ1 => ?_)
  refine g_callVT (fc := fun sς => Ldr_need sς s1 s0 (40 : Int32) r2) (ci := 8) (as := [iv s0, iv (40 : Int32), iv r2]) rfl rfl rfl q1590 qs42 q1588 mdX8_132 (ctX8_need s1 s0 (40 : Int32) r2) rfl (Nat.le_of_ble_eq_true rfl) (Nat.le_of_ble_eq_true rfl) (Nat.le_of_ble_eq_true rfl) pu_V (by decide) dX8_checkRoom_160 (fun _ σ3 => ?_)
  refine g_aload_n 0 0 dX8_checkRoom_163 rfl rfl ?_
  refine g_aload_n 0 0 dX8_checkRoom_164 rfl rfl ?_
  refine g_getR fdX8_57 dX8_checkRoom_165 ?_
  refine g_getR fdX8_149 dX8_checkRoom_168 ?_
  refine g_iconst (v := 4) dX8_checkRoom_171 (by decide) ?_
  refine g_callS (fc := fun sς => Ldr_count sς (gR σ3 (gR σ3 x0 7) 7) (4 : Int32)) (as := [av (gR σ3 (gR σ3 x0 7) 7), iv (4 : Int32)]) q1598 mdX8_139 (ctX8_count (gR σ3 (gR σ3 x0 7) 7) (4 : Int32)) rfl (Nat.le_of_ble_eq_true rfl) (Nat.le_of_ble_eq_true rfl) (Nat.le_of_ble_eq_true rfl) pu_I dX8_checkRoom_172 (fun r5 σ4 => ?_)
  refine g_bipush (v := 64) dX8_checkRoom_175 (by decide) ?_
  refine g_icmp_gt 184 dX8_checkRoom_177 (by decide) ?_ ?_
  · refine g_iconst (v := 0) dX8_checkRoom_184 (by decide) ?_
    exact gX8_checkRoom_p185 _ _ _ _
  · refine g_iconst (v := 1) dX8_checkRoom_180 (by decide) ?_
    refine g_goto 185 dX8_checkRoom_181 (by decide) ?_
    exact gX8_checkRoom_p185 _ _ _ _
def V.Ldr_checkRoom_p121  (σ : HS) (x0 : Nat) (s0 : Int32) (s1 : Nat) : Option ((Nat ⊕ Unit) × HS) :=
  ck (tg σ x0 = 9) <| cl (Ldr_section σ x0 (4 : Int32)) fun r2 σ1 =>
  ck (tg σ1 s1 = 9) <| clT (Ldr_need σ1 s1 s0 (40 : Int32) r2) fun _ σ3 =>
  ck (tg σ3 x0 = 9) <|
  ck (tg σ3 (gR σ3 x0 7) = 3) <|
  cl (Ldr_count σ3 (gR σ3 (gR σ3 x0 7) 6) (4 : Int32)) fun r5 σ4 =>
  if (64 : Int32) < r5 then (
    Ldr_checkRoom_p153 σ4 x0 (0 : Int32) x0)
  else (
    Ldr_checkRoom_p153 σ4 x0 (1 : Int32) x0)
theorem V.gX8_checkRoom_p121 {X : CX}  (σ : HS) (x0 : Nat) (s0 : Int32) (s1 : Nat) : G X RX8 "checkRoom" cX8_checkRoom 2 none 8 131 (enX enV (cxz X)) 121 [(0, av x0)] [iv s0, av s1] σ (Ldr_checkRoom_p121 σ x0 s0 s1) := by
  unfold Ldr_checkRoom_p121
  refine g_bipush (v := 40) dX8_checkRoom_121 (by decide) ?_
  refine g_aload_n 0 0 dX8_checkRoom_123 rfl rfl ?_
  refine g_iconst (v := 4) dX8_checkRoom_124 (by decide) ?_
  refine g_callV (fc := fun sς => Ldr_section sς x0 (4 : Int32)) (ci := 8) (as := [iv (4 : Int32)]) rfl rfl rfl q1569 qs38 mdX8_128 (ctX8_section x0 (4 : Int32)) rfl (Nat.le_of_ble_eq_true rfl) (Nat.le_of_ble_eq_true rfl) (Nat.le_of_ble_eq_true rfl) pu_I dX8_checkRoom_125 (fun r2 σ1 => ?_)
  refine g_callVT (fc := fun sς => Ldr_need sς s1 s0 (40 : Int32) r2) (ci := 8) (as := [iv s0, iv (40 : Int32), iv r2]) rfl rfl rfl q1590 qs42 q1588 mdX8_132 (ctX8_need s1 s0 (40 : Int32) r2) rfl (Nat.le_of_ble_eq_true rfl) (Nat.le_of_ble_eq_true rfl) (Nat.le_of_ble_eq_true rfl) pu_V (by decide) dX8_checkRoom_128 (fun _ σ3 => ?_)
  refine g_aload_n 0 0 dX8_checkRoom_131 rfl rfl ?_
  refine g_aload_n 0 0 dX8_checkRoom_132 rfl rfl ?_
  refine g_getR fdX8_57 dX8_checkRoom_133 ?_
  refine g_getR fdX8_146 dX8_checkRoom_136 ?_
  refine g_iconst (v := 4) dX8_checkRoom_139 (by decide) ?_
  refine g_callS (fc := fun sς => Ldr_count sς (gR σ3 (gR σ3 x0 7) 6) (4 : Int32)) (as := [av (gR σ3 (gR σ3 x0 7) 6), iv (4 : Int32)]) q1598 mdX8_139 (ctX8_count (gR σ3 (gR σ3 x0 7) 6) (4 : Int32)) rfl (Nat.le_of_ble_eq_true rfl) (Nat.le_of_ble_eq_true rfl) (Nat.le_of_ble_eq_true rfl) pu_I dX8_checkRoom_140 (fun r5 σ4 => ?_)
  refine g_bipush (v := 64) dX8_checkRoom_143 (by decide) ?_
  refine g_icmp_gt 152 dX8_checkRoom_145 (by decide) ?_ ?_
  · refine g_iconst (v := 0) dX8_checkRoom_152 (by decide) ?_
    exact gX8_checkRoom_p153 _ _ _ _
  · refine g_iconst (v := 1) dX8_checkRoom_148 (by decide) ?_
    refine g_goto 153 dX8_checkRoom_149 (by decide) ?_
    exact gX8_checkRoom_p153 _ _ _ _
def V.Ldr_checkRoom_p89  (σ : HS) (x0 : Nat) (s0 : Int32) (s1 : Nat) : Option ((Nat ⊕ Unit) × HS) :=
  ck (tg σ x0 = 9) <| cl (Ldr_section σ x0 (3 : Int32)) fun r2 σ1 =>
  ck (tg σ1 s1 = 9) <| clT (Ldr_need σ1 s1 s0 (40 : Int32) r2) fun _ σ3 =>
  ck (tg σ3 x0 = 9) <|
  ck (tg σ3 (gR σ3 x0 7) = 3) <|
  cl (Ldr_count σ3 (gR σ3 (gR σ3 x0 7) 5) (4 : Int32)) fun r5 σ4 =>
  if (64 : Int32) < r5 then (
    Ldr_checkRoom_p121 σ4 x0 (0 : Int32) x0)
  else (
    Ldr_checkRoom_p121 σ4 x0 (1 : Int32) x0)
theorem V.gX8_checkRoom_p89 {X : CX}  (σ : HS) (x0 : Nat) (s0 : Int32) (s1 : Nat) : G X RX8 "checkRoom" cX8_checkRoom 2 none 8 131 (enX enV (cxz X)) 89 [(0, av x0)] [iv s0, av s1] σ (Ldr_checkRoom_p89 σ x0 s0 s1) := by
  unfold Ldr_checkRoom_p89
  refine g_bipush (v := 40) dX8_checkRoom_89 (by decide) ?_
  refine g_aload_n 0 0 dX8_checkRoom_91 rfl rfl ?_
  refine g_iconst (v := 3) dX8_checkRoom_92 (by decide) ?_
  refine g_callV (fc := fun sς => Ldr_section sς x0 (3 : Int32)) (ci := 8) (as := [iv (3 : Int32)]) rfl rfl rfl q1569 qs38 mdX8_128 (ctX8_section x0 (3 : Int32)) rfl (Nat.le_of_ble_eq_true rfl) (Nat.le_of_ble_eq_true rfl) (Nat.le_of_ble_eq_true rfl) pu_I dX8_checkRoom_93 (fun r2 σ1 => ?_)
  refine g_callVT (fc := fun sς => Ldr_need sς s1 s0 (40 : Int32) r2) (ci := 8) (as := [iv s0, iv (40 : Int32), iv r2]) rfl rfl rfl q1590 qs42 q1588 mdX8_132 (ctX8_need s1 s0 (40 : Int32) r2) rfl (Nat.le_of_ble_eq_true rfl) (Nat.le_of_ble_eq_true rfl) (Nat.le_of_ble_eq_true rfl) pu_V (by decide) dX8_checkRoom_96 (fun _ σ3 => ?_)
  refine g_aload_n 0 0 dX8_checkRoom_99 rfl rfl ?_
  refine g_aload_n 0 0 dX8_checkRoom_100 rfl rfl ?_
  refine g_getR fdX8_57 dX8_checkRoom_101 ?_
  refine g_getR fdX8_143 dX8_checkRoom_104 ?_
  refine g_iconst (v := 4) dX8_checkRoom_107 (by decide) ?_
  refine g_callS (fc := fun sς => Ldr_count sς (gR σ3 (gR σ3 x0 7) 5) (4 : Int32)) (as := [av (gR σ3 (gR σ3 x0 7) 5), iv (4 : Int32)]) q1598 mdX8_139 (ctX8_count (gR σ3 (gR σ3 x0 7) 5) (4 : Int32)) rfl (Nat.le_of_ble_eq_true rfl) (Nat.le_of_ble_eq_true rfl) (Nat.le_of_ble_eq_true rfl) pu_I dX8_checkRoom_108 (fun r5 σ4 => ?_)
  refine g_bipush (v := 64) dX8_checkRoom_111 (by decide) ?_
  refine g_icmp_gt 120 dX8_checkRoom_113 (by decide) ?_ ?_
  · refine g_iconst (v := 0) dX8_checkRoom_120 (by decide) ?_
    exact gX8_checkRoom_p121 _ _ _ _
  · refine g_iconst (v := 1) dX8_checkRoom_116 (by decide) ?_
    refine g_goto 121 dX8_checkRoom_117 (by decide) ?_
    exact gX8_checkRoom_p121 _ _ _ _
def V.Ldr_checkRoom_p58  (σ : HS) (x0 : Nat) (s0 : Int32) (s1 : Nat) : Option ((Nat ⊕ Unit) × HS) :=
  ck (tg σ x0 = 9) <| cl (Ldr_section σ x0 (2 : Int32)) fun r2 σ1 =>
  ck (tg σ1 s1 = 9) <| clT (Ldr_need σ1 s1 s0 (40 : Int32) r2) fun _ σ3 =>
  ck (tg σ3 x0 = 9) <|
  ck (tg σ3 (gR σ3 x0 7) = 3) <|
  ck (tg σ3 (gR σ3 (gR σ3 x0 7) 4) = 4) <| cl (Row_size σ3 (gR σ3 (gR σ3 x0 7) 4) ) fun r5 σ4 =>
  if (64 : Int32) < r5 then (
    Ldr_checkRoom_p89 σ4 x0 (0 : Int32) x0)
  else (
    Ldr_checkRoom_p89 σ4 x0 (1 : Int32) x0)
theorem V.gX8_checkRoom_p58 {X : CX}  (σ : HS) (x0 : Nat) (s0 : Int32) (s1 : Nat) : G X RX8 "checkRoom" cX8_checkRoom 2 none 8 131 (enX enV (cxz X)) 58 [(0, av x0)] [iv s0, av s1] σ (Ldr_checkRoom_p58 σ x0 s0 s1) := by
  unfold Ldr_checkRoom_p58
  refine g_bipush (v := 40) dX8_checkRoom_58 (by decide) ?_
  refine g_aload_n 0 0 dX8_checkRoom_60 rfl rfl ?_
  refine g_iconst (v := 2) dX8_checkRoom_61 (by decide) ?_
  refine g_callV (fc := fun sς => Ldr_section sς x0 (2 : Int32)) (ci := 8) (as := [iv (2 : Int32)]) rfl rfl rfl q1569 qs38 mdX8_128 (ctX8_section x0 (2 : Int32)) rfl (Nat.le_of_ble_eq_true rfl) (Nat.le_of_ble_eq_true rfl) (Nat.le_of_ble_eq_true rfl) pu_I dX8_checkRoom_62 (fun r2 σ1 => ?_)
  refine g_callVT (fc := fun sς => Ldr_need sς s1 s0 (40 : Int32) r2) (ci := 8) (as := [iv s0, iv (40 : Int32), iv r2]) rfl rfl rfl q1590 qs42 q1588 mdX8_132 (ctX8_need s1 s0 (40 : Int32) r2) rfl (Nat.le_of_ble_eq_true rfl) (Nat.le_of_ble_eq_true rfl) (Nat.le_of_ble_eq_true rfl) pu_V (by decide) dX8_checkRoom_65 (fun _ σ3 => ?_)
  refine g_aload_n 0 0 dX8_checkRoom_68 rfl rfl ?_
  refine g_aload_n 0 0 dX8_checkRoom_69 rfl rfl ?_
  refine g_getR fdX8_57 dX8_checkRoom_70 ?_
  refine g_getR fdX8_96 dX8_checkRoom_73 ?_
  refine g_callV (fc := fun sς => Row_size sς (gR σ3 (gR σ3 x0 7) 4) ) (ci := 3) (as := []) rfl rfl rfl q1421 q1422 mdX8_100 (ctX3_size (gR σ3 (gR σ3 x0 7) 4) ) rfl (Nat.le_of_ble_eq_true rfl) (Nat.le_of_ble_eq_true rfl) (Nat.le_of_ble_eq_true rfl) pu_I dX8_checkRoom_76 (fun r5 σ4 => ?_)
  refine g_bipush (v := 64) dX8_checkRoom_79 (by decide) ?_
  refine g_icmp_gt 88 dX8_checkRoom_81 (by decide) ?_ ?_
  · refine g_iconst (v := 0) dX8_checkRoom_88 (by decide) ?_
    exact gX8_checkRoom_p89 _ _ _ _
  · refine g_iconst (v := 1) dX8_checkRoom_84 (by decide) ?_
    refine g_goto 89 dX8_checkRoom_85 (by decide) ?_
    exact gX8_checkRoom_p89 _ _ _ _
def V.Ldr_checkRoom_p25  (σ : HS) (x0 : Nat) (s0 : Int32) (s1 : Nat) : Option ((Nat ⊕ Unit) × HS) :=
  ck (tg σ x0 = 9) <| cl (Ldr_section σ x0 (1 : Int32)) fun r2 σ1 =>
  ck (tg σ1 s1 = 9) <| clT (Ldr_need σ1 s1 s0 (40 : Int32) r2) fun _ σ3 =>
  ck (tg σ3 x0 = 9) <|
  ck (tg σ3 (gR σ3 x0 7) = 3) <|
  cl (Ldr_count σ3 (gR σ3 (gR σ3 x0 7) 3) (9 : Int32)) fun r5 σ4 =>
  if (64 : Int32) < r5 then (
    Ldr_checkRoom_p58 σ4 x0 (0 : Int32) x0)
  else (
    Ldr_checkRoom_p58 σ4 x0 (1 : Int32) x0)
theorem V.gX8_checkRoom_p25 {X : CX}  (σ : HS) (x0 : Nat) (s0 : Int32) (s1 : Nat) : G X RX8 "checkRoom" cX8_checkRoom 2 none 8 131 (enX enV (cxz X)) 25 [(0, av x0)] [iv s0, av s1] σ (Ldr_checkRoom_p25 σ x0 s0 s1) := by
  unfold Ldr_checkRoom_p25
  refine g_bipush (v := 40) dX8_checkRoom_25 (by decide) ?_
  refine g_aload_n 0 0 dX8_checkRoom_27 rfl rfl ?_
  refine g_iconst (v := 1) dX8_checkRoom_28 (by decide) ?_
  refine g_callV (fc := fun sς => Ldr_section sς x0 (1 : Int32)) (ci := 8) (as := [iv (1 : Int32)]) rfl rfl rfl q1569 qs38 mdX8_128 (ctX8_section x0 (1 : Int32)) rfl (Nat.le_of_ble_eq_true rfl) (Nat.le_of_ble_eq_true rfl) (Nat.le_of_ble_eq_true rfl) pu_I dX8_checkRoom_29 (fun r2 σ1 => ?_)
  refine g_callVT (fc := fun sς => Ldr_need sς s1 s0 (40 : Int32) r2) (ci := 8) (as := [iv s0, iv (40 : Int32), iv r2]) rfl rfl rfl q1590 qs42 q1588 mdX8_132 (ctX8_need s1 s0 (40 : Int32) r2) rfl (Nat.le_of_ble_eq_true rfl) (Nat.le_of_ble_eq_true rfl) (Nat.le_of_ble_eq_true rfl) pu_V (by decide) dX8_checkRoom_32 (fun _ σ3 => ?_)
  refine g_aload_n 0 0 dX8_checkRoom_35 rfl rfl ?_
  refine g_aload_n 0 0 dX8_checkRoom_36 rfl rfl ?_
  refine g_getR fdX8_57 dX8_checkRoom_37 ?_
  refine g_getR fdX8_136 dX8_checkRoom_40 ?_
  refine g_bipush (v := 9) dX8_checkRoom_43 (by decide) ?_
  refine g_callS (fc := fun sς => Ldr_count sς (gR σ3 (gR σ3 x0 7) 3) (9 : Int32)) (as := [av (gR σ3 (gR σ3 x0 7) 3), iv (9 : Int32)]) q1598 mdX8_139 (ctX8_count (gR σ3 (gR σ3 x0 7) 3) (9 : Int32)) rfl (Nat.le_of_ble_eq_true rfl) (Nat.le_of_ble_eq_true rfl) (Nat.le_of_ble_eq_true rfl) pu_I dX8_checkRoom_45 (fun r5 σ4 => ?_)
  refine g_bipush (v := 64) dX8_checkRoom_48 (by decide) ?_
  refine g_icmp_gt 57 dX8_checkRoom_50 (by decide) ?_ ?_
  · refine g_iconst (v := 0) dX8_checkRoom_57 (by decide) ?_
    exact gX8_checkRoom_p58 _ _ _ _
  · refine g_iconst (v := 1) dX8_checkRoom_53 (by decide) ?_
    refine g_goto 58 dX8_checkRoom_54 (by decide) ?_
    exact gX8_checkRoom_p58 _ _ _ _
def V.Ldr_checkRoom_p24  (σ : HS) (x0 : Nat) (s0 : Nat) : Option ((Nat ⊕ Unit) × HS) :=
  Ldr_checkRoom_p25 σ x0 (0 : Int32) s0
theorem V.gX8_checkRoom_p24 {X : CX}  (σ : HS) (x0 : Nat) (s0 : Nat) : G X RX8 "checkRoom" cX8_checkRoom 2 none 8 131 (enX enV (cxz X)) 24 [(0, av x0)] [av s0] σ (Ldr_checkRoom_p24 σ x0 s0) := by
  unfold Ldr_checkRoom_p24
  refine g_iconst (v := 0) dX8_checkRoom_24 (by decide) ?_
  exact gX8_checkRoom_p25 _ _ _ _
def V.Ldr_checkRoom (σ : HS) (x0 : Nat) : Option ((Nat ⊕ Unit) × HS) :=
  ck (tg σ x0 = 9) <|
  ck (tg σ (gR σ x0 7) = 3) <| cl (Mod_typeCount σ (gR σ x0 7) ) fun r2 σ1 =>
  if (64 : Int32) < r2 then (
    Ldr_checkRoom_p24 σ1 x0 x0)
  else (
    ck (tg σ1 x0 = 9) <| cl (Ldr_typesFit σ1 x0 ) fun r4 σ3 =>
    if r4 = 0 then (
      Ldr_checkRoom_p24 σ3 x0 x0)
    else (
      Ldr_checkRoom_p25 σ3 x0 (1 : Int32) x0))
theorem V.ctX8_checkRoom (x0 : Nat) : Ct yX8_checkRoom  cX8_checkRoom 2 none 8 131 eXV [av x0] (fun σ => Ldr_checkRoom σ x0) := by
  refine Ct.of (own := RX8) (nm := "checkRoom") (desc := "()V") rfl (by decide) (Nat.le_of_ble_eq_true rfl) (by decide) (fun X σ => ?_)
  show G X RX8 "checkRoom" cX8_checkRoom 2 none 8 131 (enX enV (cxz X)) 0 [(0, av x0)] [] σ (Ldr_checkRoom σ x0)
  unfold Ldr_checkRoom
  refine g_aload_n 0 0 dX8_checkRoom_0 rfl rfl ?_
  refine g_aload_n 0 0 dX8_checkRoom_1 rfl rfl ?_
  refine g_getR fdX8_57 dX8_checkRoom_2 ?_
  refine g_callV (fc := fun sς => Mod_typeCount sς (gR σ x0 7) ) (ci := 2) (as := []) rfl rfl rfl q1549 q1550 mdX8_121 (ctX2_typeCount (gR σ x0 7) ) rfl (Nat.le_of_ble_eq_true rfl) (Nat.le_of_ble_eq_true rfl) (Nat.le_of_ble_eq_true rfl) pu_I dX8_checkRoom_5 (fun r2 σ1 => ?_)
  refine g_bipush (v := 64) dX8_checkRoom_8 (by decide) ?_
  refine g_icmp_gt 24 dX8_checkRoom_10 (by decide) ?_ ?_
  · exact gX8_checkRoom_p24 _ _ _
  · refine g_aload_n 0 0 dX8_checkRoom_13 rfl rfl ?_
    refine g_callV (fc := fun sς => Ldr_typesFit sς x0 ) (ci := 8) (as := []) rfl rfl rfl q1555 qs37 mdX8_124 (ctX8_typesFit x0 ) rfl (Nat.le_of_ble_eq_true rfl) (Nat.le_of_ble_eq_true rfl) (Nat.le_of_ble_eq_true rfl) pu_I dX8_checkRoom_14 (fun r4 σ3 => ?_)
    refine g_if_eq 24 dX8_checkRoom_17 (by decide) ?_ ?_
    · exact gX8_checkRoom_p24 _ _ _
    · refine g_iconst (v := 1) dX8_checkRoom_20 (by decide) ?_
      refine g_goto 25 dX8_checkRoom_21 (by decide) ?_
      exact gX8_checkRoom_p25 _ _ _ _
theorem V.dX8_importCount_0 : decode cX8_importCount 0 = .ok (.aload_n 0, 1) := by decide +kernel
theorem V.dX8_importCount_1 : decode cX8_importCount 1 = .ok (.getfield 57, 3) := by decide +kernel
theorem V.dX8_importCount_4 : decode cX8_importCount 4 = .ok (.getfield 136, 3) := by decide +kernel
theorem V.dX8_importCount_7 : decode cX8_importCount 7 = .ok (.bipush 9, 2) := by decide +kernel
theorem V.dX8_importCount_9 : decode cX8_importCount 9 = .ok (.invokestatic 139, 3) := by decide +kernel
theorem V.dX8_importCount_12 : decode cX8_importCount 12 = .ok (.ireturn, 1) := by decide +kernel
/-! ModuleEngine$Loader.importCount()I -/
def V.Ldr_importCount (σ : HS) (x0 : Nat) : Option (Int32 × HS) :=
  ck (tg σ x0 = 9) <|
  ck (tg σ (gR σ x0 7) = 3) <|
  cl (Ldr_count σ (gR σ (gR σ x0 7) 3) (9 : Int32)) fun r2 σ1 =>
  some (r2, σ1)
theorem V.ctX8_importCount (x0 : Nat) : Ct yX8_importCount  cX8_importCount 1 (some .int) 2 41 eI [av x0] (fun σ => Ldr_importCount σ x0) := by
  refine Ct.of (own := RX8) (nm := "importCount") (desc := "()I") rfl (by decide) (Nat.le_of_ble_eq_true rfl) (by decide) (fun X σ => ?_)
  show G X RX8 "importCount" cX8_importCount 1 (some .int) 2 41 enI 0 [(0, av x0)] [] σ (Ldr_importCount σ x0)
  unfold Ldr_importCount
  refine g_aload_n 0 0 dX8_importCount_0 rfl rfl ?_
  refine g_getR fdX8_57 dX8_importCount_1 ?_
  refine g_getR fdX8_136 dX8_importCount_4 ?_
  refine g_bipush (v := 9) dX8_importCount_7 (by decide) ?_
  refine g_callS (fc := fun sς => Ldr_count sς (gR σ (gR σ x0 7) 3) (9 : Int32)) (as := [av (gR σ (gR σ x0 7) 3), iv (9 : Int32)]) q1598 mdX8_139 (ctX8_count (gR σ (gR σ x0 7) 3) (9 : Int32)) rfl (Nat.le_of_ble_eq_true rfl) (Nat.le_of_ble_eq_true rfl) (Nat.le_of_ble_eq_true rfl) pu_I dX8_importCount_9 (fun r2 σ1 => ?_)
  exact g_ireturn rfl dX8_importCount_12
theorem V.dX8_kindOf_0 : decode cX8_kindOf 0 = .ok (.aload_n 0, 1) := by decide +kernel
theorem V.dX8_kindOf_1 : decode cX8_kindOf 1 = .ok (.getfield 57, 3) := by decide +kernel
theorem V.dX8_kindOf_4 : decode cX8_kindOf 4 = .ok (.getfield 136, 3) := by decide +kernel
theorem V.dX8_kindOf_7 : decode cX8_kindOf 7 = .ok (.bipush 9, 2) := by decide +kernel
theorem V.dX8_kindOf_9 : decode cX8_kindOf 9 = .ok (.iload_n 1, 1) := by decide +kernel
theorem V.dX8_kindOf_10 : decode cX8_kindOf 10 = .ok (.imul, 1) := by decide +kernel
theorem V.dX8_kindOf_11 : decode cX8_kindOf 11 = .ok (.invokevirtual 174, 3) := by decide +kernel
theorem V.dX8_kindOf_14 : decode cX8_kindOf 14 = .ok (.ireturn, 1) := by decide +kernel
/-! ModuleEngine$Loader.kindOf(I)I -/
def V.Ldr_kindOf (σ : HS) (x0 : Nat) (x1 : Int32) : Option (Int32 × HS) :=
  ck (tg σ x0 = 9) <|
  ck (tg σ (gR σ x0 7) = 3) <|
  ck (tg σ (gR σ (gR σ x0 7) 3) = 4) <| cl (Row_at σ (gR σ (gR σ x0 7) 3) ((9 : Int32) * x1)) fun r2 σ1 =>
  some (r2, σ1)
theorem V.ctX8_kindOf (x0 : Nat) (x1 : Int32) : Ct yX8_kindOf  cX8_kindOf 2 (some .int) 1 21 eI [av x0, iv x1] (fun σ => Ldr_kindOf σ x0 x1) := by
  refine Ct.of (own := RX8) (nm := "kindOf") (desc := "(I)I") rfl (by decide) (Nat.le_of_ble_eq_true rfl) (by decide) (fun X σ => ?_)
  show G X RX8 "kindOf" cX8_kindOf 2 (some .int) 1 21 enI 0 [(0, av x0), (1, iv x1)] [] σ (Ldr_kindOf σ x0 x1)
  unfold Ldr_kindOf
  refine g_aload_n 0 0 dX8_kindOf_0 rfl rfl ?_
  refine g_getR fdX8_57 dX8_kindOf_1 ?_
  refine g_getR fdX8_136 dX8_kindOf_4 ?_
  refine g_bipush (v := 9) dX8_kindOf_7 (by decide) ?_
  refine g_iload_n 1 1 dX8_kindOf_9 rfl rfl ?_
  refine g_imul dX8_kindOf_10 ?_
  refine g_callV (fc := fun sς => Row_at sς (gR σ (gR σ x0 7) 3) ((9 : Int32) * x1)) (ci := 3) (as := [iv ((9 : Int32) * x1)]) rfl rfl rfl q1409 q1410 mdX8_174 (ctX3_at (gR σ (gR σ x0 7) 3) ((9 : Int32) * x1)) rfl (Nat.le_of_ble_eq_true rfl) (Nat.le_of_ble_eq_true rfl) (Nat.le_of_ble_eq_true rfl) pu_I dX8_kindOf_11 (fun r2 σ1 => ?_)
  exact g_ireturn rfl dX8_kindOf_14
theorem V.dX8_importCell_0 : decode cX8_importCell 0 = .ok (.aload_n 0, 1) := by decide +kernel
theorem V.dX8_importCell_1 : decode cX8_importCell 1 = .ok (.getfield 57, 3) := by decide +kernel
theorem V.dX8_importCell_4 : decode cX8_importCell 4 = .ok (.getfield 136, 3) := by decide +kernel
theorem V.dX8_importCell_7 : decode cX8_importCell 7 = .ok (.bipush 9, 2) := by decide +kernel
theorem V.dX8_importCell_9 : decode cX8_importCell 9 = .ok (.iload_n 1, 1) := by decide +kernel
theorem V.dX8_importCell_10 : decode cX8_importCell 10 = .ok (.imul, 1) := by decide +kernel
theorem V.dX8_importCell_11 : decode cX8_importCell 11 = .ok (.iconst 1, 1) := by decide +kernel
theorem V.dX8_importCell_12 : decode cX8_importCell 12 = .ok (.iadd, 1) := by decide +kernel
theorem V.dX8_importCell_13 : decode cX8_importCell 13 = .ok (.iload_n 2, 1) := by decide +kernel
theorem V.dX8_importCell_14 : decode cX8_importCell 14 = .ok (.iadd, 1) := by decide +kernel
theorem V.dX8_importCell_15 : decode cX8_importCell 15 = .ok (.invokevirtual 174, 3) := by decide +kernel
theorem V.dX8_importCell_18 : decode cX8_importCell 18 = .ok (.ireturn, 1) := by decide +kernel
/-! ModuleEngine$Loader.importCell(II)I -/
def V.Ldr_importCell (σ : HS) (x0 : Nat) (x1 : Int32) (x2 : Int32) : Option (Int32 × HS) :=
  ck (tg σ x0 = 9) <|
  ck (tg σ (gR σ x0 7) = 3) <|
  ck (tg σ (gR σ (gR σ x0 7) 3) = 4) <| cl (Row_at σ (gR σ (gR σ x0 7) 3) ((((9 : Int32) * x1) + (1 : Int32)) + x2)) fun r2 σ1 =>
  some (r2, σ1)
theorem V.ctX8_importCell (x0 : Nat) (x1 : Int32) (x2 : Int32) : Ct yX8_importCell  cX8_importCell 3 (some .int) 1 21 eI [av x0, iv x1, iv x2] (fun σ => Ldr_importCell σ x0 x1 x2) := by
  refine Ct.of (own := RX8) (nm := "importCell") (desc := "(II)I") rfl (by decide) (Nat.le_of_ble_eq_true rfl) (by decide) (fun X σ => ?_)
  show G X RX8 "importCell" cX8_importCell 3 (some .int) 1 21 enI 0 [(0, av x0), (1, iv x1), (2, iv x2)] [] σ (Ldr_importCell σ x0 x1 x2)
  unfold Ldr_importCell
  refine g_aload_n 0 0 dX8_importCell_0 rfl rfl ?_
  refine g_getR fdX8_57 dX8_importCell_1 ?_
  refine g_getR fdX8_136 dX8_importCell_4 ?_
  refine g_bipush (v := 9) dX8_importCell_7 (by decide) ?_
  refine g_iload_n 1 1 dX8_importCell_9 rfl rfl ?_
  refine g_imul dX8_importCell_10 ?_
  refine g_iconst (v := 1) dX8_importCell_11 (by decide) ?_
  refine g_iadd dX8_importCell_12 ?_
  refine g_iload_n 2 2 dX8_importCell_13 rfl rfl ?_
  refine g_iadd dX8_importCell_14 ?_
  refine g_callV (fc := fun sς => Row_at sς (gR σ (gR σ x0 7) 3) ((((9 : Int32) * x1) + (1 : Int32)) + x2)) (ci := 3) (as := [iv ((((9 : Int32) * x1) + (1 : Int32)) + x2)]) rfl rfl rfl q1409 q1410 mdX8_174 (ctX3_at (gR σ (gR σ x0 7) 3) ((((9 : Int32) * x1) + (1 : Int32)) + x2)) rfl (Nat.le_of_ble_eq_true rfl) (Nat.le_of_ble_eq_true rfl) (Nat.le_of_ble_eq_true rfl) pu_I dX8_importCell_15 (fun r2 σ1 => ?_)
  exact g_ireturn rfl dX8_importCell_18
theorem V.dX8_isType_0 : decode cX8_isType 0 = .ok (.iload_n 1, 1) := by decide +kernel
theorem V.dX8_isType_1 : decode cX8_isType 1 = .ok (.invokestatic 176, 3) := by decide +kernel
theorem V.dX8_isType_4 : decode cX8_isType 4 = .ok (.aload_n 0, 1) := by decide +kernel
theorem V.dX8_isType_5 : decode cX8_isType 5 = .ok (.getfield 57, 3) := by decide +kernel
theorem V.dX8_isType_8 : decode cX8_isType 8 = .ok (.invokevirtual 121, 3) := by decide +kernel
theorem V.dX8_isType_11 : decode cX8_isType 11 = .ok (.i2l, 1) := by decide +kernel
theorem V.dX8_isType_12 : decode cX8_isType 12 = .ok (.lcmp, 1) := by decide +kernel
theorem V.dX8_isType_13 : decode cX8_isType 13 = .ok (.ifCond .ge 7, 3) := by decide +kernel
theorem V.dX8_isType_16 : decode cX8_isType 16 = .ok (.iconst 1, 1) := by decide +kernel
theorem V.dX8_isType_17 : decode cX8_isType 17 = .ok (.goto 4, 3) := by decide +kernel
theorem V.dX8_isType_20 : decode cX8_isType 20 = .ok (.iconst 0, 1) := by decide +kernel
theorem V.dX8_isType_21 : decode cX8_isType 21 = .ok (.ireturn, 1) := by decide +kernel
/-! ModuleEngine$Loader.isType(I)Z -/
def V.Ldr_isType (σ : HS) (x0 : Nat) (x1 : Int32) : Option (Int32 × HS) :=
  cl (Mod_wide σ x1) fun r2 σ1 =>
  ck (tg σ1 x0 = 9) <|
  ck (tg σ1 (gR σ1 x0 7) = 3) <| cl (Mod_typeCount σ1 (gR σ1 x0 7) ) fun r4 σ3 =>
  if r4.toInt64 ≤ r2 then (
    some ((0 : Int32), σ3))
  else (
    some ((1 : Int32), σ3))
theorem V.ctX8_isType (x0 : Nat) (x1 : Int32) : Ct yX8_isType  cX8_isType 2 (some .boolean) 2 40 eI [av x0, iv x1] (fun σ => Ldr_isType σ x0 x1) := by
  refine Ct.of (own := RX8) (nm := "isType") (desc := "(I)Z") rfl (by decide) (Nat.le_of_ble_eq_true rfl) (by decide) (fun X σ => ?_)
  show G X RX8 "isType" cX8_isType 2 (some .boolean) 2 40 enI 0 [(0, av x0), (1, iv x1)] [] σ (Ldr_isType σ x0 x1)
  unfold Ldr_isType
  refine g_iload_n 1 1 dX8_isType_0 rfl rfl ?_
  refine g_callS (fc := fun sς => Mod_wide sς x1) (as := [iv x1]) q1376 mdX8_176 (ctX2_wide x1) rfl (Nat.le_of_ble_eq_true rfl) (Nat.le_of_ble_eq_true rfl) (Nat.le_of_ble_eq_true rfl) pu_J dX8_isType_1 (fun r2 σ1 => ?_)
  refine g_aload_n 0 0 dX8_isType_4 rfl rfl ?_
  refine g_getR fdX8_57 dX8_isType_5 ?_
  refine g_callV (fc := fun sς => Mod_typeCount sς (gR σ1 x0 7) ) (ci := 2) (as := []) rfl rfl rfl q1549 q1550 mdX8_121 (ctX2_typeCount (gR σ1 x0 7) ) rfl (Nat.le_of_ble_eq_true rfl) (Nat.le_of_ble_eq_true rfl) (Nat.le_of_ble_eq_true rfl) pu_I dX8_isType_8 (fun r4 σ3 => ?_)
  refine g_i2l dX8_isType_11 ?_
  refine g_lcmp_ge 20 dX8_isType_12 dX8_isType_13 (by decide) ?_ ?_
  · refine g_iconst (v := 0) dX8_isType_20 (by decide) ?_
    exact g_zreturn rfl (by decide +kernel) dX8_isType_21
  · refine g_iconst (v := 1) dX8_isType_16 (by decide) ?_
    refine g_goto 21 dX8_isType_17 (by decide) ?_
    exact g_zreturn rfl (by decide +kernel) dX8_isType_21
theorem V.dX8_checkTypes_0 : decode cX8_checkTypes 0 = .ok (.iconst 0, 1) := by decide +kernel
theorem V.dX8_checkTypes_1 : decode cX8_checkTypes 1 = .ok (.istore_n 1, 1) := by decide +kernel
theorem V.dX8_checkTypes_2 : decode cX8_checkTypes 2 = .ok (.iload_n 1, 1) := by decide +kernel
theorem V.dX8_checkTypes_3 : decode cX8_checkTypes 3 = .ok (.aload_n 0, 1) := by decide +kernel
theorem V.dX8_checkTypes_4 : decode cX8_checkTypes 4 = .ok (.invokevirtual 191, 3) := by decide +kernel
theorem V.dX8_checkTypes_7 : decode cX8_checkTypes 7 = .ok (.if_icmp .ge 46, 3) := by decide +kernel
theorem V.dX8_checkTypes_10 : decode cX8_checkTypes 10 = .ok (.aload_n 0, 1) := by decide +kernel
theorem V.dX8_checkTypes_11 : decode cX8_checkTypes 11 = .ok (.aload_n 0, 1) := by decide +kernel
theorem V.dX8_checkTypes_12 : decode cX8_checkTypes 12 = .ok (.iload_n 1, 1) := by decide +kernel
theorem V.dX8_checkTypes_13 : decode cX8_checkTypes 13 = .ok (.invokevirtual 194, 3) := by decide +kernel
theorem V.dX8_checkTypes_16 : decode cX8_checkTypes 16 = .ok (.ifCond .ne 16, 3) := by decide +kernel
theorem V.dX8_checkTypes_19 : decode cX8_checkTypes 19 = .ok (.aload_n 0, 1) := by decide +kernel
theorem V.dX8_checkTypes_20 : decode cX8_checkTypes 20 = .ok (.aload_n 0, 1) := by decide +kernel
theorem V.dX8_checkTypes_21 : decode cX8_checkTypes 21 = .ok (.iload_n 1, 1) := by decide +kernel
theorem V.dX8_checkTypes_22 : decode cX8_checkTypes 22 = .ok (.iconst 0, 1) := by decide +kernel
theorem V.dX8_checkTypes_23 : decode cX8_checkTypes 23 = .ok (.invokevirtual 197, 3) := by decide +kernel
theorem V.dX8_checkTypes_26 : decode cX8_checkTypes 26 = .ok (.invokevirtual 201, 3) := by decide +kernel
theorem V.dX8_checkTypes_29 : decode cX8_checkTypes 29 = .ok (.ifCond .eq 7, 3) := by decide +kernel
theorem V.dX8_checkTypes_32 : decode cX8_checkTypes 32 = .ok (.iconst 1, 1) := by decide +kernel
theorem V.dX8_checkTypes_33 : decode cX8_checkTypes 33 = .ok (.goto 4, 3) := by decide +kernel
theorem V.dX8_checkTypes_36 : decode cX8_checkTypes 36 = .ok (.iconst 0, 1) := by decide +kernel
theorem V.dX8_checkTypes_37 : decode cX8_checkTypes 37 = .ok (.bipush 20, 2) := by decide +kernel
theorem V.dX8_checkTypes_39 : decode cX8_checkTypes 39 = .ok (.aload_n 0, 1) := by decide +kernel
theorem V.dX8_checkTypes_40 : decode cX8_checkTypes 40 = .ok (.iconst 2, 1) := by decide +kernel
theorem V.dX8_checkTypes_41 : decode cX8_checkTypes 41 = .ok (.invokevirtual 128, 3) := by decide +kernel
theorem V.dX8_checkTypes_44 : decode cX8_checkTypes 44 = .ok (.invokevirtual 132, 3) := by decide +kernel
theorem V.dX8_checkTypes_47 : decode cX8_checkTypes 47 = .ok (.iinc 1 1, 3) := by decide +kernel
theorem V.dX8_checkTypes_50 : decode cX8_checkTypes 50 = .ok (.goto (-48), 3) := by decide +kernel
theorem V.dX8_checkTypes_53 : decode cX8_checkTypes 53 = .ok (.iconst 0, 1) := by decide +kernel
theorem V.dX8_checkTypes_54 : decode cX8_checkTypes 54 = .ok (.istore_n 1, 1) := by decide +kernel
theorem V.dX8_checkTypes_55 : decode cX8_checkTypes 55 = .ok (.iload_n 1, 1) := by decide +kernel
theorem V.dX8_checkTypes_56 : decode cX8_checkTypes 56 = .ok (.aload_n 0, 1) := by decide +kernel
theorem V.dX8_checkTypes_57 : decode cX8_checkTypes 57 = .ok (.getfield 57, 3) := by decide +kernel
theorem V.dX8_checkTypes_60 : decode cX8_checkTypes 60 = .ok (.getfield 96, 3) := by decide +kernel
theorem V.dX8_checkTypes_63 : decode cX8_checkTypes 63 = .ok (.invokevirtual 100, 3) := by decide +kernel
theorem V.dX8_checkTypes_66 : decode cX8_checkTypes 66 = .ok (.if_icmp .ge 35, 3) := by decide +kernel
theorem V.dX8_checkTypes_69 : decode cX8_checkTypes 69 = .ok (.aload_n 0, 1) := by decide +kernel
theorem V.dX8_checkTypes_70 : decode cX8_checkTypes 70 = .ok (.aload_n 0, 1) := by decide +kernel
theorem V.dX8_checkTypes_71 : decode cX8_checkTypes 71 = .ok (.aload_n 0, 1) := by decide +kernel
theorem V.dX8_checkTypes_72 : decode cX8_checkTypes 72 = .ok (.getfield 57, 3) := by decide +kernel
theorem V.dX8_checkTypes_75 : decode cX8_checkTypes 75 = .ok (.getfield 96, 3) := by decide +kernel
theorem V.dX8_checkTypes_78 : decode cX8_checkTypes 78 = .ok (.iload_n 1, 1) := by decide +kernel
theorem V.dX8_checkTypes_79 : decode cX8_checkTypes 79 = .ok (.invokevirtual 174, 3) := by decide +kernel
theorem V.dX8_checkTypes_82 : decode cX8_checkTypes 82 = .ok (.invokevirtual 201, 3) := by decide +kernel
theorem V.dX8_checkTypes_85 : decode cX8_checkTypes 85 = .ok (.bipush 20, 2) := by decide +kernel
theorem V.dX8_checkTypes_87 : decode cX8_checkTypes 87 = .ok (.aload_n 0, 1) := by decide +kernel
theorem V.dX8_checkTypes_88 : decode cX8_checkTypes 88 = .ok (.iconst 3, 1) := by decide +kernel
theorem V.dX8_checkTypes_89 : decode cX8_checkTypes 89 = .ok (.invokevirtual 128, 3) := by decide +kernel
theorem V.dX8_checkTypes_92 : decode cX8_checkTypes 92 = .ok (.invokevirtual 132, 3) := by decide +kernel
theorem V.dX8_checkTypes_95 : decode cX8_checkTypes 95 = .ok (.iinc 1 1, 3) := by decide +kernel
theorem V.dX8_checkTypes_98 : decode cX8_checkTypes 98 = .ok (.goto (-43), 3) := by decide +kernel
theorem V.dX8_checkTypes_101 : decode cX8_checkTypes 101 = .ok (.return_, 1) := by decide +kernel
theorem V.mdX8_191 : MD RX8 191 yX8_importCount cX8_importCount 1 (some .int) 0 := ⟨Or.inl q1635, q368, q1638, by decide, by decide, by decide +kernel⟩
theorem V.mdX8_194 : MD RX8 194 yX8_kindOf cX8_kindOf 2 (some .int) 1 := ⟨Or.inl q1639, q368, q1642, by decide, by decide, by decide +kernel⟩
theorem V.mdX8_197 : MD RX8 197 yX8_importCell cX8_importCell 3 (some .int) 2 := ⟨Or.inl q1643, q368, q1646, by decide, by decide, by decide +kernel⟩
theorem V.mdX8_201 : MD RX8 201 yX8_isType cX8_isType 2 (some .boolean) 1 := ⟨Or.inl q1647, q368, q1650, by decide, by decide, by decide +kernel⟩
/-! ModuleEngine$Loader.checkTypes()V -/
def V.Ldr_checkTypes_p55  : Nat → HS → Nat → Int32 → Option ((Nat ⊕ Unit) × HS)
  | 0, _, _, _ => none
  | n + 1, σ, x0, x1 =>
    ck (tg σ x0 = 9) <|
    ck (tg σ (gR σ x0 7) = 3) <|
    ck (tg σ (gR σ (gR σ x0 7) 4) = 4) <| cl (Row_size σ (gR σ (gR σ x0 7) 4) ) fun r2 σ1 =>
    if r2 ≤ x1 then (
      some (.inr (), σ1))
    else (
      ck (tg σ1 x0 = 9) <|
      ck (tg σ1 (gR σ1 x0 7) = 3) <|
      ck (tg σ1 (gR σ1 (gR σ1 x0 7) 4) = 4) <| cl (Row_at σ1 (gR σ1 (gR σ1 x0 7) 4) x1) fun r4 σ3 =>
      ck (tg σ3 x0 = 9) <| cl (Ldr_isType σ3 x0 r4) fun r6 σ5 =>
      ck (tg σ5 x0 = 9) <| cl (Ldr_section σ5 x0 (3 : Int32)) fun r8 σ7 =>
      ck (tg σ7 x0 = 9) <| clT (Ldr_need σ7 x0 r6 (20 : Int32) r8) fun _ σ9 =>
      bn (x1 + (1 : Int32)) fun y10 =>
      Ldr_checkTypes_p55 n σ9 x0 y10)
theorem V.gX8_checkTypes_p55 {X : CX}  : ∀ (n : Nat) (σ : HS) (x0 : Nat) (x1 : Int32), G X RX8 "checkTypes" cX8_checkTypes 2 none 8 130 (enX enV (cxz X)) 55 [(0, av x0), (1, iv x1)] [] σ (Ldr_checkTypes_p55 n σ x0 x1)
  | 0, σ, x0, x1 => by rw [Ldr_checkTypes_p55]; exact G.nul
  | n + 1, σ, x0, x1 => by
    rw [Ldr_checkTypes_p55]
    refine g_iload_n 1 1 dX8_checkTypes_55 rfl rfl ?_
    refine g_aload_n 0 0 dX8_checkTypes_56 rfl rfl ?_
    refine g_getR fdX8_57 dX8_checkTypes_57 ?_
    refine g_getR fdX8_96 dX8_checkTypes_60 ?_
    refine g_callV (fc := fun sς => Row_size sς (gR σ (gR σ x0 7) 4) ) (ci := 3) (as := []) rfl rfl rfl q1421 q1422 mdX8_100 (ctX3_size (gR σ (gR σ x0 7) 4) ) rfl (Nat.le_of_ble_eq_true rfl) (Nat.le_of_ble_eq_true rfl) (Nat.le_of_ble_eq_true rfl) pu_I dX8_checkTypes_63 (fun r2 σ1 => ?_)
    refine g_icmp_ge 101 dX8_checkTypes_66 (by decide) ?_ ?_
    · exact g_return rfl dX8_checkTypes_101
    · refine g_aload_n 0 0 dX8_checkTypes_69 rfl rfl ?_
      refine g_aload_n 0 0 dX8_checkTypes_70 rfl rfl ?_
      refine g_aload_n 0 0 dX8_checkTypes_71 rfl rfl ?_
      refine g_getR fdX8_57 dX8_checkTypes_72 ?_
      refine g_getR fdX8_96 dX8_checkTypes_75 ?_
      refine g_iload_n 1 1 dX8_checkTypes_78 rfl rfl ?_
      refine g_callV (fc := fun sς => Row_at sς (gR σ1 (gR σ1 x0 7) 4) x1) (ci := 3) (as := [iv x1]) rfl rfl rfl q1409 q1410 mdX8_174 (ctX3_at (gR σ1 (gR σ1 x0 7) 4) x1) rfl (Nat.le_of_ble_eq_true rfl) (Nat.le_of_ble_eq_true rfl) (Nat.le_of_ble_eq_true rfl) pu_I dX8_checkTypes_79 (fun r4 σ3 => ?_)
      refine g_callV (fc := fun sς => Ldr_isType sς x0 r4) (ci := 8) (as := [iv r4]) rfl rfl rfl q1649 qs52 mdX8_201 (ctX8_isType x0 r4) rfl (Nat.le_of_ble_eq_true rfl) (Nat.le_of_ble_eq_true rfl) (Nat.le_of_ble_eq_true rfl) pu_I dX8_checkTypes_82 (fun r6 σ5 => ?_)
      refine g_bipush (v := 20) dX8_checkTypes_85 (by decide) ?_
      refine g_aload_n 0 0 dX8_checkTypes_87 rfl rfl ?_
      refine g_iconst (v := 3) dX8_checkTypes_88 (by decide) ?_
      refine g_callV (fc := fun sς => Ldr_section sς x0 (3 : Int32)) (ci := 8) (as := [iv (3 : Int32)]) rfl rfl rfl q1569 qs38 mdX8_128 (ctX8_section x0 (3 : Int32)) rfl (Nat.le_of_ble_eq_true rfl) (Nat.le_of_ble_eq_true rfl) (Nat.le_of_ble_eq_true rfl) pu_I dX8_checkTypes_89 (fun r8 σ7 => ?_)
      refine g_callVT (fc := fun sς => Ldr_need sς x0 r6 (20 : Int32) r8) (ci := 8) (as := [iv r6, iv (20 : Int32), iv r8]) rfl rfl rfl q1590 qs42 q1588 mdX8_132 (ctX8_need x0 r6 (20 : Int32) r8) rfl (Nat.le_of_ble_eq_true rfl) (Nat.le_of_ble_eq_true rfl) (Nat.le_of_ble_eq_true rfl) pu_V (by decide) dX8_checkTypes_92 (fun _ σ9 => ?_)
      refine g_iincB (w := 1) 1 dX8_checkTypes_95 rfl (by decide) (by decide) (fun _ => rfl) (fun y10 => ?_)
      refine g_goto 55 dX8_checkTypes_98 (by decide) ?_
      refine G.sub [1, 0] rfl ?_
      exact gX8_checkTypes_p55 n _ _ _
def V.Ldr_checkTypes_p37 (rec2 : HS → Nat → Int32 → Option ((Nat ⊕ Unit) × HS)) (σ : HS) (x0 : Nat) (x1 : Int32) (s0 : Int32) (s1 : Nat) : Option ((Nat ⊕ Unit) × HS) :=
  ck (tg σ x0 = 9) <| cl (Ldr_section σ x0 (2 : Int32)) fun r2 σ1 =>
  ck (tg σ1 s1 = 9) <| clT (Ldr_need σ1 s1 s0 (20 : Int32) r2) fun _ σ3 =>
  bn (x1 + (1 : Int32)) fun y4 =>
  rec2 σ3 x0 y4
theorem V.gX8_checkTypes_p37 {X : CX} (rec2 : HS → Nat → Int32 → Option ((Nat ⊕ Unit) × HS)) (hrec2 : ∀ (σ : HS) (x0 : Nat) (x1 : Int32), G X RX8 "checkTypes" cX8_checkTypes 2 none 8 130 (enX enV (cxz X)) 2 [(0, av x0), (1, iv x1)] [] σ (rec2 σ x0 x1)) (σ : HS) (x0 : Nat) (x1 : Int32) (s0 : Int32) (s1 : Nat) : G X RX8 "checkTypes" cX8_checkTypes 2 none 8 130 (enX enV (cxz X)) 37 [(0, av x0), (1, iv x1)] [iv s0, av s1] σ (Ldr_checkTypes_p37 rec2 σ x0 x1 s0 s1) := by
  unfold Ldr_checkTypes_p37
  refine g_bipush (v := 20) dX8_checkTypes_37 (by decide) ?_
  refine g_aload_n 0 0 dX8_checkTypes_39 rfl rfl ?_
  refine g_iconst (v := 2) dX8_checkTypes_40 (by decide) ?_
  refine g_callV (fc := fun sς => Ldr_section sς x0 (2 : Int32)) (ci := 8) (as := [iv (2 : Int32)]) rfl rfl rfl q1569 qs38 mdX8_128 (ctX8_section x0 (2 : Int32)) rfl (Nat.le_of_ble_eq_true rfl) (Nat.le_of_ble_eq_true rfl) (Nat.le_of_ble_eq_true rfl) pu_I dX8_checkTypes_41 (fun r2 σ1 => ?_)
  refine g_callVT (fc := fun sς => Ldr_need sς s1 s0 (20 : Int32) r2) (ci := 8) (as := [iv s0, iv (20 : Int32), iv r2]) rfl rfl rfl q1590 qs42 q1588 mdX8_132 (ctX8_need s1 s0 (20 : Int32) r2) rfl (Nat.le_of_ble_eq_true rfl) (Nat.le_of_ble_eq_true rfl) (Nat.le_of_ble_eq_true rfl) pu_V (by decide) dX8_checkTypes_44 (fun _ σ3 => ?_)
  refine g_iincB (w := 1) 1 dX8_checkTypes_47 rfl (by decide) (by decide) (fun _ => rfl) (fun y4 => ?_)
  refine g_goto 2 dX8_checkTypes_50 (by decide) ?_
  refine G.sub [1, 0] rfl ?_
  exact hrec2 _ _ _
def V.Ldr_checkTypes_p32 (rec2 : HS → Nat → Int32 → Option ((Nat ⊕ Unit) × HS)) (σ : HS) (x0 : Nat) (x1 : Int32) (s0 : Nat) : Option ((Nat ⊕ Unit) × HS) :=
  Ldr_checkTypes_p37 rec2 σ x0 x1 (1 : Int32) s0
theorem V.gX8_checkTypes_p32 {X : CX} (rec2 : HS → Nat → Int32 → Option ((Nat ⊕ Unit) × HS)) (hrec2 : ∀ (σ : HS) (x0 : Nat) (x1 : Int32), G X RX8 "checkTypes" cX8_checkTypes 2 none 8 130 (enX enV (cxz X)) 2 [(0, av x0), (1, iv x1)] [] σ (rec2 σ x0 x1)) (σ : HS) (x0 : Nat) (x1 : Int32) (s0 : Nat) : G X RX8 "checkTypes" cX8_checkTypes 2 none 8 130 (enX enV (cxz X)) 32 [(0, av x0), (1, iv x1)] [av s0] σ (Ldr_checkTypes_p32 rec2 σ x0 x1 s0) := by
  unfold Ldr_checkTypes_p32
  refine g_iconst (v := 1) dX8_checkTypes_32 (by decide) ?_
  refine g_goto 37 dX8_checkTypes_33 (by decide) ?_
  exact gX8_checkTypes_p37 rec2 hrec2 _ _ _ _ _
def V.Ldr_checkTypes_p2  : Nat → HS → Nat → Int32 → Option ((Nat ⊕ Unit) × HS)
  | 0, _, _, _ => none
  | n + 1, σ, x0, x1 =>
    ck (tg σ x0 = 9) <| cl (Ldr_importCount σ x0 ) fun r2 σ1 =>
    if r2 ≤ x1 then (
      Ldr_checkTypes_p55 FU σ1 x0 (0 : Int32))
    else (
      ck (tg σ1 x0 = 9) <| cl (Ldr_kindOf σ1 x0 x1) fun r4 σ3 =>
      if r4 = 0 then (
        ck (tg σ3 x0 = 9) <| cl (Ldr_importCell σ3 x0 x1 (0 : Int32)) fun r6 σ5 =>
        ck (tg σ5 x0 = 9) <| cl (Ldr_isType σ5 x0 r6) fun r8 σ7 =>
        if r8 = 0 then (
          Ldr_checkTypes_p37 (Ldr_checkTypes_p2 n) σ7 x0 x1 (0 : Int32) x0)
        else (
          Ldr_checkTypes_p32 (Ldr_checkTypes_p2 n) σ7 x0 x1 x0))
      else (
        Ldr_checkTypes_p32 (Ldr_checkTypes_p2 n) σ3 x0 x1 x0))
theorem V.gX8_checkTypes_p2 {X : CX}  : ∀ (n : Nat) (σ : HS) (x0 : Nat) (x1 : Int32), G X RX8 "checkTypes" cX8_checkTypes 2 none 8 130 (enX enV (cxz X)) 2 [(0, av x0), (1, iv x1)] [] σ (Ldr_checkTypes_p2 n σ x0 x1)
  | 0, σ, x0, x1 => by rw [Ldr_checkTypes_p2]; exact G.nul
  | n + 1, σ, x0, x1 => by
    rw [Ldr_checkTypes_p2]
    refine g_iload_n 1 1 dX8_checkTypes_2 rfl rfl ?_
    refine g_aload_n 0 0 dX8_checkTypes_3 rfl rfl ?_
    refine g_callV (fc := fun sς => Ldr_importCount sς x0 ) (ci := 8) (as := []) rfl rfl rfl q1637 qs49 mdX8_191 (ctX8_importCount x0 ) rfl (Nat.le_of_ble_eq_true rfl) (Nat.le_of_ble_eq_true rfl) (Nat.le_of_ble_eq_true rfl) pu_I dX8_checkTypes_4 (fun r2 σ1 => ?_)
    refine g_icmp_ge 53 dX8_checkTypes_7 (by decide) ?_ ?_
    · refine g_iconst (v := 0) dX8_checkTypes_53 (by decide) ?_
      refine g_istore_n 1 dX8_checkTypes_54 rfl (by decide) rfl ?_
      refine G.sub [1, 0] rfl ?_
      exact gX8_checkTypes_p55 FU _ _ _
    · refine g_aload_n 0 0 dX8_checkTypes_10 rfl rfl ?_
      refine g_aload_n 0 0 dX8_checkTypes_11 rfl rfl ?_
      refine g_iload_n 1 1 dX8_checkTypes_12 rfl rfl ?_
      refine g_callV (fc := fun sς => Ldr_kindOf sς x0 x1) (ci := 8) (as := [iv x1]) rfl rfl rfl q1641 qs50 mdX8_194 (ctX8_kindOf x0 x1) rfl (Nat.le_of_ble_eq_true rfl) (Nat.le_of_ble_eq_true rfl) (Nat.le_of_ble_eq_true rfl) pu_I dX8_checkTypes_13 (fun r4 σ3 => ?_)
      refine g_if_ne 32 dX8_checkTypes_16 (by decide) ?_ ?_
      · exact gX8_checkTypes_p32 (Ldr_checkTypes_p2 n) (gX8_checkTypes_p2 n) _ _ _ _
      · refine g_aload_n 0 0 dX8_checkTypes_19 rfl rfl ?_
        refine g_aload_n 0 0 dX8_checkTypes_20 rfl rfl ?_
        refine g_iload_n 1 1 dX8_checkTypes_21 rfl rfl ?_
        refine g_iconst (v := 0) dX8_checkTypes_22 (by decide) ?_
        refine g_callV (fc := fun sς => Ldr_importCell sς x0 x1 (0 : Int32)) (ci := 8) (as := [iv x1, iv (0 : Int32)]) rfl rfl rfl q1645 qs51 mdX8_197 (ctX8_importCell x0 x1 (0 : Int32)) rfl (Nat.le_of_ble_eq_true rfl) (Nat.le_of_ble_eq_true rfl) (Nat.le_of_ble_eq_true rfl) pu_I dX8_checkTypes_23 (fun r6 σ5 => ?_)
        refine g_callV (fc := fun sς => Ldr_isType sς x0 r6) (ci := 8) (as := [iv r6]) rfl rfl rfl q1649 qs52 mdX8_201 (ctX8_isType x0 r6) rfl (Nat.le_of_ble_eq_true rfl) (Nat.le_of_ble_eq_true rfl) (Nat.le_of_ble_eq_true rfl) pu_I dX8_checkTypes_26 (fun r8 σ7 => ?_)
        refine g_if_eq 36 dX8_checkTypes_29 (by decide) ?_ ?_
        · refine g_iconst (v := 0) dX8_checkTypes_36 (by decide) ?_
          exact gX8_checkTypes_p37 (Ldr_checkTypes_p2 n) (gX8_checkTypes_p2 n) _ _ _ _ _
        · exact gX8_checkTypes_p32 (Ldr_checkTypes_p2 n) (gX8_checkTypes_p2 n) _ _ _ _
def V.Ldr_checkTypes (σ : HS) (x0 : Nat) : Option ((Nat ⊕ Unit) × HS) :=
  Ldr_checkTypes_p2 FU σ x0 (0 : Int32)
theorem V.ctX8_checkTypes (x0 : Nat) : Ct yX8_checkTypes  cX8_checkTypes 2 none 8 130 eXV [av x0] (fun σ => Ldr_checkTypes σ x0) := by
  refine Ct.of (own := RX8) (nm := "checkTypes") (desc := "()V") rfl (by decide) (Nat.le_of_ble_eq_true rfl) (by decide) (fun X σ => ?_)
  show G X RX8 "checkTypes" cX8_checkTypes 2 none 8 130 (enX enV (cxz X)) 0 [(0, av x0)] [] σ (Ldr_checkTypes σ x0)
  unfold Ldr_checkTypes
  refine g_iconst (v := 0) dX8_checkTypes_0 (by decide) ?_
  refine g_istore_n 1 dX8_checkTypes_1 rfl (by decide) rfl ?_
  refine G.sub [1, 0] rfl ?_
  exact gX8_checkTypes_p2 FU _ _ _
theorem V.dX8_isRange_0 : decode cX8_isRange 0 = .ok (.iload_n 3, 1) := by decide +kernel
theorem V.dX8_isRange_1 : decode cX8_isRange 1 = .ok (.ifCond .eq 15, 3) := by decide +kernel
theorem V.dX8_isRange_4 : decode cX8_isRange 4 = .ok (.iload_n 1, 1) := by decide +kernel
theorem V.dX8_isRange_5 : decode cX8_isRange 5 = .ok (.invokestatic 176, 3) := by decide +kernel
theorem V.dX8_isRange_8 : decode cX8_isRange 8 = .ok (.iload_n 2, 1) := by decide +kernel
theorem V.dX8_isRange_9 : decode cX8_isRange 9 = .ok (.invokestatic 176, 3) := by decide +kernel
theorem V.dX8_isRange_12 : decode cX8_isRange 12 = .ok (.lcmp, 1) := by decide +kernel
theorem V.dX8_isRange_13 : decode cX8_isRange 13 = .ok (.ifCond .gt 7, 3) := by decide +kernel
theorem V.dX8_isRange_16 : decode cX8_isRange 16 = .ok (.iconst 1, 1) := by decide +kernel
theorem V.dX8_isRange_17 : decode cX8_isRange 17 = .ok (.goto 4, 3) := by decide +kernel
theorem V.dX8_isRange_20 : decode cX8_isRange 20 = .ok (.iconst 0, 1) := by decide +kernel
theorem V.dX8_isRange_21 : decode cX8_isRange 21 = .ok (.istore 4, 2) := by decide +kernel
theorem V.dX8_isRange_23 : decode cX8_isRange 23 = .ok (.iload 4, 2) := by decide +kernel
theorem V.dX8_isRange_25 : decode cX8_isRange 25 = .ok (.ifCond .eq 37, 3) := by decide +kernel
theorem V.dX8_isRange_28 : decode cX8_isRange 28 = .ok (.iload_n 0, 1) := by decide +kernel
theorem V.dX8_isRange_29 : decode cX8_isRange 29 = .ok (.ifCond .eq 29, 3) := by decide +kernel
theorem V.dX8_isRange_32 : decode cX8_isRange 32 = .ok (.iload_n 1, 1) := by decide +kernel
theorem V.dX8_isRange_33 : decode cX8_isRange 33 = .ok (.invokestatic 176, 3) := by decide +kernel
theorem V.dX8_isRange_36 : decode cX8_isRange 36 = .ok (.ldc2_w 204, 3) := by decide +kernel
theorem V.dX8_isRange_39 : decode cX8_isRange 39 = .ok (.lcmp, 1) := by decide +kernel
theorem V.dX8_isRange_40 : decode cX8_isRange 40 = .ok (.ifCond .gt 22, 3) := by decide +kernel
theorem V.dX8_isRange_43 : decode cX8_isRange 43 = .ok (.iload_n 3, 1) := by decide +kernel
theorem V.dX8_isRange_44 : decode cX8_isRange 44 = .ok (.ifCond .eq 14, 3) := by decide +kernel
theorem V.dX8_isRange_47 : decode cX8_isRange 47 = .ok (.iload_n 2, 1) := by decide +kernel
theorem V.dX8_isRange_48 : decode cX8_isRange 48 = .ok (.invokestatic 176, 3) := by decide +kernel
theorem V.dX8_isRange_51 : decode cX8_isRange 51 = .ok (.ldc2_w 204, 3) := by decide +kernel
theorem V.dX8_isRange_54 : decode cX8_isRange 54 = .ok (.lcmp, 1) := by decide +kernel
theorem V.dX8_isRange_55 : decode cX8_isRange 55 = .ok (.ifCond .gt 7, 3) := by decide +kernel
theorem V.dX8_isRange_58 : decode cX8_isRange 58 = .ok (.iconst 1, 1) := by decide +kernel
theorem V.dX8_isRange_59 : decode cX8_isRange 59 = .ok (.goto 4, 3) := by decide +kernel
theorem V.dX8_isRange_62 : decode cX8_isRange 62 = .ok (.iconst 0, 1) := by decide +kernel
theorem V.dX8_isRange_63 : decode cX8_isRange 63 = .ok (.ireturn, 1) := by decide +kernel
/-! ModuleEngine$Loader.isRange(ZIII)Z -/
def V.Ldr_isRange_p58  (σ : HS)  : Option (Int32 × HS) :=
  some ((1 : Int32), σ)
theorem V.gX8_isRange_p58 {X : CX}  (σ : HS)  : G X RX8 "isRange" cX8_isRange 5 (some .boolean) 1 20 enI 58 [] [] σ (Ldr_isRange_p58 σ ) := by
  unfold Ldr_isRange_p58
  refine g_iconst (v := 1) dX8_isRange_58 (by decide) ?_
  refine g_goto 63 dX8_isRange_59 (by decide) ?_
  exact g_zreturn rfl (by decide +kernel) dX8_isRange_63
def V.Ldr_isRange_p21  (σ : HS) (x0 : Int32) (x1 : Int32) (x2 : Int32) (x3 : Int32) (s0 : Int32) : Option (Int32 × HS) :=
  if s0 = 0 then (
    some ((0 : Int32), σ))
  else (
    if x0 = 0 then (
      Ldr_isRange_p58 σ)
    else (
      cl (Mod_wide σ x1) fun r2 σ1 =>
      if (65536 : Int64) < r2 then (
        some ((0 : Int32), σ1))
      else (
        if x3 = 0 then (
          Ldr_isRange_p58 σ1)
        else (
          cl (Mod_wide σ1 x2) fun r4 σ3 =>
          if (65536 : Int64) < r4 then (
            some ((0 : Int32), σ3))
          else (
            Ldr_isRange_p58 σ3)))))
theorem V.gX8_isRange_p21 {X : CX}  (σ : HS) (x0 : Int32) (x1 : Int32) (x2 : Int32) (x3 : Int32) (s0 : Int32) : G X RX8 "isRange" cX8_isRange 5 (some .boolean) 1 20 enI 21 [(0, iv x0), (1, iv x1), (2, iv x2), (3, iv x3)] [iv s0] σ (Ldr_isRange_p21 σ x0 x1 x2 x3 s0) := by
  unfold Ldr_isRange_p21
  refine g_istore dX8_isRange_21 (by decide) rfl ?_
  refine g_iload 0 dX8_isRange_23 rfl ?_
  refine g_if_eq 62 dX8_isRange_25 (by decide) ?_ ?_
  · refine g_iconst (v := 0) dX8_isRange_62 (by decide) ?_
    exact g_zreturn rfl (by decide +kernel) dX8_isRange_63
  · refine g_iload_n 0 1 dX8_isRange_28 rfl rfl ?_
    refine g_if_eq 58 dX8_isRange_29 (by decide) ?_ ?_
    · refine G.sub [] rfl ?_
      exact gX8_isRange_p58 _
    · refine g_iload_n 1 2 dX8_isRange_32 rfl rfl ?_
      refine g_callS (fc := fun sς => Mod_wide sς x1) (as := [iv x1]) q1376 mdX8_176 (ctX2_wide x1) rfl (Nat.le_of_ble_eq_true rfl) (Nat.le_of_ble_eq_true rfl) (Nat.le_of_ble_eq_true rfl) pu_J dX8_isRange_33 (fun r2 σ1 => ?_)
      refine g_ldc2 q1658 dX8_isRange_36 ?_
      refine g_lcmp_gt 62 dX8_isRange_39 dX8_isRange_40 (by decide) ?_ ?_
      · refine g_iconst (v := 0) dX8_isRange_62 (by decide) ?_
        exact g_zreturn rfl (by decide +kernel) dX8_isRange_63
      · refine g_iload_n 3 4 dX8_isRange_43 rfl rfl ?_
        refine g_if_eq 58 dX8_isRange_44 (by decide) ?_ ?_
        · refine G.sub [] rfl ?_
          exact gX8_isRange_p58 _
        · refine g_iload_n 2 3 dX8_isRange_47 rfl rfl ?_
          refine g_callS (fc := fun sς => Mod_wide sς x2) (as := [iv x2]) q1376 mdX8_176 (ctX2_wide x2) rfl (Nat.le_of_ble_eq_true rfl) (Nat.le_of_ble_eq_true rfl) (Nat.le_of_ble_eq_true rfl) pu_J dX8_isRange_48 (fun r4 σ3 => ?_)
          refine g_ldc2 q1658 dX8_isRange_51 ?_
          refine g_lcmp_gt 62 dX8_isRange_54 dX8_isRange_55 (by decide) ?_ ?_
          · refine g_iconst (v := 0) dX8_isRange_62 (by decide) ?_
            exact g_zreturn rfl (by decide +kernel) dX8_isRange_63
          · refine G.sub [] rfl ?_
            exact gX8_isRange_p58 _
def V.Ldr_isRange_p16  (σ : HS) (x0 : Int32) (x1 : Int32) (x2 : Int32) (x3 : Int32) : Option (Int32 × HS) :=
  Ldr_isRange_p21 σ x0 x1 x2 x3 (1 : Int32)
theorem V.gX8_isRange_p16 {X : CX}  (σ : HS) (x0 : Int32) (x1 : Int32) (x2 : Int32) (x3 : Int32) : G X RX8 "isRange" cX8_isRange 5 (some .boolean) 1 20 enI 16 [(0, iv x0), (1, iv x1), (2, iv x2), (3, iv x3)] [] σ (Ldr_isRange_p16 σ x0 x1 x2 x3) := by
  unfold Ldr_isRange_p16
  refine g_iconst (v := 1) dX8_isRange_16 (by decide) ?_
  refine g_goto 21 dX8_isRange_17 (by decide) ?_
  exact gX8_isRange_p21 _ _ _ _ _ _
def V.Ldr_isRange (σ : HS) (x0 : Int32) (x1 : Int32) (x2 : Int32) (x3 : Int32) : Option (Int32 × HS) :=
  if x3 = 0 then (
    Ldr_isRange_p16 σ x0 x1 x2 x3)
  else (
    cl (Mod_wide σ x1) fun r2 σ1 =>
    cl (Mod_wide σ1 x2) fun r4 σ3 =>
    if r4 < r2 then (
      Ldr_isRange_p21 σ3 x0 x1 x2 x3 (0 : Int32))
    else (
      Ldr_isRange_p16 σ3 x0 x1 x2 x3))
theorem V.ctX8_isRange (x0 : Int32) (x1 : Int32) (x2 : Int32) (x3 : Int32) : Ct yX8_isRange  cX8_isRange 5 (some .boolean) 1 20 eI [iv x0, iv x1, iv x2, iv x3] (fun σ => Ldr_isRange σ x0 x1 x2 x3) := by
  refine Ct.of (own := RX8) (nm := "isRange") (desc := "(ZIII)Z") rfl (by decide) (Nat.le_of_ble_eq_true rfl) (by decide) (fun X σ => ?_)
  show G X RX8 "isRange" cX8_isRange 5 (some .boolean) 1 20 enI 0 [(0, iv x0), (1, iv x1), (2, iv x2), (3, iv x3)] [] σ (Ldr_isRange σ x0 x1 x2 x3)
  unfold Ldr_isRange
  refine g_iload_n 3 3 dX8_isRange_0 rfl rfl ?_
  refine g_if_eq 16 dX8_isRange_1 (by decide) ?_ ?_
  · exact gX8_isRange_p16 _ _ _ _ _
  · refine g_iload_n 1 1 dX8_isRange_4 rfl rfl ?_
    refine g_callS (fc := fun sς => Mod_wide sς x1) (as := [iv x1]) q1376 mdX8_176 (ctX2_wide x1) rfl (Nat.le_of_ble_eq_true rfl) (Nat.le_of_ble_eq_true rfl) (Nat.le_of_ble_eq_true rfl) pu_J dX8_isRange_5 (fun r2 σ1 => ?_)
    refine g_iload_n 2 2 dX8_isRange_8 rfl rfl ?_
    refine g_callS (fc := fun sς => Mod_wide sς x2) (as := [iv x2]) q1376 mdX8_176 (ctX2_wide x2) rfl (Nat.le_of_ble_eq_true rfl) (Nat.le_of_ble_eq_true rfl) (Nat.le_of_ble_eq_true rfl) pu_J dX8_isRange_9 (fun r4 σ3 => ?_)
    refine g_lcmp_gt 20 dX8_isRange_12 dX8_isRange_13 (by decide) ?_ ?_
    · refine g_iconst (v := 0) dX8_isRange_20 (by decide) ?_
      exact gX8_isRange_p21 _ _ _ _ _ _
    · exact gX8_isRange_p16 _ _ _ _ _
theorem V.dX8_checkRows_0 : decode cX8_checkRows 0 = .ok (.iconst 0, 1) := by decide +kernel
theorem V.dX8_checkRows_1 : decode cX8_checkRows 1 = .ok (.istore 4, 2) := by decide +kernel
theorem V.dX8_checkRows_3 : decode cX8_checkRows 3 = .ok (.iload 4, 2) := by decide +kernel
theorem V.dX8_checkRows_5 : decode cX8_checkRows 5 = .ok (.aload_n 1, 1) := by decide +kernel
theorem V.dX8_checkRows_6 : decode cX8_checkRows 6 = .ok (.invokevirtual 100, 3) := by decide +kernel
theorem V.dX8_checkRows_9 : decode cX8_checkRows 9 = .ok (.if_icmp .ge 48, 3) := by decide +kernel
theorem V.dX8_checkRows_12 : decode cX8_checkRows 12 = .ok (.aload_n 0, 1) := by decide +kernel
theorem V.dX8_checkRows_13 : decode cX8_checkRows 13 = .ok (.iload_n 2, 1) := by decide +kernel
theorem V.dX8_checkRows_14 : decode cX8_checkRows 14 = .ok (.aload_n 1, 1) := by decide +kernel
theorem V.dX8_checkRows_15 : decode cX8_checkRows 15 = .ok (.iload 4, 2) := by decide +kernel
theorem V.dX8_checkRows_17 : decode cX8_checkRows 17 = .ok (.iconst 1, 1) := by decide +kernel
theorem V.dX8_checkRows_18 : decode cX8_checkRows 18 = .ok (.iadd, 1) := by decide +kernel
theorem V.dX8_checkRows_19 : decode cX8_checkRows 19 = .ok (.invokevirtual 174, 3) := by decide +kernel
theorem V.dX8_checkRows_22 : decode cX8_checkRows 22 = .ok (.aload_n 1, 1) := by decide +kernel
theorem V.dX8_checkRows_23 : decode cX8_checkRows 23 = .ok (.iload 4, 2) := by decide +kernel
theorem V.dX8_checkRows_25 : decode cX8_checkRows 25 = .ok (.iconst 2, 1) := by decide +kernel
theorem V.dX8_checkRows_26 : decode cX8_checkRows 26 = .ok (.iadd, 1) := by decide +kernel
theorem V.dX8_checkRows_27 : decode cX8_checkRows 27 = .ok (.invokevirtual 174, 3) := by decide +kernel
theorem V.dX8_checkRows_30 : decode cX8_checkRows 30 = .ok (.aload_n 1, 1) := by decide +kernel
theorem V.dX8_checkRows_31 : decode cX8_checkRows 31 = .ok (.iload 4, 2) := by decide +kernel
theorem V.dX8_checkRows_33 : decode cX8_checkRows 33 = .ok (.iconst 3, 1) := by decide +kernel
theorem V.dX8_checkRows_34 : decode cX8_checkRows 34 = .ok (.iadd, 1) := by decide +kernel
theorem V.dX8_checkRows_35 : decode cX8_checkRows 35 = .ok (.invokevirtual 174, 3) := by decide +kernel
theorem V.dX8_checkRows_38 : decode cX8_checkRows 38 = .ok (.invokestatic 206, 3) := by decide +kernel
theorem V.dX8_checkRows_41 : decode cX8_checkRows 41 = .ok (.bipush 21, 2) := by decide +kernel
theorem V.dX8_checkRows_43 : decode cX8_checkRows 43 = .ok (.aload_n 0, 1) := by decide +kernel
theorem V.dX8_checkRows_44 : decode cX8_checkRows 44 = .ok (.iload_n 3, 1) := by decide +kernel
theorem V.dX8_checkRows_45 : decode cX8_checkRows 45 = .ok (.invokevirtual 128, 3) := by decide +kernel
theorem V.dX8_checkRows_48 : decode cX8_checkRows 48 = .ok (.invokevirtual 132, 3) := by decide +kernel
theorem V.dX8_checkRows_51 : decode cX8_checkRows 51 = .ok (.iinc 4 4, 3) := by decide +kernel
theorem V.dX8_checkRows_54 : decode cX8_checkRows 54 = .ok (.goto (-51), 3) := by decide +kernel
theorem V.dX8_checkRows_57 : decode cX8_checkRows 57 = .ok (.return_, 1) := by decide +kernel
theorem V.mdX8_206 : MD RX8 206 yX8_isRange cX8_isRange 5 (some .boolean) 4 := ⟨Or.inl q1655, q368, q1657, by decide, by decide, by decide +kernel⟩
/-! ModuleEngine$Loader.checkRows(LModuleEngine$Row;ZI)V -/
def V.Ldr_checkRows_p3  : Nat → HS → Nat → Nat → Int32 → Int32 → Int32 → Option ((Nat ⊕ Unit) × HS)
  | 0, _, _, _, _, _, _ => none
  | n + 1, σ, x0, x1, x2, x3, x4 =>
    ck (tg σ x1 = 4) <| cl (Row_size σ x1 ) fun r2 σ1 =>
    if r2 ≤ x4 then (
      some (.inr (), σ1))
    else (
      ck (tg σ1 x1 = 4) <| cl (Row_at σ1 x1 (x4 + (1 : Int32))) fun r4 σ3 =>
      ck (tg σ3 x1 = 4) <| cl (Row_at σ3 x1 (x4 + (2 : Int32))) fun r6 σ5 =>
      ck (tg σ5 x1 = 4) <| cl (Row_at σ5 x1 (x4 + (3 : Int32))) fun r8 σ7 =>
      cl (Ldr_isRange σ7 x2 r4 r6 r8) fun r10 σ9 =>
      ck (tg σ9 x0 = 9) <| cl (Ldr_section σ9 x0 x3) fun r12 σ11 =>
      ck (tg σ11 x0 = 9) <| clT (Ldr_need σ11 x0 r10 (21 : Int32) r12) fun _ σ13 =>
      bn (x4 + (4 : Int32)) fun y14 =>
      Ldr_checkRows_p3 n σ13 x0 x1 x2 x3 y14)
theorem V.gX8_checkRows_p3 {X : CX}  : ∀ (n : Nat) (σ : HS) (x0 : Nat) (x1 : Nat) (x2 : Int32) (x3 : Int32) (x4 : Int32), G X RX8 "checkRows" cX8_checkRows 5 none 8 130 (enX enV (cxz X)) 3 [(0, av x0), (1, av x1), (2, iv x2), (3, iv x3), (4, iv x4)] [] σ (Ldr_checkRows_p3 n σ x0 x1 x2 x3 x4)
  | 0, σ, x0, x1, x2, x3, x4 => by rw [Ldr_checkRows_p3]; exact G.nul
  | n + 1, σ, x0, x1, x2, x3, x4 => by
    rw [Ldr_checkRows_p3]
    refine g_iload 4 dX8_checkRows_3 rfl ?_
    refine g_aload_n 1 1 dX8_checkRows_5 rfl rfl ?_
    refine g_callV (fc := fun sς => Row_size sς x1 ) (ci := 3) (as := []) rfl rfl rfl q1421 q1422 mdX8_100 (ctX3_size x1 ) rfl (Nat.le_of_ble_eq_true rfl) (Nat.le_of_ble_eq_true rfl) (Nat.le_of_ble_eq_true rfl) pu_I dX8_checkRows_6 (fun r2 σ1 => ?_)
    refine g_icmp_ge 57 dX8_checkRows_9 (by decide) ?_ ?_
    · exact g_return rfl dX8_checkRows_57
    · refine g_aload_n 0 0 dX8_checkRows_12 rfl rfl ?_
      refine g_iload_n 2 2 dX8_checkRows_13 rfl rfl ?_
      refine g_aload_n 1 1 dX8_checkRows_14 rfl rfl ?_
      refine g_iload 4 dX8_checkRows_15 rfl ?_
      refine g_iconst (v := 1) dX8_checkRows_17 (by decide) ?_
      refine g_iadd dX8_checkRows_18 ?_
      refine g_callV (fc := fun sς => Row_at sς x1 (x4 + (1 : Int32))) (ci := 3) (as := [iv (x4 + (1 : Int32))]) rfl rfl rfl q1409 q1410 mdX8_174 (ctX3_at x1 (x4 + (1 : Int32))) rfl (Nat.le_of_ble_eq_true rfl) (Nat.le_of_ble_eq_true rfl) (Nat.le_of_ble_eq_true rfl) pu_I dX8_checkRows_19 (fun r4 σ3 => ?_)
      refine g_aload_n 1 1 dX8_checkRows_22 rfl rfl ?_
      refine g_iload 4 dX8_checkRows_23 rfl ?_
      refine g_iconst (v := 2) dX8_checkRows_25 (by decide) ?_
      refine g_iadd dX8_checkRows_26 ?_
      refine g_callV (fc := fun sς => Row_at sς x1 (x4 + (2 : Int32))) (ci := 3) (as := [iv (x4 + (2 : Int32))]) rfl rfl rfl q1409 q1410 mdX8_174 (ctX3_at x1 (x4 + (2 : Int32))) rfl (Nat.le_of_ble_eq_true rfl) (Nat.le_of_ble_eq_true rfl) (Nat.le_of_ble_eq_true rfl) pu_I dX8_checkRows_27 (fun r6 σ5 => ?_)
      refine g_aload_n 1 1 dX8_checkRows_30 rfl rfl ?_
      refine g_iload 4 dX8_checkRows_31 rfl ?_
      refine g_iconst (v := 3) dX8_checkRows_33 (by decide) ?_
      refine g_iadd dX8_checkRows_34 ?_
      refine g_callV (fc := fun sς => Row_at sς x1 (x4 + (3 : Int32))) (ci := 3) (as := [iv (x4 + (3 : Int32))]) rfl rfl rfl q1409 q1410 mdX8_174 (ctX3_at x1 (x4 + (3 : Int32))) rfl (Nat.le_of_ble_eq_true rfl) (Nat.le_of_ble_eq_true rfl) (Nat.le_of_ble_eq_true rfl) pu_I dX8_checkRows_35 (fun r8 σ7 => ?_)
      refine g_callS (fc := fun sς => Ldr_isRange sς x2 r4 r6 r8) (as := [iv x2, iv r4, iv r6, iv r8]) q1656 mdX8_206 (ctX8_isRange x2 r4 r6 r8) rfl (Nat.le_of_ble_eq_true rfl) (Nat.le_of_ble_eq_true rfl) (Nat.le_of_ble_eq_true rfl) pu_I dX8_checkRows_38 (fun r10 σ9 => ?_)
      refine g_bipush (v := 21) dX8_checkRows_41 (by decide) ?_
      refine g_aload_n 0 0 dX8_checkRows_43 rfl rfl ?_
      refine g_iload_n 3 3 dX8_checkRows_44 rfl rfl ?_
      refine g_callV (fc := fun sς => Ldr_section sς x0 x3) (ci := 8) (as := [iv x3]) rfl rfl rfl q1569 qs38 mdX8_128 (ctX8_section x0 x3) rfl (Nat.le_of_ble_eq_true rfl) (Nat.le_of_ble_eq_true rfl) (Nat.le_of_ble_eq_true rfl) pu_I dX8_checkRows_45 (fun r12 σ11 => ?_)
      refine g_callVT (fc := fun sς => Ldr_need sς x0 r10 (21 : Int32) r12) (ci := 8) (as := [iv r10, iv (21 : Int32), iv r12]) rfl rfl rfl q1590 qs42 q1588 mdX8_132 (ctX8_need x0 r10 (21 : Int32) r12) rfl (Nat.le_of_ble_eq_true rfl) (Nat.le_of_ble_eq_true rfl) (Nat.le_of_ble_eq_true rfl) pu_V (by decide) dX8_checkRows_48 (fun _ σ13 => ?_)
      refine g_iincB (w := 4) 4 dX8_checkRows_51 rfl (by decide) (by decide) (fun _ => rfl) (fun y14 => ?_)
      refine g_goto 3 dX8_checkRows_54 (by decide) ?_
      refine G.sub [1, 2, 3, 4, 0] rfl ?_
      exact gX8_checkRows_p3 n _ _ _ _ _ _
def V.Ldr_checkRows (σ : HS) (x0 : Nat) (x1 : Nat) (x2 : Int32) (x3 : Int32) : Option ((Nat ⊕ Unit) × HS) :=
  Ldr_checkRows_p3 FU σ x0 x1 x2 x3 (0 : Int32)
theorem V.ctX8_checkRows (x0 : Nat) (x1 : Nat) (x2 : Int32) (x3 : Int32) : Ct yX8_checkRows  cX8_checkRows 5 none 8 130 eXV [av x0, av x1, iv x2, iv x3] (fun σ => Ldr_checkRows σ x0 x1 x2 x3) := by
  refine Ct.of (own := RX8) (nm := "checkRows") (desc := "(LModuleEngine$Row;ZI)V") rfl (by decide) (Nat.le_of_ble_eq_true rfl) (by decide) (fun X σ => ?_)
  show G X RX8 "checkRows" cX8_checkRows 5 none 8 130 (enX enV (cxz X)) 0 [(0, av x0), (1, av x1), (2, iv x2), (3, iv x3)] [] σ (Ldr_checkRows σ x0 x1 x2 x3)
  unfold Ldr_checkRows
  refine g_iconst (v := 0) dX8_checkRows_0 (by decide) ?_
  refine g_istore dX8_checkRows_1 (by decide) rfl ?_
  refine G.sub [1, 2, 3, 4, 0] rfl ?_
  exact gX8_checkRows_p3 FU _ _ _ _ _ _
theorem V.dX8_imports_0 : decode cX8_imports 0 = .ok (.iconst 0, 1) := by decide +kernel
theorem V.dX8_imports_1 : decode cX8_imports 1 = .ok (.istore_n 2, 1) := by decide +kernel
theorem V.dX8_imports_2 : decode cX8_imports 2 = .ok (.iconst 0, 1) := by decide +kernel
theorem V.dX8_imports_3 : decode cX8_imports 3 = .ok (.istore_n 3, 1) := by decide +kernel
theorem V.dX8_imports_4 : decode cX8_imports 4 = .ok (.iload_n 3, 1) := by decide +kernel
theorem V.dX8_imports_5 : decode cX8_imports 5 = .ok (.aload_n 0, 1) := by decide +kernel
theorem V.dX8_imports_6 : decode cX8_imports 6 = .ok (.invokevirtual 191, 3) := by decide +kernel
theorem V.dX8_imports_9 : decode cX8_imports 9 = .ok (.if_icmp .ge 26, 3) := by decide +kernel
theorem V.dX8_imports_12 : decode cX8_imports 12 = .ok (.iload_n 2, 1) := by decide +kernel
theorem V.dX8_imports_13 : decode cX8_imports 13 = .ok (.aload_n 0, 1) := by decide +kernel
theorem V.dX8_imports_14 : decode cX8_imports 14 = .ok (.iload_n 3, 1) := by decide +kernel
theorem V.dX8_imports_15 : decode cX8_imports 15 = .ok (.invokevirtual 194, 3) := by decide +kernel
theorem V.dX8_imports_18 : decode cX8_imports 18 = .ok (.iload_n 1, 1) := by decide +kernel
theorem V.dX8_imports_19 : decode cX8_imports 19 = .ok (.if_icmp .ne 7, 3) := by decide +kernel
theorem V.dX8_imports_22 : decode cX8_imports 22 = .ok (.iconst 1, 1) := by decide +kernel
theorem V.dX8_imports_23 : decode cX8_imports 23 = .ok (.goto 4, 3) := by decide +kernel
theorem V.dX8_imports_26 : decode cX8_imports 26 = .ok (.iconst 0, 1) := by decide +kernel
theorem V.dX8_imports_27 : decode cX8_imports 27 = .ok (.iadd, 1) := by decide +kernel
theorem V.dX8_imports_28 : decode cX8_imports 28 = .ok (.istore_n 2, 1) := by decide +kernel
theorem V.dX8_imports_29 : decode cX8_imports 29 = .ok (.iinc 3 1, 3) := by decide +kernel
theorem V.dX8_imports_32 : decode cX8_imports 32 = .ok (.goto (-28), 3) := by decide +kernel
theorem V.dX8_imports_35 : decode cX8_imports 35 = .ok (.iload_n 2, 1) := by decide +kernel
theorem V.dX8_imports_36 : decode cX8_imports 36 = .ok (.ireturn, 1) := by decide +kernel
/-! ModuleEngine$Loader.imports(I)I -/
def V.Ldr_imports_p27 (rec4 : HS → Nat → Int32 → Int32 → Int32 → Option (Int32 × HS)) (σ : HS) (x0 : Nat) (x1 : Int32) (x3 : Int32) (s0 : Int32) (s1 : Int32) : Option (Int32 × HS) :=
  bn (s1 + s0) fun y1 =>
  bn (x3 + (1 : Int32)) fun y2 =>
  rec4 σ x0 x1 y1 y2
theorem V.gX8_imports_p27 {X : CX} (rec4 : HS → Nat → Int32 → Int32 → Int32 → Option (Int32 × HS)) (hrec4 : ∀ (σ : HS) (x0 : Nat) (x1 : Int32) (x2 : Int32) (x3 : Int32), G X RX8 "imports" cX8_imports 4 (some .int) 3 61 enI 4 [(0, av x0), (1, iv x1), (2, iv x2), (3, iv x3)] [] σ (rec4 σ x0 x1 x2 x3)) (σ : HS) (x0 : Nat) (x1 : Int32) (x3 : Int32) (s0 : Int32) (s1 : Int32) : G X RX8 "imports" cX8_imports 4 (some .int) 3 61 enI 27 [(0, av x0), (1, iv x1), (3, iv x3)] [iv s0, iv s1] σ (Ldr_imports_p27 rec4 σ x0 x1 x3 s0 s1) := by
  unfold Ldr_imports_p27
  refine g_iadd dX8_imports_27 ?_
  refine g_nmI (fun y1 => ?_)
  refine g_istore_n 2 dX8_imports_28 rfl (by decide) rfl ?_
  refine g_iincB (w := 1) 3 dX8_imports_29 rfl (by decide) (by decide) (fun _ => rfl) (fun y2 => ?_)
  refine g_goto 4 dX8_imports_32 (by decide) ?_
  refine G.sub [2, 3, 1, 0] rfl ?_
  exact hrec4 _ _ _ _ _
def V.Ldr_imports_p4  : Nat → HS → Nat → Int32 → Int32 → Int32 → Option (Int32 × HS)
  | 0, _, _, _, _, _ => none
  | n + 1, σ, x0, x1, x2, x3 =>
    ck (tg σ x0 = 9) <| cl (Ldr_importCount σ x0 ) fun r2 σ1 =>
    if r2 ≤ x3 then (
      some (x2, σ1))
    else (
      ck (tg σ1 x0 = 9) <| cl (Ldr_kindOf σ1 x0 x3) fun r4 σ3 =>
      if r4 = x1 then (
        Ldr_imports_p27 (Ldr_imports_p4 n) σ3 x0 x1 x3 (1 : Int32) x2)
      else (
        Ldr_imports_p27 (Ldr_imports_p4 n) σ3 x0 x1 x3 (0 : Int32) x2))
theorem V.gX8_imports_p4 {X : CX}  : ∀ (n : Nat) (σ : HS) (x0 : Nat) (x1 : Int32) (x2 : Int32) (x3 : Int32), G X RX8 "imports" cX8_imports 4 (some .int) 3 61 enI 4 [(0, av x0), (1, iv x1), (2, iv x2), (3, iv x3)] [] σ (Ldr_imports_p4 n σ x0 x1 x2 x3)
  | 0, σ, x0, x1, x2, x3 => by rw [Ldr_imports_p4]; exact G.nul
  | n + 1, σ, x0, x1, x2, x3 => by
    rw [Ldr_imports_p4]
    refine g_iload_n 3 3 dX8_imports_4 rfl rfl ?_
    refine g_aload_n 0 0 dX8_imports_5 rfl rfl ?_
    refine g_callV (fc := fun sς => Ldr_importCount sς x0 ) (ci := 8) (as := []) rfl rfl rfl q1637 qs49 mdX8_191 (ctX8_importCount x0 ) rfl (Nat.le_of_ble_eq_true rfl) (Nat.le_of_ble_eq_true rfl) (Nat.le_of_ble_eq_true rfl) pu_I dX8_imports_6 (fun r2 σ1 => ?_)
    refine g_icmp_ge 35 dX8_imports_9 (by decide) ?_ ?_
    · refine g_iload_n 2 2 dX8_imports_35 rfl rfl ?_
      exact g_ireturn rfl dX8_imports_36
    · refine g_iload_n 2 2 dX8_imports_12 rfl rfl ?_
      refine g_aload_n 0 0 dX8_imports_13 rfl rfl ?_
      refine g_iload_n 3 3 dX8_imports_14 rfl rfl ?_
      refine g_callV (fc := fun sς => Ldr_kindOf sς x0 x3) (ci := 8) (as := [iv x3]) rfl rfl rfl q1641 qs50 mdX8_194 (ctX8_kindOf x0 x3) rfl (Nat.le_of_ble_eq_true rfl) (Nat.le_of_ble_eq_true rfl) (Nat.le_of_ble_eq_true rfl) pu_I dX8_imports_15 (fun r4 σ3 => ?_)
      refine g_iload_n 1 1 dX8_imports_18 rfl rfl ?_
      refine g_icmp_ne 26 dX8_imports_19 (by decide) ?_ ?_
      · refine g_iconst (v := 0) dX8_imports_26 (by decide) ?_
        refine G.sub [0, 1, 3] rfl ?_
        exact gX8_imports_p27 (Ldr_imports_p4 n) (gX8_imports_p4 n) _ _ _ _ _ _
      · refine g_iconst (v := 1) dX8_imports_22 (by decide) ?_
        refine g_goto 27 dX8_imports_23 (by decide) ?_
        refine G.sub [0, 1, 3] rfl ?_
        exact gX8_imports_p27 (Ldr_imports_p4 n) (gX8_imports_p4 n) _ _ _ _ _ _
def V.Ldr_imports (σ : HS) (x0 : Nat) (x1 : Int32) : Option (Int32 × HS) :=
  Ldr_imports_p4 FU σ x0 x1 (0 : Int32) (0 : Int32)
theorem V.ctX8_imports (x0 : Nat) (x1 : Int32) : Ct yX8_imports  cX8_imports 4 (some .int) 3 61 eI [av x0, iv x1] (fun σ => Ldr_imports σ x0 x1) := by
  refine Ct.of (own := RX8) (nm := "imports") (desc := "(I)I") rfl (by decide) (Nat.le_of_ble_eq_true rfl) (by decide) (fun X σ => ?_)
  show G X RX8 "imports" cX8_imports 4 (some .int) 3 61 enI 0 [(0, av x0), (1, iv x1)] [] σ (Ldr_imports σ x0 x1)
  unfold Ldr_imports
  refine g_iconst (v := 0) dX8_imports_0 (by decide) ?_
  refine g_istore_n 2 dX8_imports_1 rfl (by decide) rfl ?_
  refine g_iconst (v := 0) dX8_imports_2 (by decide) ?_
  refine g_istore_n 3 dX8_imports_3 rfl (by decide) rfl ?_
  refine G.sub [2, 3, 1, 0] rfl ?_
  exact gX8_imports_p4 FU _ _ _ _ _
theorem V.dX8_checkLimits_0 : decode cX8_checkLimits 0 = .ok (.iconst 0, 1) := by decide +kernel
theorem V.dX8_checkLimits_1 : decode cX8_checkLimits 1 = .ok (.istore_n 1, 1) := by decide +kernel
theorem V.dX8_checkLimits_2 : decode cX8_checkLimits 2 = .ok (.iload_n 1, 1) := by decide +kernel
theorem V.dX8_checkLimits_3 : decode cX8_checkLimits 3 = .ok (.aload_n 0, 1) := by decide +kernel
theorem V.dX8_checkLimits_4 : decode cX8_checkLimits 4 = .ok (.invokevirtual 191, 3) := by decide +kernel
theorem V.dX8_checkLimits_7 : decode cX8_checkLimits 7 = .ok (.if_icmp .ge 91, 3) := by decide +kernel
theorem V.dX8_checkLimits_10 : decode cX8_checkLimits 10 = .ok (.aload_n 0, 1) := by decide +kernel
theorem V.dX8_checkLimits_11 : decode cX8_checkLimits 11 = .ok (.iload_n 1, 1) := by decide +kernel
theorem V.dX8_checkLimits_12 : decode cX8_checkLimits 12 = .ok (.invokevirtual 194, 3) := by decide +kernel
theorem V.dX8_checkLimits_15 : decode cX8_checkLimits 15 = .ok (.iconst 1, 1) := by decide +kernel
theorem V.dX8_checkLimits_16 : decode cX8_checkLimits 16 = .ok (.if_icmp .eq 12, 3) := by decide +kernel
theorem V.dX8_checkLimits_19 : decode cX8_checkLimits 19 = .ok (.aload_n 0, 1) := by decide +kernel
theorem V.dX8_checkLimits_20 : decode cX8_checkLimits 20 = .ok (.iload_n 1, 1) := by decide +kernel
theorem V.dX8_checkLimits_21 : decode cX8_checkLimits 21 = .ok (.invokevirtual 194, 3) := by decide +kernel
theorem V.dX8_checkLimits_24 : decode cX8_checkLimits 24 = .ok (.iconst 2, 1) := by decide +kernel
theorem V.dX8_checkLimits_25 : decode cX8_checkLimits 25 = .ok (.if_icmp .ne 7, 3) := by decide +kernel
theorem V.dX8_checkLimits_28 : decode cX8_checkLimits 28 = .ok (.iconst 1, 1) := by decide +kernel
theorem V.dX8_checkLimits_29 : decode cX8_checkLimits 29 = .ok (.goto 4, 3) := by decide +kernel
theorem V.dX8_checkLimits_32 : decode cX8_checkLimits 32 = .ok (.iconst 0, 1) := by decide +kernel
theorem V.dX8_checkLimits_33 : decode cX8_checkLimits 33 = .ok (.istore_n 2, 1) := by decide +kernel
theorem V.dX8_checkLimits_34 : decode cX8_checkLimits 34 = .ok (.aload_n 0, 1) := by decide +kernel
theorem V.dX8_checkLimits_35 : decode cX8_checkLimits 35 = .ok (.iload_n 2, 1) := by decide +kernel
theorem V.dX8_checkLimits_36 : decode cX8_checkLimits 36 = .ok (.ifCond .eq 41, 3) := by decide +kernel
theorem V.dX8_checkLimits_39 : decode cX8_checkLimits 39 = .ok (.aload_n 0, 1) := by decide +kernel
theorem V.dX8_checkLimits_40 : decode cX8_checkLimits 40 = .ok (.iload_n 1, 1) := by decide +kernel
theorem V.dX8_checkLimits_41 : decode cX8_checkLimits 41 = .ok (.invokevirtual 194, 3) := by decide +kernel
theorem V.dX8_checkLimits_44 : decode cX8_checkLimits 44 = .ok (.iconst 2, 1) := by decide +kernel
theorem V.dX8_checkLimits_45 : decode cX8_checkLimits 45 = .ok (.if_icmp .ne 7, 3) := by decide +kernel
theorem V.dX8_checkLimits_48 : decode cX8_checkLimits 48 = .ok (.iconst 1, 1) := by decide +kernel
theorem V.dX8_checkLimits_49 : decode cX8_checkLimits 49 = .ok (.goto 4, 3) := by decide +kernel
theorem V.dX8_checkLimits_52 : decode cX8_checkLimits 52 = .ok (.iconst 0, 1) := by decide +kernel
theorem V.dX8_checkLimits_53 : decode cX8_checkLimits 53 = .ok (.aload_n 0, 1) := by decide +kernel
theorem V.dX8_checkLimits_54 : decode cX8_checkLimits 54 = .ok (.iload_n 1, 1) := by decide +kernel
theorem V.dX8_checkLimits_55 : decode cX8_checkLimits 55 = .ok (.iconst 1, 1) := by decide +kernel
theorem V.dX8_checkLimits_56 : decode cX8_checkLimits 56 = .ok (.invokevirtual 197, 3) := by decide +kernel
theorem V.dX8_checkLimits_59 : decode cX8_checkLimits 59 = .ok (.aload_n 0, 1) := by decide +kernel
theorem V.dX8_checkLimits_60 : decode cX8_checkLimits 60 = .ok (.iload_n 1, 1) := by decide +kernel
theorem V.dX8_checkLimits_61 : decode cX8_checkLimits 61 = .ok (.iconst 2, 1) := by decide +kernel
theorem V.dX8_checkLimits_62 : decode cX8_checkLimits 62 = .ok (.invokevirtual 197, 3) := by decide +kernel
theorem V.dX8_checkLimits_65 : decode cX8_checkLimits 65 = .ok (.aload_n 0, 1) := by decide +kernel
theorem V.dX8_checkLimits_66 : decode cX8_checkLimits 66 = .ok (.iload_n 1, 1) := by decide +kernel
theorem V.dX8_checkLimits_67 : decode cX8_checkLimits 67 = .ok (.iconst 3, 1) := by decide +kernel
theorem V.dX8_checkLimits_68 : decode cX8_checkLimits 68 = .ok (.invokevirtual 197, 3) := by decide +kernel
theorem V.dX8_checkLimits_71 : decode cX8_checkLimits 71 = .ok (.invokestatic 206, 3) := by decide +kernel
theorem V.dX8_checkLimits_74 : decode cX8_checkLimits 74 = .ok (.ifCond .eq 7, 3) := by decide +kernel
theorem V.dX8_checkLimits_77 : decode cX8_checkLimits 77 = .ok (.iconst 1, 1) := by decide +kernel
theorem V.dX8_checkLimits_78 : decode cX8_checkLimits 78 = .ok (.goto 4, 3) := by decide +kernel
theorem V.dX8_checkLimits_81 : decode cX8_checkLimits 81 = .ok (.iconst 0, 1) := by decide +kernel
theorem V.dX8_checkLimits_82 : decode cX8_checkLimits 82 = .ok (.bipush 21, 2) := by decide +kernel
theorem V.dX8_checkLimits_84 : decode cX8_checkLimits 84 = .ok (.aload_n 0, 1) := by decide +kernel
theorem V.dX8_checkLimits_85 : decode cX8_checkLimits 85 = .ok (.iconst 2, 1) := by decide +kernel
theorem V.dX8_checkLimits_86 : decode cX8_checkLimits 86 = .ok (.invokevirtual 128, 3) := by decide +kernel
theorem V.dX8_checkLimits_89 : decode cX8_checkLimits 89 = .ok (.invokevirtual 132, 3) := by decide +kernel
theorem V.dX8_checkLimits_92 : decode cX8_checkLimits 92 = .ok (.iinc 1 1, 3) := by decide +kernel
theorem V.dX8_checkLimits_95 : decode cX8_checkLimits 95 = .ok (.goto (-93), 3) := by decide +kernel
theorem V.dX8_checkLimits_98 : decode cX8_checkLimits 98 = .ok (.aload_n 0, 1) := by decide +kernel
theorem V.dX8_checkLimits_99 : decode cX8_checkLimits 99 = .ok (.aload_n 0, 1) := by decide +kernel
theorem V.dX8_checkLimits_100 : decode cX8_checkLimits 100 = .ok (.getfield 57, 3) := by decide +kernel
theorem V.dX8_checkLimits_103 : decode cX8_checkLimits 103 = .ok (.getfield 143, 3) := by decide +kernel
theorem V.dX8_checkLimits_106 : decode cX8_checkLimits 106 = .ok (.iconst 0, 1) := by decide +kernel
theorem V.dX8_checkLimits_107 : decode cX8_checkLimits 107 = .ok (.iconst 4, 1) := by decide +kernel
theorem V.dX8_checkLimits_108 : decode cX8_checkLimits 108 = .ok (.invokevirtual 210, 3) := by decide +kernel
theorem V.dX8_checkLimits_111 : decode cX8_checkLimits 111 = .ok (.aload_n 0, 1) := by decide +kernel
theorem V.dX8_checkLimits_112 : decode cX8_checkLimits 112 = .ok (.aload_n 0, 1) := by decide +kernel
theorem V.dX8_checkLimits_113 : decode cX8_checkLimits 113 = .ok (.getfield 57, 3) := by decide +kernel
theorem V.dX8_checkLimits_116 : decode cX8_checkLimits 116 = .ok (.getfield 146, 3) := by decide +kernel
theorem V.dX8_checkLimits_119 : decode cX8_checkLimits 119 = .ok (.iconst 1, 1) := by decide +kernel
theorem V.dX8_checkLimits_120 : decode cX8_checkLimits 120 = .ok (.iconst 5, 1) := by decide +kernel
theorem V.dX8_checkLimits_121 : decode cX8_checkLimits 121 = .ok (.invokevirtual 210, 3) := by decide +kernel
theorem V.dX8_checkLimits_124 : decode cX8_checkLimits 124 = .ok (.aload_n 0, 1) := by decide +kernel
theorem V.dX8_checkLimits_125 : decode cX8_checkLimits 125 = .ok (.iconst 2, 1) := by decide +kernel
theorem V.dX8_checkLimits_126 : decode cX8_checkLimits 126 = .ok (.invokevirtual 214, 3) := by decide +kernel
theorem V.dX8_checkLimits_129 : decode cX8_checkLimits 129 = .ok (.aload_n 0, 1) := by decide +kernel
theorem V.dX8_checkLimits_130 : decode cX8_checkLimits 130 = .ok (.getfield 57, 3) := by decide +kernel
theorem V.dX8_checkLimits_133 : decode cX8_checkLimits 133 = .ok (.getfield 146, 3) := by decide +kernel
theorem V.dX8_checkLimits_136 : decode cX8_checkLimits 136 = .ok (.iconst 4, 1) := by decide +kernel
theorem V.dX8_checkLimits_137 : decode cX8_checkLimits 137 = .ok (.invokestatic 139, 3) := by decide +kernel
theorem V.dX8_checkLimits_140 : decode cX8_checkLimits 140 = .ok (.iadd, 1) := by decide +kernel
theorem V.dX8_checkLimits_141 : decode cX8_checkLimits 141 = .ok (.istore_n 1, 1) := by decide +kernel
theorem V.dX8_checkLimits_142 : decode cX8_checkLimits 142 = .ok (.aload_n 0, 1) := by decide +kernel
theorem V.dX8_checkLimits_143 : decode cX8_checkLimits 143 = .ok (.iload_n 1, 1) := by decide +kernel
theorem V.dX8_checkLimits_144 : decode cX8_checkLimits 144 = .ok (.iconst 2, 1) := by decide +kernel
theorem V.dX8_checkLimits_145 : decode cX8_checkLimits 145 = .ok (.if_icmp .ge 7, 3) := by decide +kernel
theorem V.dX8_checkLimits_148 : decode cX8_checkLimits 148 = .ok (.iconst 1, 1) := by decide +kernel
theorem V.dX8_checkLimits_149 : decode cX8_checkLimits 149 = .ok (.goto 4, 3) := by decide +kernel
theorem V.dX8_checkLimits_152 : decode cX8_checkLimits 152 = .ok (.iconst 0, 1) := by decide +kernel
theorem V.dX8_checkLimits_153 : decode cX8_checkLimits 153 = .ok (.bipush 22, 2) := by decide +kernel
theorem V.dX8_checkLimits_155 : decode cX8_checkLimits 155 = .ok (.aload_n 0, 1) := by decide +kernel
theorem V.dX8_checkLimits_156 : decode cX8_checkLimits 156 = .ok (.iconst 5, 1) := by decide +kernel
theorem V.dX8_checkLimits_157 : decode cX8_checkLimits 157 = .ok (.invokevirtual 128, 3) := by decide +kernel
theorem V.dX8_checkLimits_160 : decode cX8_checkLimits 160 = .ok (.ifCond .ge 11, 3) := by decide +kernel
theorem V.dX8_checkLimits_163 : decode cX8_checkLimits 163 = .ok (.aload_n 0, 1) := by decide +kernel
theorem V.dX8_checkLimits_164 : decode cX8_checkLimits 164 = .ok (.iconst 2, 1) := by decide +kernel
theorem V.dX8_checkLimits_165 : decode cX8_checkLimits 165 = .ok (.invokevirtual 128, 3) := by decide +kernel
theorem V.dX8_checkLimits_168 : decode cX8_checkLimits 168 = .ok (.goto 8, 3) := by decide +kernel
theorem V.dX8_checkLimits_171 : decode cX8_checkLimits 171 = .ok (.aload_n 0, 1) := by decide +kernel
theorem V.dX8_checkLimits_172 : decode cX8_checkLimits 172 = .ok (.iconst 5, 1) := by decide +kernel
theorem V.dX8_checkLimits_173 : decode cX8_checkLimits 173 = .ok (.invokevirtual 128, 3) := by decide +kernel
theorem V.dX8_checkLimits_176 : decode cX8_checkLimits 176 = .ok (.invokevirtual 132, 3) := by decide +kernel
theorem V.dX8_checkLimits_179 : decode cX8_checkLimits 179 = .ok (.return_, 1) := by decide +kernel
theorem V.mdX8_210 : MD RX8 210 yX8_checkRows cX8_checkRows 5 none 3 := ⟨Or.inl q1659, q368, q1662, by decide, by decide, by decide +kernel⟩
theorem V.mdX8_214 : MD RX8 214 yX8_imports cX8_imports 4 (some .int) 1 := ⟨Or.inl q1663, q368, q1666, by decide, by decide, by decide +kernel⟩
/-! ModuleEngine$Loader.checkLimits()V -/
def V.Ldr_checkLimits_p176  (σ : HS) (s0 : Int32) (s1 : Int32) (s2 : Int32) (s3 : Nat) : Option ((Nat ⊕ Unit) × HS) :=
  ck (tg σ s3 = 9) <| clT (Ldr_need σ s3 s2 s1 s0) fun _ σ1 =>
  some (.inr (), σ1)
theorem V.gX8_checkLimits_p176 {X : CX}  (σ : HS) (s0 : Int32) (s1 : Int32) (s2 : Int32) (s3 : Nat) : G X RX8 "checkLimits" cX8_checkLimits 3 none 9 154 (enX enV (cxz X)) 176 [] [iv s0, iv s1, iv s2, av s3] σ (Ldr_checkLimits_p176 σ s0 s1 s2 s3) := by
  unfold Ldr_checkLimits_p176
  refine g_callVT (fc := fun sς => Ldr_need sς s3 s2 s1 s0) (ci := 8) (as := [iv s2, iv s1, iv s0]) rfl rfl rfl q1590 qs42 q1588 mdX8_132 (ctX8_need s3 s2 s1 s0) rfl (Nat.le_of_ble_eq_true rfl) (Nat.le_of_ble_eq_true rfl) (Nat.le_of_ble_eq_true rfl) pu_V (by decide) dX8_checkLimits_176 (fun _ σ1 => ?_)
  exact g_return rfl dX8_checkLimits_179
def V.Ldr_checkLimits_p153  (σ : HS) (x0 : Nat) (s0 : Int32) (s1 : Nat) : Option ((Nat ⊕ Unit) × HS) :=
  ck (tg σ x0 = 9) <| cl (Ldr_section σ x0 (5 : Int32)) fun r2 σ1 =>
  if 0 ≤ r2 then (
    ck (tg σ1 x0 = 9) <| cl (Ldr_section σ1 x0 (5 : Int32)) fun r4 σ3 =>
    Ldr_checkLimits_p176 σ3 r4 (22 : Int32) s0 s1)
  else (
    ck (tg σ1 x0 = 9) <| cl (Ldr_section σ1 x0 (2 : Int32)) fun r6 σ5 =>
    Ldr_checkLimits_p176 σ5 r6 (22 : Int32) s0 s1)
theorem V.gX8_checkLimits_p153 {X : CX}  (σ : HS) (x0 : Nat) (s0 : Int32) (s1 : Nat) : G X RX8 "checkLimits" cX8_checkLimits 3 none 9 154 (enX enV (cxz X)) 153 [(0, av x0)] [iv s0, av s1] σ (Ldr_checkLimits_p153 σ x0 s0 s1) := by
  unfold Ldr_checkLimits_p153
  refine g_bipush (v := 22) dX8_checkLimits_153 (by decide) ?_
  refine g_aload_n 0 0 dX8_checkLimits_155 rfl rfl ?_
  refine g_iconst (v := 5) dX8_checkLimits_156 (by decide) ?_
  refine g_callV (fc := fun sς => Ldr_section sς x0 (5 : Int32)) (ci := 8) (as := [iv (5 : Int32)]) rfl rfl rfl q1569 qs38 mdX8_128 (ctX8_section x0 (5 : Int32)) rfl (Nat.le_of_ble_eq_true rfl) (Nat.le_of_ble_eq_true rfl) (Nat.le_of_ble_eq_true rfl) pu_I dX8_checkLimits_157 (fun r2 σ1 => ?_)
  refine g_if_ge 171 dX8_checkLimits_160 (by decide) ?_ ?_
  · refine g_aload_n 0 0 dX8_checkLimits_171 rfl rfl ?_
    refine g_iconst (v := 5) dX8_checkLimits_172 (by decide) ?_
    refine g_callV (fc := fun sς => Ldr_section sς x0 (5 : Int32)) (ci := 8) (as := [iv (5 : Int32)]) rfl rfl rfl q1569 qs38 mdX8_128 (ctX8_section x0 (5 : Int32)) rfl (Nat.le_of_ble_eq_true rfl) (Nat.le_of_ble_eq_true rfl) (Nat.le_of_ble_eq_true rfl) pu_I dX8_checkLimits_173 (fun r4 σ3 => ?_)
    refine G.sub [] rfl ?_
    exact gX8_checkLimits_p176 _ _ _ _ _
  · refine g_aload_n 0 0 dX8_checkLimits_163 rfl rfl ?_
    refine g_iconst (v := 2) dX8_checkLimits_164 (by decide) ?_
    refine g_callV (fc := fun sς => Ldr_section sς x0 (2 : Int32)) (ci := 8) (as := [iv (2 : Int32)]) rfl rfl rfl q1569 qs38 mdX8_128 (ctX8_section x0 (2 : Int32)) rfl (Nat.le_of_ble_eq_true rfl) (Nat.le_of_ble_eq_true rfl) (Nat.le_of_ble_eq_true rfl) pu_I dX8_checkLimits_165 (fun r6 σ5 => ?_)
    refine g_goto 176 dX8_checkLimits_168 (by decide) ?_
    refine G.sub [] rfl ?_
    exact gX8_checkLimits_p176 _ _ _ _ _
def V.Ldr_checkLimits_p82 (rec2 : HS → Nat → Int32 → Option ((Nat ⊕ Unit) × HS)) (σ : HS) (x0 : Nat) (x1 : Int32) (s0 : Int32) (s1 : Nat) : Option ((Nat ⊕ Unit) × HS) :=
  ck (tg σ x0 = 9) <| cl (Ldr_section σ x0 (2 : Int32)) fun r2 σ1 =>
  ck (tg σ1 s1 = 9) <| clT (Ldr_need σ1 s1 s0 (21 : Int32) r2) fun _ σ3 =>
  bn (x1 + (1 : Int32)) fun y4 =>
  rec2 σ3 x0 y4
theorem V.gX8_checkLimits_p82 {X : CX} (rec2 : HS → Nat → Int32 → Option ((Nat ⊕ Unit) × HS)) (hrec2 : ∀ (σ : HS) (x0 : Nat) (x1 : Int32), G X RX8 "checkLimits" cX8_checkLimits 3 none 9 154 (enX enV (cxz X)) 2 [(0, av x0), (1, iv x1)] [] σ (rec2 σ x0 x1)) (σ : HS) (x0 : Nat) (x1 : Int32) (s0 : Int32) (s1 : Nat) : G X RX8 "checkLimits" cX8_checkLimits 3 none 9 154 (enX enV (cxz X)) 82 [(0, av x0), (1, iv x1)] [iv s0, av s1] σ (Ldr_checkLimits_p82 rec2 σ x0 x1 s0 s1) := by
  unfold Ldr_checkLimits_p82
  refine g_bipush (v := 21) dX8_checkLimits_82 (by decide) ?_
  refine g_aload_n 0 0 dX8_checkLimits_84 rfl rfl ?_
  refine g_iconst (v := 2) dX8_checkLimits_85 (by decide) ?_
  refine g_callV (fc := fun sς => Ldr_section sς x0 (2 : Int32)) (ci := 8) (as := [iv (2 : Int32)]) rfl rfl rfl q1569 qs38 mdX8_128 (ctX8_section x0 (2 : Int32)) rfl (Nat.le_of_ble_eq_true rfl) (Nat.le_of_ble_eq_true rfl) (Nat.le_of_ble_eq_true rfl) pu_I dX8_checkLimits_86 (fun r2 σ1 => ?_)
  refine g_callVT (fc := fun sς => Ldr_need sς s1 s0 (21 : Int32) r2) (ci := 8) (as := [iv s0, iv (21 : Int32), iv r2]) rfl rfl rfl q1590 qs42 q1588 mdX8_132 (ctX8_need s1 s0 (21 : Int32) r2) rfl (Nat.le_of_ble_eq_true rfl) (Nat.le_of_ble_eq_true rfl) (Nat.le_of_ble_eq_true rfl) pu_V (by decide) dX8_checkLimits_89 (fun _ σ3 => ?_)
  refine g_iincB (w := 1) 1 dX8_checkLimits_92 rfl (by decide) (by decide) (fun _ => rfl) (fun y4 => ?_)
  refine g_goto 2 dX8_checkLimits_95 (by decide) ?_
  refine G.sub [1, 0] rfl ?_
  exact hrec2 _ _ _
def V.Ldr_checkLimits_p77 (rec2 : HS → Nat → Int32 → Option ((Nat ⊕ Unit) × HS)) (σ : HS) (x0 : Nat) (x1 : Int32) (s0 : Nat) : Option ((Nat ⊕ Unit) × HS) :=
  Ldr_checkLimits_p82 rec2 σ x0 x1 (1 : Int32) s0
theorem V.gX8_checkLimits_p77 {X : CX} (rec2 : HS → Nat → Int32 → Option ((Nat ⊕ Unit) × HS)) (hrec2 : ∀ (σ : HS) (x0 : Nat) (x1 : Int32), G X RX8 "checkLimits" cX8_checkLimits 3 none 9 154 (enX enV (cxz X)) 2 [(0, av x0), (1, iv x1)] [] σ (rec2 σ x0 x1)) (σ : HS) (x0 : Nat) (x1 : Int32) (s0 : Nat) : G X RX8 "checkLimits" cX8_checkLimits 3 none 9 154 (enX enV (cxz X)) 77 [(0, av x0), (1, iv x1)] [av s0] σ (Ldr_checkLimits_p77 rec2 σ x0 x1 s0) := by
  unfold Ldr_checkLimits_p77
  refine g_iconst (v := 1) dX8_checkLimits_77 (by decide) ?_
  refine g_goto 82 dX8_checkLimits_78 (by decide) ?_
  exact gX8_checkLimits_p82 rec2 hrec2 _ _ _ _ _
def V.Ldr_checkLimits_p53 (rec2 : HS → Nat → Int32 → Option ((Nat ⊕ Unit) × HS)) (σ : HS) (x0 : Nat) (x1 : Int32) (s0 : Int32) (s1 : Nat) : Option ((Nat ⊕ Unit) × HS) :=
  ck (tg σ x0 = 9) <| cl (Ldr_importCell σ x0 x1 (1 : Int32)) fun r2 σ1 =>
  ck (tg σ1 x0 = 9) <| cl (Ldr_importCell σ1 x0 x1 (2 : Int32)) fun r4 σ3 =>
  ck (tg σ3 x0 = 9) <| cl (Ldr_importCell σ3 x0 x1 (3 : Int32)) fun r6 σ5 =>
  cl (Ldr_isRange σ5 s0 r2 r4 r6) fun r8 σ7 =>
  if r8 = 0 then (
    Ldr_checkLimits_p82 rec2 σ7 x0 x1 (0 : Int32) s1)
  else (
    Ldr_checkLimits_p77 rec2 σ7 x0 x1 s1)
theorem V.gX8_checkLimits_p53 {X : CX} (rec2 : HS → Nat → Int32 → Option ((Nat ⊕ Unit) × HS)) (hrec2 : ∀ (σ : HS) (x0 : Nat) (x1 : Int32), G X RX8 "checkLimits" cX8_checkLimits 3 none 9 154 (enX enV (cxz X)) 2 [(0, av x0), (1, iv x1)] [] σ (rec2 σ x0 x1)) (σ : HS) (x0 : Nat) (x1 : Int32) (s0 : Int32) (s1 : Nat) : G X RX8 "checkLimits" cX8_checkLimits 3 none 9 154 (enX enV (cxz X)) 53 [(0, av x0), (1, iv x1)] [iv s0, av s1] σ (Ldr_checkLimits_p53 rec2 σ x0 x1 s0 s1) := by
  unfold Ldr_checkLimits_p53
  refine g_aload_n 0 0 dX8_checkLimits_53 rfl rfl ?_
  refine g_iload_n 1 1 dX8_checkLimits_54 rfl rfl ?_
  refine g_iconst (v := 1) dX8_checkLimits_55 (by decide) ?_
  refine g_callV (fc := fun sς => Ldr_importCell sς x0 x1 (1 : Int32)) (ci := 8) (as := [iv x1, iv (1 : Int32)]) rfl rfl rfl q1645 qs51 mdX8_197 (ctX8_importCell x0 x1 (1 : Int32)) rfl (Nat.le_of_ble_eq_true rfl) (Nat.le_of_ble_eq_true rfl) (Nat.le_of_ble_eq_true rfl) pu_I dX8_checkLimits_56 (fun r2 σ1 => ?_)
  refine g_aload_n 0 0 dX8_checkLimits_59 rfl rfl ?_
  refine g_iload_n 1 1 dX8_checkLimits_60 rfl rfl ?_
  refine g_iconst (v := 2) dX8_checkLimits_61 (by decide) ?_
  refine g_callV (fc := fun sς => Ldr_importCell sς x0 x1 (2 : Int32)) (ci := 8) (as := [iv x1, iv (2 : Int32)]) rfl rfl rfl q1645 qs51 mdX8_197 (ctX8_importCell x0 x1 (2 : Int32)) rfl (Nat.le_of_ble_eq_true rfl) (Nat.le_of_ble_eq_true rfl) (Nat.le_of_ble_eq_true rfl) pu_I dX8_checkLimits_62 (fun r4 σ3 => ?_)
  refine g_aload_n 0 0 dX8_checkLimits_65 rfl rfl ?_
  refine g_iload_n 1 1 dX8_checkLimits_66 rfl rfl ?_
  refine g_iconst (v := 3) dX8_checkLimits_67 (by decide) ?_
  refine g_callV (fc := fun sς => Ldr_importCell sς x0 x1 (3 : Int32)) (ci := 8) (as := [iv x1, iv (3 : Int32)]) rfl rfl rfl q1645 qs51 mdX8_197 (ctX8_importCell x0 x1 (3 : Int32)) rfl (Nat.le_of_ble_eq_true rfl) (Nat.le_of_ble_eq_true rfl) (Nat.le_of_ble_eq_true rfl) pu_I dX8_checkLimits_68 (fun r6 σ5 => ?_)
  refine g_callS (fc := fun sς => Ldr_isRange sς s0 r2 r4 r6) (as := [iv s0, iv r2, iv r4, iv r6]) q1656 mdX8_206 (ctX8_isRange s0 r2 r4 r6) rfl (Nat.le_of_ble_eq_true rfl) (Nat.le_of_ble_eq_true rfl) (Nat.le_of_ble_eq_true rfl) pu_I dX8_checkLimits_71 (fun r8 σ7 => ?_)
  refine g_if_eq 81 dX8_checkLimits_74 (by decide) ?_ ?_
  · refine g_iconst (v := 0) dX8_checkLimits_81 (by decide) ?_
    exact gX8_checkLimits_p82 rec2 hrec2 _ _ _ _ _
  · exact gX8_checkLimits_p77 rec2 hrec2 _ _ _ _
def V.Ldr_checkLimits_p33 (rec2 : HS → Nat → Int32 → Option ((Nat ⊕ Unit) × HS)) (σ : HS) (x0 : Nat) (x1 : Int32) (s0 : Int32) : Option ((Nat ⊕ Unit) × HS) :=
  if s0 = 0 then (
    Ldr_checkLimits_p77 rec2 σ x0 x1 x0)
  else (
    ck (tg σ x0 = 9) <| cl (Ldr_kindOf σ x0 x1) fun r2 σ1 =>
    if r2 = (2 : Int32) then (
      Ldr_checkLimits_p53 rec2 σ1 x0 x1 (1 : Int32) x0)
    else (
      Ldr_checkLimits_p53 rec2 σ1 x0 x1 (0 : Int32) x0))
theorem V.gX8_checkLimits_p33 {X : CX} (rec2 : HS → Nat → Int32 → Option ((Nat ⊕ Unit) × HS)) (hrec2 : ∀ (σ : HS) (x0 : Nat) (x1 : Int32), G X RX8 "checkLimits" cX8_checkLimits 3 none 9 154 (enX enV (cxz X)) 2 [(0, av x0), (1, iv x1)] [] σ (rec2 σ x0 x1)) (σ : HS) (x0 : Nat) (x1 : Int32) (s0 : Int32) : G X RX8 "checkLimits" cX8_checkLimits 3 none 9 154 (enX enV (cxz X)) 33 [(0, av x0), (1, iv x1)] [iv s0] σ (Ldr_checkLimits_p33 rec2 σ x0 x1 s0) := by
  unfold Ldr_checkLimits_p33
  refine g_istore_n 2 dX8_checkLimits_33 rfl (by decide) rfl ?_
  refine g_aload_n 0 1 dX8_checkLimits_34 rfl rfl ?_
  refine g_iload_n 2 0 dX8_checkLimits_35 rfl rfl ?_
  refine g_if_eq 77 dX8_checkLimits_36 (by decide) ?_ ?_
  · refine G.sub [1, 2] rfl ?_
    exact gX8_checkLimits_p77 rec2 hrec2 _ _ _ _
  · refine g_aload_n 0 1 dX8_checkLimits_39 rfl rfl ?_
    refine g_iload_n 1 2 dX8_checkLimits_40 rfl rfl ?_
    refine g_callV (fc := fun sς => Ldr_kindOf sς x0 x1) (ci := 8) (as := [iv x1]) rfl rfl rfl q1641 qs50 mdX8_194 (ctX8_kindOf x0 x1) rfl (Nat.le_of_ble_eq_true rfl) (Nat.le_of_ble_eq_true rfl) (Nat.le_of_ble_eq_true rfl) pu_I dX8_checkLimits_41 (fun r2 σ1 => ?_)
    refine g_iconst (v := 2) dX8_checkLimits_44 (by decide) ?_
    refine g_icmp_ne 52 dX8_checkLimits_45 (by decide) ?_ ?_
    · refine g_iconst (v := 0) dX8_checkLimits_52 (by decide) ?_
      refine G.sub [1, 2] rfl ?_
      exact gX8_checkLimits_p53 rec2 hrec2 _ _ _ _ _
    · refine g_iconst (v := 1) dX8_checkLimits_48 (by decide) ?_
      refine g_goto 53 dX8_checkLimits_49 (by decide) ?_
      refine G.sub [1, 2] rfl ?_
      exact gX8_checkLimits_p53 rec2 hrec2 _ _ _ _ _
def V.Ldr_checkLimits_p28 (rec2 : HS → Nat → Int32 → Option ((Nat ⊕ Unit) × HS)) (σ : HS) (x0 : Nat) (x1 : Int32) : Option ((Nat ⊕ Unit) × HS) :=
  Ldr_checkLimits_p33 rec2 σ x0 x1 (1 : Int32)
theorem V.gX8_checkLimits_p28 {X : CX} (rec2 : HS → Nat → Int32 → Option ((Nat ⊕ Unit) × HS)) (hrec2 : ∀ (σ : HS) (x0 : Nat) (x1 : Int32), G X RX8 "checkLimits" cX8_checkLimits 3 none 9 154 (enX enV (cxz X)) 2 [(0, av x0), (1, iv x1)] [] σ (rec2 σ x0 x1)) (σ : HS) (x0 : Nat) (x1 : Int32) : G X RX8 "checkLimits" cX8_checkLimits 3 none 9 154 (enX enV (cxz X)) 28 [(0, av x0), (1, iv x1)] [] σ (Ldr_checkLimits_p28 rec2 σ x0 x1) := by
  unfold Ldr_checkLimits_p28
  refine g_iconst (v := 1) dX8_checkLimits_28 (by decide) ?_
  refine g_goto 33 dX8_checkLimits_29 (by decide) ?_
  exact gX8_checkLimits_p33 rec2 hrec2 _ _ _ _
def V.Ldr_checkLimits_p2  : Nat → HS → Nat → Int32 → Option ((Nat ⊕ Unit) × HS)
  | 0, _, _, _ => none
  | n + 1, σ, x0, x1 =>
    ck (tg σ x0 = 9) <| cl (Ldr_importCount σ x0 ) fun r2 σ1 =>
    if r2 ≤ x1 then (
      ck (tg σ1 x0 = 9) <|
      ck (tg σ1 (gR σ1 x0 7) = 3) <|
      ck (tg σ1 x0 = 9) <| clT (Ldr_checkRows σ1 x0 (gR σ1 (gR σ1 x0 7) 5) (0 : Int32) (4 : Int32)) fun _ σ3 =>
      ck (tg σ3 x0 = 9) <|
      ck (tg σ3 (gR σ3 x0 7) = 3) <|
      ck (tg σ3 x0 = 9) <| clT (Ldr_checkRows σ3 x0 (gR σ3 (gR σ3 x0 7) 6) (1 : Int32) (5 : Int32)) fun _ σ4 =>
      ck (tg σ4 x0 = 9) <| cl (Ldr_imports σ4 x0 (2 : Int32)) fun r6 σ5 =>
      ck (tg σ5 x0 = 9) <|
      ck (tg σ5 (gR σ5 x0 7) = 3) <|
      cl (Ldr_count σ5 (gR σ5 (gR σ5 x0 7) 6) (4 : Int32)) fun r8 σ7 =>
      bn (r6 + r8) fun y9 =>
      if (2 : Int32) ≤ y9 then (
        Ldr_checkLimits_p153 σ7 x0 (0 : Int32) x0)
      else (
        Ldr_checkLimits_p153 σ7 x0 (1 : Int32) x0))
    else (
      ck (tg σ1 x0 = 9) <| cl (Ldr_kindOf σ1 x0 x1) fun r11 σ10 =>
      if r11 = (1 : Int32) then (
        Ldr_checkLimits_p28 (Ldr_checkLimits_p2 n) σ10 x0 x1)
      else (
        ck (tg σ10 x0 = 9) <| cl (Ldr_kindOf σ10 x0 x1) fun r13 σ12 =>
        if r13 = (2 : Int32) then (
          Ldr_checkLimits_p28 (Ldr_checkLimits_p2 n) σ12 x0 x1)
        else (
          Ldr_checkLimits_p33 (Ldr_checkLimits_p2 n) σ12 x0 x1 (0 : Int32))))
theorem V.gX8_checkLimits_p2 {X : CX}  : ∀ (n : Nat) (σ : HS) (x0 : Nat) (x1 : Int32), G X RX8 "checkLimits" cX8_checkLimits 3 none 9 154 (enX enV (cxz X)) 2 [(0, av x0), (1, iv x1)] [] σ (Ldr_checkLimits_p2 n σ x0 x1)
  | 0, σ, x0, x1 => by rw [Ldr_checkLimits_p2]; exact G.nul
  | n + 1, σ, x0, x1 => by
    rw [Ldr_checkLimits_p2]
    refine g_iload_n 1 1 dX8_checkLimits_2 rfl rfl ?_
    refine g_aload_n 0 0 dX8_checkLimits_3 rfl rfl ?_
    refine g_callV (fc := fun sς => Ldr_importCount sς x0 ) (ci := 8) (as := []) rfl rfl rfl q1637 qs49 mdX8_191 (ctX8_importCount x0 ) rfl (Nat.le_of_ble_eq_true rfl) (Nat.le_of_ble_eq_true rfl) (Nat.le_of_ble_eq_true rfl) pu_I dX8_checkLimits_4 (fun r2 σ1 => ?_)
    refine g_icmp_ge 98 dX8_checkLimits_7 (by decide) ?_ ?_
    · refine g_aload_n 0 0 dX8_checkLimits_98 rfl rfl ?_
      refine g_aload_n 0 0 dX8_checkLimits_99 rfl rfl ?_
      refine g_getR fdX8_57 dX8_checkLimits_100 ?_
      refine g_getR fdX8_143 dX8_checkLimits_103 ?_
      refine g_iconst (v := 0) dX8_checkLimits_106 (by decide) ?_
      refine g_iconst (v := 4) dX8_checkLimits_107 (by decide) ?_
      refine g_callVT (fc := fun sς => Ldr_checkRows sς x0 (gR σ1 (gR σ1 x0 7) 5) (0 : Int32) (4 : Int32)) (ci := 8) (as := [av (gR σ1 (gR σ1 x0 7) 5), iv (0 : Int32), iv (4 : Int32)]) rfl rfl rfl q1661 qs54 q1659 mdX8_210 (ctX8_checkRows x0 (gR σ1 (gR σ1 x0 7) 5) (0 : Int32) (4 : Int32)) rfl (Nat.le_of_ble_eq_true rfl) (Nat.le_of_ble_eq_true rfl) (Nat.le_of_ble_eq_true rfl) pu_V (by decide) dX8_checkLimits_108 (fun _ σ3 => ?_)
      refine g_aload_n 0 0 dX8_checkLimits_111 rfl rfl ?_
      refine g_aload_n 0 0 dX8_checkLimits_112 rfl rfl ?_
      refine g_getR fdX8_57 dX8_checkLimits_113 ?_
      refine g_getR fdX8_146 dX8_checkLimits_116 ?_
      refine g_iconst (v := 1) dX8_checkLimits_119 (by decide) ?_
      refine g_iconst (v := 5) dX8_checkLimits_120 (by decide) ?_
      refine g_callVT (fc := fun sς => Ldr_checkRows sς x0 (gR σ3 (gR σ3 x0 7) 6) (1 : Int32) (5 : Int32)) (ci := 8) (as := [av (gR σ3 (gR σ3 x0 7) 6), iv (1 : Int32), iv (5 : Int32)]) rfl rfl rfl q1661 qs54 q1659 mdX8_210 (ctX8_checkRows x0 (gR σ3 (gR σ3 x0 7) 6) (1 : Int32) (5 : Int32)) rfl (Nat.le_of_ble_eq_true rfl) (Nat.le_of_ble_eq_true rfl) (Nat.le_of_ble_eq_true rfl) pu_V (by decide) dX8_checkLimits_121 (fun _ σ4 => ?_)
      refine g_aload_n 0 0 dX8_checkLimits_124 rfl rfl ?_
      refine g_iconst (v := 2) dX8_checkLimits_125 (by decide) ?_
      refine g_callV (fc := fun sς => Ldr_imports sς x0 (2 : Int32)) (ci := 8) (as := [iv (2 : Int32)]) rfl rfl rfl q1665 qs55 mdX8_214 (ctX8_imports x0 (2 : Int32)) rfl (Nat.le_of_ble_eq_true rfl) (Nat.le_of_ble_eq_true rfl) (Nat.le_of_ble_eq_true rfl) pu_I dX8_checkLimits_126 (fun r6 σ5 => ?_)
      refine g_aload_n 0 0 dX8_checkLimits_129 rfl rfl ?_
      refine g_getR fdX8_57 dX8_checkLimits_130 ?_
      refine g_getR fdX8_146 dX8_checkLimits_133 ?_
      refine g_iconst (v := 4) dX8_checkLimits_136 (by decide) ?_
      refine g_callS (fc := fun sς => Ldr_count sς (gR σ5 (gR σ5 x0 7) 6) (4 : Int32)) (as := [av (gR σ5 (gR σ5 x0 7) 6), iv (4 : Int32)]) q1598 mdX8_139 (ctX8_count (gR σ5 (gR σ5 x0 7) 6) (4 : Int32)) rfl (Nat.le_of_ble_eq_true rfl) (Nat.le_of_ble_eq_true rfl) (Nat.le_of_ble_eq_true rfl) pu_I dX8_checkLimits_137 (fun r8 σ7 => ?_)
      refine g_iadd dX8_checkLimits_140 ?_
      refine g_nmI (fun y9 => ?_)
      refine g_istore_n 1 dX8_checkLimits_141 rfl (by decide) rfl ?_
      refine g_aload_n 0 1 dX8_checkLimits_142 rfl rfl ?_
      refine g_iload_n 1 0 dX8_checkLimits_143 rfl rfl ?_
      refine g_iconst (v := 2) dX8_checkLimits_144 (by decide) ?_
      refine g_icmp_ge 152 dX8_checkLimits_145 (by decide) ?_ ?_
      · refine g_iconst (v := 0) dX8_checkLimits_152 (by decide) ?_
        refine G.sub [1] rfl ?_
        exact gX8_checkLimits_p153 _ _ _ _
      · refine g_iconst (v := 1) dX8_checkLimits_148 (by decide) ?_
        refine g_goto 153 dX8_checkLimits_149 (by decide) ?_
        refine G.sub [1] rfl ?_
        exact gX8_checkLimits_p153 _ _ _ _
    · refine g_aload_n 0 0 dX8_checkLimits_10 rfl rfl ?_
      refine g_iload_n 1 1 dX8_checkLimits_11 rfl rfl ?_
      refine g_callV (fc := fun sς => Ldr_kindOf sς x0 x1) (ci := 8) (as := [iv x1]) rfl rfl rfl q1641 qs50 mdX8_194 (ctX8_kindOf x0 x1) rfl (Nat.le_of_ble_eq_true rfl) (Nat.le_of_ble_eq_true rfl) (Nat.le_of_ble_eq_true rfl) pu_I dX8_checkLimits_12 (fun r11 σ10 => ?_)
      refine g_iconst (v := 1) dX8_checkLimits_15 (by decide) ?_
      refine g_icmp_eq 28 dX8_checkLimits_16 (by decide) ?_ ?_
      · exact gX8_checkLimits_p28 (Ldr_checkLimits_p2 n) (gX8_checkLimits_p2 n) _ _ _
      · refine g_aload_n 0 0 dX8_checkLimits_19 rfl rfl ?_
        refine g_iload_n 1 1 dX8_checkLimits_20 rfl rfl ?_
        refine g_callV (fc := fun sς => Ldr_kindOf sς x0 x1) (ci := 8) (as := [iv x1]) rfl rfl rfl q1641 qs50 mdX8_194 (ctX8_kindOf x0 x1) rfl (Nat.le_of_ble_eq_true rfl) (Nat.le_of_ble_eq_true rfl) (Nat.le_of_ble_eq_true rfl) pu_I dX8_checkLimits_21 (fun r13 σ12 => ?_)
        refine g_iconst (v := 2) dX8_checkLimits_24 (by decide) ?_
        refine g_icmp_ne 32 dX8_checkLimits_25 (by decide) ?_ ?_
        · refine g_iconst (v := 0) dX8_checkLimits_32 (by decide) ?_
          exact gX8_checkLimits_p33 (Ldr_checkLimits_p2 n) (gX8_checkLimits_p2 n) _ _ _ _
        · exact gX8_checkLimits_p28 (Ldr_checkLimits_p2 n) (gX8_checkLimits_p2 n) _ _ _
def V.Ldr_checkLimits (σ : HS) (x0 : Nat) : Option ((Nat ⊕ Unit) × HS) :=
  Ldr_checkLimits_p2 FU σ x0 (0 : Int32)
theorem V.ctX8_checkLimits (x0 : Nat) : Ct yX8_checkLimits  cX8_checkLimits 3 none 9 154 eXV [av x0] (fun σ => Ldr_checkLimits σ x0) := by
  refine Ct.of (own := RX8) (nm := "checkLimits") (desc := "()V") rfl (by decide) (Nat.le_of_ble_eq_true rfl) (by decide) (fun X σ => ?_)
  show G X RX8 "checkLimits" cX8_checkLimits 3 none 9 154 (enX enV (cxz X)) 0 [(0, av x0)] [] σ (Ldr_checkLimits σ x0)
  unfold Ldr_checkLimits
  refine g_iconst (v := 0) dX8_checkLimits_0 (by decide) ?_
  refine g_istore_n 1 dX8_checkLimits_1 rfl (by decide) rfl ?_
  refine G.sub [1, 0] rfl ?_
  exact gX8_checkLimits_p2 FU _ _ _
theorem V.dX8_all_0 : decode cX8_all 0 = .ok (.iload_n 1, 1) := by decide +kernel
theorem V.dX8_all_1 : decode cX8_all 1 = .ok (.ifCond .ne 16, 3) := by decide +kernel
theorem V.dX8_all_4 : decode cX8_all 4 = .ok (.aload_n 0, 1) := by decide +kernel
theorem V.dX8_all_5 : decode cX8_all 5 = .ok (.getfield 57, 3) := by decide +kernel
theorem V.dX8_all_8 : decode cX8_all 8 = .ok (.getfield 96, 3) := by decide +kernel
theorem V.dX8_all_11 : decode cX8_all 11 = .ok (.invokevirtual 100, 3) := by decide +kernel
theorem V.dX8_all_14 : decode cX8_all 14 = .ok (.goto 52, 3) := by decide +kernel
theorem V.dX8_all_17 : decode cX8_all 17 = .ok (.iload_n 1, 1) := by decide +kernel
theorem V.dX8_all_18 : decode cX8_all 18 = .ok (.iconst 1, 1) := by decide +kernel
theorem V.dX8_all_19 : decode cX8_all 19 = .ok (.if_icmp .ne 17, 3) := by decide +kernel
theorem V.dX8_all_22 : decode cX8_all 22 = .ok (.aload_n 0, 1) := by decide +kernel
theorem V.dX8_all_23 : decode cX8_all 23 = .ok (.getfield 57, 3) := by decide +kernel
theorem V.dX8_all_26 : decode cX8_all 26 = .ok (.getfield 143, 3) := by decide +kernel
theorem V.dX8_all_29 : decode cX8_all 29 = .ok (.iconst 4, 1) := by decide +kernel
theorem V.dX8_all_30 : decode cX8_all 30 = .ok (.invokestatic 139, 3) := by decide +kernel
theorem V.dX8_all_33 : decode cX8_all 33 = .ok (.goto 33, 3) := by decide +kernel
theorem V.dX8_all_36 : decode cX8_all 36 = .ok (.iload_n 1, 1) := by decide +kernel
theorem V.dX8_all_37 : decode cX8_all 37 = .ok (.iconst 2, 1) := by decide +kernel
theorem V.dX8_all_38 : decode cX8_all 38 = .ok (.if_icmp .ne 17, 3) := by decide +kernel
theorem V.dX8_all_41 : decode cX8_all 41 = .ok (.aload_n 0, 1) := by decide +kernel
theorem V.dX8_all_42 : decode cX8_all 42 = .ok (.getfield 57, 3) := by decide +kernel
theorem V.dX8_all_45 : decode cX8_all 45 = .ok (.getfield 146, 3) := by decide +kernel
theorem V.dX8_all_48 : decode cX8_all 48 = .ok (.iconst 4, 1) := by decide +kernel
theorem V.dX8_all_49 : decode cX8_all 49 = .ok (.invokestatic 139, 3) := by decide +kernel
theorem V.dX8_all_52 : decode cX8_all 52 = .ok (.goto 14, 3) := by decide +kernel
theorem V.dX8_all_55 : decode cX8_all 55 = .ok (.aload_n 0, 1) := by decide +kernel
theorem V.dX8_all_56 : decode cX8_all 56 = .ok (.getfield 57, 3) := by decide +kernel
theorem V.dX8_all_59 : decode cX8_all 59 = .ok (.getfield 149, 3) := by decide +kernel
theorem V.dX8_all_62 : decode cX8_all 62 = .ok (.iconst 4, 1) := by decide +kernel
theorem V.dX8_all_63 : decode cX8_all 63 = .ok (.invokestatic 139, 3) := by decide +kernel
theorem V.dX8_all_66 : decode cX8_all 66 = .ok (.istore_n 2, 1) := by decide +kernel
theorem V.dX8_all_67 : decode cX8_all 67 = .ok (.aload_n 0, 1) := by decide +kernel
theorem V.dX8_all_68 : decode cX8_all 68 = .ok (.iload_n 1, 1) := by decide +kernel
theorem V.dX8_all_69 : decode cX8_all 69 = .ok (.invokevirtual 214, 3) := by decide +kernel
theorem V.dX8_all_72 : decode cX8_all 72 = .ok (.iload_n 2, 1) := by decide +kernel
theorem V.dX8_all_73 : decode cX8_all 73 = .ok (.iadd, 1) := by decide +kernel
theorem V.dX8_all_74 : decode cX8_all 74 = .ok (.ireturn, 1) := by decide +kernel
/-! ModuleEngine$Loader.all(I)I -/
def V.Ldr_all_p66  (σ : HS) (x0 : Nat) (x1 : Int32) (s0 : Int32) : Option (Int32 × HS) :=
  ck (tg σ x0 = 9) <| cl (Ldr_imports σ x0 x1) fun r2 σ1 =>
  some (r2 + s0, σ1)
theorem V.gX8_all_p66 {X : CX}  (σ : HS) (x0 : Nat) (x1 : Int32) (s0 : Int32) : G X RX8 "all" cX8_all 3 (some .int) 4 84 enI 66 [(0, av x0), (1, iv x1)] [iv s0] σ (Ldr_all_p66 σ x0 x1 s0) := by
  unfold Ldr_all_p66
  refine g_istore_n 2 dX8_all_66 rfl (by decide) rfl ?_
  refine g_aload_n 0 1 dX8_all_67 rfl rfl ?_
  refine g_iload_n 1 2 dX8_all_68 rfl rfl ?_
  refine g_callV (fc := fun sς => Ldr_imports sς x0 x1) (ci := 8) (as := [iv x1]) rfl rfl rfl q1665 qs55 mdX8_214 (ctX8_imports x0 x1) rfl (Nat.le_of_ble_eq_true rfl) (Nat.le_of_ble_eq_true rfl) (Nat.le_of_ble_eq_true rfl) pu_I dX8_all_69 (fun r2 σ1 => ?_)
  refine g_iload_n 2 0 dX8_all_72 rfl rfl ?_
  refine g_iadd dX8_all_73 ?_
  exact g_ireturn rfl dX8_all_74
def V.Ldr_all (σ : HS) (x0 : Nat) (x1 : Int32) : Option (Int32 × HS) :=
  if x1 = 0 then (
    ck (tg σ x0 = 9) <|
    ck (tg σ (gR σ x0 7) = 3) <|
    ck (tg σ (gR σ (gR σ x0 7) 4) = 4) <| cl (Row_size σ (gR σ (gR σ x0 7) 4) ) fun r8 σ7 =>
    Ldr_all_p66 σ7 x0 x1 r8)
  else (
    if x1 = (1 : Int32) then (
      ck (tg σ x0 = 9) <|
      ck (tg σ (gR σ x0 7) = 3) <|
      cl (Ldr_count σ (gR σ (gR σ x0 7) 5) (4 : Int32)) fun r6 σ5 =>
      Ldr_all_p66 σ5 x0 x1 r6)
    else (
      if x1 = (2 : Int32) then (
        ck (tg σ x0 = 9) <|
        ck (tg σ (gR σ x0 7) = 3) <|
        cl (Ldr_count σ (gR σ (gR σ x0 7) 6) (4 : Int32)) fun r4 σ3 =>
        Ldr_all_p66 σ3 x0 x1 r4)
      else (
        ck (tg σ x0 = 9) <|
        ck (tg σ (gR σ x0 7) = 3) <|
        cl (Ldr_count σ (gR σ (gR σ x0 7) 7) (4 : Int32)) fun r2 σ1 =>
        Ldr_all_p66 σ1 x0 x1 r2)))
theorem V.ctX8_all (x0 : Nat) (x1 : Int32) : Ct yX8_all  cX8_all 3 (some .int) 4 84 eI [av x0, iv x1] (fun σ => Ldr_all σ x0 x1) := by
  refine Ct.of (own := RX8) (nm := "all") (desc := "(I)I") rfl (by decide) (Nat.le_of_ble_eq_true rfl) (by decide) (fun X σ => ?_)
  show G X RX8 "all" cX8_all 3 (some .int) 4 84 enI 0 [(0, av x0), (1, iv x1)] [] σ (Ldr_all σ x0 x1)
  unfold Ldr_all
  refine g_iload_n 1 1 dX8_all_0 rfl rfl ?_
  refine g_if_ne 17 dX8_all_1 (by decide) ?_ ?_
  · refine g_iload_n 1 1 dX8_all_17 rfl rfl ?_
    refine g_iconst (v := 1) dX8_all_18 (by decide) ?_
    refine g_icmp_ne 36 dX8_all_19 (by decide) ?_ ?_
    · refine g_iload_n 1 1 dX8_all_36 rfl rfl ?_
      refine g_iconst (v := 2) dX8_all_37 (by decide) ?_
      refine g_icmp_ne 55 dX8_all_38 (by decide) ?_ ?_
      · refine g_aload_n 0 0 dX8_all_55 rfl rfl ?_
        refine g_getR fdX8_57 dX8_all_56 ?_
        refine g_getR fdX8_149 dX8_all_59 ?_
        refine g_iconst (v := 4) dX8_all_62 (by decide) ?_
        refine g_callS (fc := fun sς => Ldr_count sς (gR σ (gR σ x0 7) 7) (4 : Int32)) (as := [av (gR σ (gR σ x0 7) 7), iv (4 : Int32)]) q1598 mdX8_139 (ctX8_count (gR σ (gR σ x0 7) 7) (4 : Int32)) rfl (Nat.le_of_ble_eq_true rfl) (Nat.le_of_ble_eq_true rfl) (Nat.le_of_ble_eq_true rfl) pu_I dX8_all_63 (fun r2 σ1 => ?_)
        exact gX8_all_p66 _ _ _ _
      · refine g_aload_n 0 0 dX8_all_41 rfl rfl ?_
        refine g_getR fdX8_57 dX8_all_42 ?_
        refine g_getR fdX8_146 dX8_all_45 ?_
        refine g_iconst (v := 4) dX8_all_48 (by decide) ?_
        refine g_callS (fc := fun sς => Ldr_count sς (gR σ (gR σ x0 7) 6) (4 : Int32)) (as := [av (gR σ (gR σ x0 7) 6), iv (4 : Int32)]) q1598 mdX8_139 (ctX8_count (gR σ (gR σ x0 7) 6) (4 : Int32)) rfl (Nat.le_of_ble_eq_true rfl) (Nat.le_of_ble_eq_true rfl) (Nat.le_of_ble_eq_true rfl) pu_I dX8_all_49 (fun r4 σ3 => ?_)
        refine g_goto 66 dX8_all_52 (by decide) ?_
        exact gX8_all_p66 _ _ _ _
    · refine g_aload_n 0 0 dX8_all_22 rfl rfl ?_
      refine g_getR fdX8_57 dX8_all_23 ?_
      refine g_getR fdX8_143 dX8_all_26 ?_
      refine g_iconst (v := 4) dX8_all_29 (by decide) ?_
      refine g_callS (fc := fun sς => Ldr_count sς (gR σ (gR σ x0 7) 5) (4 : Int32)) (as := [av (gR σ (gR σ x0 7) 5), iv (4 : Int32)]) q1598 mdX8_139 (ctX8_count (gR σ (gR σ x0 7) 5) (4 : Int32)) rfl (Nat.le_of_ble_eq_true rfl) (Nat.le_of_ble_eq_true rfl) (Nat.le_of_ble_eq_true rfl) pu_I dX8_all_30 (fun r6 σ5 => ?_)
      refine g_goto 66 dX8_all_33 (by decide) ?_
      exact gX8_all_p66 _ _ _ _
  · refine g_aload_n 0 0 dX8_all_4 rfl rfl ?_
    refine g_getR fdX8_57 dX8_all_5 ?_
    refine g_getR fdX8_96 dX8_all_8 ?_
    refine g_callV (fc := fun sς => Row_size sς (gR σ (gR σ x0 7) 4) ) (ci := 3) (as := []) rfl rfl rfl q1421 q1422 mdX8_100 (ctX3_size (gR σ (gR σ x0 7) 4) ) rfl (Nat.le_of_ble_eq_true rfl) (Nat.le_of_ble_eq_true rfl) (Nat.le_of_ble_eq_true rfl) pu_I dX8_all_11 (fun r8 σ7 => ?_)
    refine g_goto 66 dX8_all_14 (by decide) ?_
    exact gX8_all_p66 _ _ _ _
theorem V.dX8_isLike_0 : decode cX8_isLike 0 = .ok (.aload_n 0, 1) := by decide +kernel
theorem V.dX8_isLike_1 : decode cX8_isLike 1 = .ok (.getfield 57, 3) := by decide +kernel
theorem V.dX8_isLike_4 : decode cX8_isLike 4 = .ok (.getfield 152, 3) := by decide +kernel
theorem V.dX8_isLike_7 : decode cX8_isLike 7 = .ok (.astore_n 3, 1) := by decide +kernel
theorem V.dX8_isLike_8 : decode cX8_isLike 8 = .ok (.aload_n 3, 1) := by decide +kernel
theorem V.dX8_isLike_9 : decode cX8_isLike 9 = .ok (.iload_n 1, 1) := by decide +kernel
theorem V.dX8_isLike_10 : decode cX8_isLike 10 = .ok (.iconst 3, 1) := by decide +kernel
theorem V.dX8_isLike_11 : decode cX8_isLike 11 = .ok (.iadd, 1) := by decide +kernel
theorem V.dX8_isLike_12 : decode cX8_isLike 12 = .ok (.invokevirtual 174, 3) := by decide +kernel
theorem V.dX8_isLike_15 : decode cX8_isLike 15 = .ok (.istore 4, 2) := by decide +kernel
theorem V.dX8_isLike_17 : decode cX8_isLike 17 = .ok (.iload 4, 2) := by decide +kernel
theorem V.dX8_isLike_19 : decode cX8_isLike 19 = .ok (.aload_n 3, 1) := by decide +kernel
theorem V.dX8_isLike_20 : decode cX8_isLike 20 = .ok (.iload_n 2, 1) := by decide +kernel
theorem V.dX8_isLike_21 : decode cX8_isLike 21 = .ok (.iconst 3, 1) := by decide +kernel
theorem V.dX8_isLike_22 : decode cX8_isLike 22 = .ok (.iadd, 1) := by decide +kernel
theorem V.dX8_isLike_23 : decode cX8_isLike 23 = .ok (.invokevirtual 174, 3) := by decide +kernel
theorem V.dX8_isLike_26 : decode cX8_isLike 26 = .ok (.if_icmp .ne 7, 3) := by decide +kernel
theorem V.dX8_isLike_29 : decode cX8_isLike 29 = .ok (.iconst 1, 1) := by decide +kernel
theorem V.dX8_isLike_30 : decode cX8_isLike 30 = .ok (.goto 4, 3) := by decide +kernel
theorem V.dX8_isLike_33 : decode cX8_isLike 33 = .ok (.iconst 0, 1) := by decide +kernel
theorem V.dX8_isLike_34 : decode cX8_isLike 34 = .ok (.istore 5, 2) := by decide +kernel
theorem V.dX8_isLike_36 : decode cX8_isLike 36 = .ok (.iconst 0, 1) := by decide +kernel
theorem V.dX8_isLike_37 : decode cX8_isLike 37 = .ok (.istore 6, 2) := by decide +kernel
theorem V.dX8_isLike_39 : decode cX8_isLike 39 = .ok (.iload 6, 2) := by decide +kernel
theorem V.dX8_isLike_41 : decode cX8_isLike 41 = .ok (.iload 4, 2) := by decide +kernel
theorem V.dX8_isLike_43 : decode cX8_isLike 43 = .ok (.if_icmp .ge 60, 3) := by decide +kernel
theorem V.dX8_isLike_46 : decode cX8_isLike 46 = .ok (.iload 5, 2) := by decide +kernel
theorem V.dX8_isLike_48 : decode cX8_isLike 48 = .ok (.ifCond .eq 55, 3) := by decide +kernel
theorem V.dX8_isLike_51 : decode cX8_isLike 51 = .ok (.aload_n 0, 1) := by decide +kernel
theorem V.dX8_isLike_52 : decode cX8_isLike 52 = .ok (.getfield 57, 3) := by decide +kernel
theorem V.dX8_isLike_55 : decode cX8_isLike 55 = .ok (.getfield 62, 3) := by decide +kernel
theorem V.dX8_isLike_58 : decode cX8_isLike 58 = .ok (.aload_n 3, 1) := by decide +kernel
theorem V.dX8_isLike_59 : decode cX8_isLike 59 = .ok (.iload_n 1, 1) := by decide +kernel
theorem V.dX8_isLike_60 : decode cX8_isLike 60 = .ok (.iconst 2, 1) := by decide +kernel
theorem V.dX8_isLike_61 : decode cX8_isLike 61 = .ok (.iadd, 1) := by decide +kernel
theorem V.dX8_isLike_62 : decode cX8_isLike 62 = .ok (.invokevirtual 174, 3) := by decide +kernel
theorem V.dX8_isLike_65 : decode cX8_isLike 65 = .ok (.iload 6, 2) := by decide +kernel
theorem V.dX8_isLike_67 : decode cX8_isLike 67 = .ok (.iadd, 1) := by decide +kernel
theorem V.dX8_isLike_68 : decode cX8_isLike 68 = .ok (.baload, 1) := by decide +kernel
theorem V.dX8_isLike_69 : decode cX8_isLike 69 = .ok (.aload_n 0, 1) := by decide +kernel
theorem V.dX8_isLike_70 : decode cX8_isLike 70 = .ok (.getfield 57, 3) := by decide +kernel
theorem V.dX8_isLike_73 : decode cX8_isLike 73 = .ok (.getfield 62, 3) := by decide +kernel
theorem V.dX8_isLike_76 : decode cX8_isLike 76 = .ok (.aload_n 3, 1) := by decide +kernel
theorem V.dX8_isLike_77 : decode cX8_isLike 77 = .ok (.iload_n 2, 1) := by decide +kernel
theorem V.dX8_isLike_78 : decode cX8_isLike 78 = .ok (.iconst 2, 1) := by decide +kernel
theorem V.dX8_isLike_79 : decode cX8_isLike 79 = .ok (.iadd, 1) := by decide +kernel
theorem V.dX8_isLike_80 : decode cX8_isLike 80 = .ok (.invokevirtual 174, 3) := by decide +kernel
theorem V.dX8_isLike_83 : decode cX8_isLike 83 = .ok (.iload 6, 2) := by decide +kernel
theorem V.dX8_isLike_85 : decode cX8_isLike 85 = .ok (.iadd, 1) := by decide +kernel
theorem V.dX8_isLike_86 : decode cX8_isLike 86 = .ok (.baload, 1) := by decide +kernel
theorem V.dX8_isLike_87 : decode cX8_isLike 87 = .ok (.if_icmp .ne 7, 3) := by decide +kernel
theorem V.dX8_isLike_90 : decode cX8_isLike 90 = .ok (.iconst 1, 1) := by decide +kernel
theorem V.dX8_isLike_91 : decode cX8_isLike 91 = .ok (.goto 4, 3) := by decide +kernel
theorem V.dX8_isLike_94 : decode cX8_isLike 94 = .ok (.iconst 0, 1) := by decide +kernel
theorem V.dX8_isLike_95 : decode cX8_isLike 95 = .ok (.istore 5, 2) := by decide +kernel
theorem V.dX8_isLike_97 : decode cX8_isLike 97 = .ok (.iinc 6 1, 3) := by decide +kernel
theorem V.dX8_isLike_100 : decode cX8_isLike 100 = .ok (.goto (-61), 3) := by decide +kernel
theorem V.dX8_isLike_103 : decode cX8_isLike 103 = .ok (.iload 5, 2) := by decide +kernel
theorem V.dX8_isLike_105 : decode cX8_isLike 105 = .ok (.ireturn, 1) := by decide +kernel
/-! ModuleEngine$Loader.isLike(II)Z -/
def V.Ldr_isLike_p95 (rec39 : HS → Nat → Int32 → Int32 → Nat → Int32 → Int32 → Int32 → Option (Int32 × HS)) (σ : HS) (x0 : Nat) (x1 : Int32) (x2 : Int32) (x3 : Nat) (x4 : Int32) (x6 : Int32) (s0 : Int32) : Option (Int32 × HS) :=
  bn (x6 + (1 : Int32)) fun y1 =>
  rec39 σ x0 x1 x2 x3 x4 s0 y1
theorem V.gX8_isLike_p95 {X : CX} (rec39 : HS → Nat → Int32 → Int32 → Nat → Int32 → Int32 → Int32 → Option (Int32 × HS)) (hrec39 : ∀ (σ : HS) (x0 : Nat) (x1 : Int32) (x2 : Int32) (x3 : Nat) (x4 : Int32) (x5 : Int32) (x6 : Int32), G X RX8 "isLike" cX8_isLike 7 (some .boolean) 1 21 enI 39 [(0, av x0), (1, iv x1), (2, iv x2), (3, av x3), (4, iv x4), (5, iv x5), (6, iv x6)] [] σ (rec39 σ x0 x1 x2 x3 x4 x5 x6)) (σ : HS) (x0 : Nat) (x1 : Int32) (x2 : Int32) (x3 : Nat) (x4 : Int32) (x6 : Int32) (s0 : Int32) : G X RX8 "isLike" cX8_isLike 7 (some .boolean) 1 21 enI 95 [(0, av x0), (1, iv x1), (2, iv x2), (3, av x3), (4, iv x4), (6, iv x6)] [iv s0] σ (Ldr_isLike_p95 rec39 σ x0 x1 x2 x3 x4 x6 s0) := by
  unfold Ldr_isLike_p95
  refine g_istore dX8_isLike_95 (by decide) rfl ?_
  refine g_iincB (w := 1) 6 dX8_isLike_97 rfl (by decide) (by decide) (fun _ => rfl) (fun y1 => ?_)
  refine g_goto 39 dX8_isLike_100 (by decide) ?_
  refine G.sub [2, 3, 4, 5, 6, 1, 0] rfl ?_
  exact hrec39 _ _ _ _ _ _ _ _
def V.Ldr_isLike_p39  : Nat → HS → Nat → Int32 → Int32 → Nat → Int32 → Int32 → Int32 → Option (Int32 × HS)
  | 0, _, _, _, _, _, _, _, _ => none
  | n + 1, σ, x0, x1, x2, x3, x4, x5, x6 =>
    if x4 ≤ x6 then (
      ck (zb x5) (some (x5, σ)))
    else (
      if x5 = 0 then (
        ck (zb x5) (some (x5, σ)))
      else (
        ck (tg σ x0 = 9) <|
        ck (tg σ (gR σ x0 7) = 3) <|
        ck (tg σ x3 = 4) <| cl (Row_at σ x3 (x1 + (2 : Int32))) fun r2 σ1 =>
        ck (tg σ1 (gR σ (gR σ x0 7) 0) = 102 ∧ inb (r2 + x6) (ln σ1 (gR σ (gR σ x0 7) 0))) <|
        ck (tg σ1 x0 = 9) <|
        ck (tg σ1 (gR σ1 x0 7) = 3) <|
        ck (tg σ1 x3 = 4) <| cl (Row_at σ1 x3 (x2 + (2 : Int32))) fun r4 σ3 =>
        ck (tg σ3 (gR σ1 (gR σ1 x0 7) 0) = 102 ∧ inb (r4 + x6) (ln σ3 (gR σ1 (gR σ1 x0 7) 0))) <|
        if (gI σ1 (gR σ (gR σ x0 7) 0) (ix (r2 + x6))) = (gI σ3 (gR σ1 (gR σ1 x0 7) 0) (ix (r4 + x6))) then (
          Ldr_isLike_p95 (Ldr_isLike_p39 n) σ3 x0 x1 x2 x3 x4 x6 (1 : Int32))
        else (
          Ldr_isLike_p95 (Ldr_isLike_p39 n) σ3 x0 x1 x2 x3 x4 x6 (0 : Int32))))
theorem V.gX8_isLike_p39 {X : CX}  : ∀ (n : Nat) (σ : HS) (x0 : Nat) (x1 : Int32) (x2 : Int32) (x3 : Nat) (x4 : Int32) (x5 : Int32) (x6 : Int32), G X RX8 "isLike" cX8_isLike 7 (some .boolean) 1 21 enI 39 [(0, av x0), (1, iv x1), (2, iv x2), (3, av x3), (4, iv x4), (5, iv x5), (6, iv x6)] [] σ (Ldr_isLike_p39 n σ x0 x1 x2 x3 x4 x5 x6)
  | 0, σ, x0, x1, x2, x3, x4, x5, x6 => by rw [Ldr_isLike_p39]; exact G.nul
  | n + 1, σ, x0, x1, x2, x3, x4, x5, x6 => by
    rw [Ldr_isLike_p39]
    refine g_iload 6 dX8_isLike_39 rfl ?_
    refine g_iload 4 dX8_isLike_41 rfl ?_
    refine g_icmp_ge 103 dX8_isLike_43 (by decide) ?_ ?_
    · refine g_iload 5 dX8_isLike_103 rfl ?_
      exact g_zreturnc rfl dX8_isLike_105
    · refine g_iload 5 dX8_isLike_46 rfl ?_
      refine g_if_eq 103 dX8_isLike_48 (by decide) ?_ ?_
      · refine g_iload 5 dX8_isLike_103 rfl ?_
        exact g_zreturnc rfl dX8_isLike_105
      · refine g_aload_n 0 0 dX8_isLike_51 rfl rfl ?_
        refine g_getR fdX8_57 dX8_isLike_52 ?_
        refine g_getR fdX8_62 dX8_isLike_55 ?_
        refine g_aload_n 3 3 dX8_isLike_58 rfl rfl ?_
        refine g_iload_n 1 1 dX8_isLike_59 rfl rfl ?_
        refine g_iconst (v := 2) dX8_isLike_60 (by decide) ?_
        refine g_iadd dX8_isLike_61 ?_
        refine g_callV (fc := fun sς => Row_at sς x3 (x1 + (2 : Int32))) (ci := 3) (as := [iv (x1 + (2 : Int32))]) rfl rfl rfl q1409 q1410 mdX8_174 (ctX3_at x3 (x1 + (2 : Int32))) rfl (Nat.le_of_ble_eq_true rfl) (Nat.le_of_ble_eq_true rfl) (Nat.le_of_ble_eq_true rfl) pu_I dX8_isLike_62 (fun r2 σ1 => ?_)
        refine g_iload 6 dX8_isLike_65 rfl ?_
        refine g_iadd dX8_isLike_67 ?_
        refine g_baload dX8_isLike_68 ?_
        refine g_aload_n 0 0 dX8_isLike_69 rfl rfl ?_
        refine g_getR fdX8_57 dX8_isLike_70 ?_
        refine g_getR fdX8_62 dX8_isLike_73 ?_
        refine g_aload_n 3 3 dX8_isLike_76 rfl rfl ?_
        refine g_iload_n 2 2 dX8_isLike_77 rfl rfl ?_
        refine g_iconst (v := 2) dX8_isLike_78 (by decide) ?_
        refine g_iadd dX8_isLike_79 ?_
        refine g_callV (fc := fun sς => Row_at sς x3 (x2 + (2 : Int32))) (ci := 3) (as := [iv (x2 + (2 : Int32))]) rfl rfl rfl q1409 q1410 mdX8_174 (ctX3_at x3 (x2 + (2 : Int32))) rfl (Nat.le_of_ble_eq_true rfl) (Nat.le_of_ble_eq_true rfl) (Nat.le_of_ble_eq_true rfl) pu_I dX8_isLike_80 (fun r4 σ3 => ?_)
        refine g_iload 6 dX8_isLike_83 rfl ?_
        refine g_iadd dX8_isLike_85 ?_
        refine g_baload dX8_isLike_86 ?_
        refine g_icmp_ne 94 dX8_isLike_87 (by decide) ?_ ?_
        · refine g_iconst (v := 0) dX8_isLike_94 (by decide) ?_
          refine G.sub [0, 1, 2, 3, 4, 6] rfl ?_
          exact gX8_isLike_p95 (Ldr_isLike_p39 n) (gX8_isLike_p39 n) _ _ _ _ _ _ _ _
        · refine g_iconst (v := 1) dX8_isLike_90 (by decide) ?_
          refine g_goto 95 dX8_isLike_91 (by decide) ?_
          refine G.sub [0, 1, 2, 3, 4, 6] rfl ?_
          exact gX8_isLike_p95 (Ldr_isLike_p39 n) (gX8_isLike_p39 n) _ _ _ _ _ _ _ _
def V.Ldr_isLike_p34  (σ : HS) (x0 : Nat) (x1 : Int32) (x2 : Int32) (x3 : Nat) (x4 : Int32) (s0 : Int32) : Option (Int32 × HS) :=
  Ldr_isLike_p39 FU σ x0 x1 x2 x3 x4 s0 (0 : Int32)
theorem V.gX8_isLike_p34 {X : CX}  (σ : HS) (x0 : Nat) (x1 : Int32) (x2 : Int32) (x3 : Nat) (x4 : Int32) (s0 : Int32) : G X RX8 "isLike" cX8_isLike 7 (some .boolean) 1 21 enI 34 [(0, av x0), (1, iv x1), (2, iv x2), (3, av x3), (4, iv x4)] [iv s0] σ (Ldr_isLike_p34 σ x0 x1 x2 x3 x4 s0) := by
  unfold Ldr_isLike_p34
  refine g_istore dX8_isLike_34 (by decide) rfl ?_
  refine g_iconst (v := 0) dX8_isLike_36 (by decide) ?_
  refine g_istore dX8_isLike_37 (by decide) rfl ?_
  refine G.sub [2, 3, 4, 5, 6, 1, 0] rfl ?_
  exact gX8_isLike_p39 FU _ _ _ _ _ _ _ _
def V.Ldr_isLike (σ : HS) (x0 : Nat) (x1 : Int32) (x2 : Int32) : Option (Int32 × HS) :=
  ck (tg σ x0 = 9) <|
  ck (tg σ (gR σ x0 7) = 3) <|
  bn (gR σ (gR σ x0 7) 8) fun y1 =>
  ck (tg σ y1 = 4) <| cl (Row_at σ y1 (x1 + (3 : Int32))) fun r3 σ2 =>
  ck (tg σ2 y1 = 4) <| cl (Row_at σ2 y1 (x2 + (3 : Int32))) fun r5 σ4 =>
  if r3 = r5 then (
    Ldr_isLike_p34 σ4 x0 x1 x2 y1 r3 (1 : Int32))
  else (
    Ldr_isLike_p34 σ4 x0 x1 x2 y1 r3 (0 : Int32))
theorem V.ctX8_isLike (x0 : Nat) (x1 : Int32) (x2 : Int32) : Ct yX8_isLike  cX8_isLike 7 (some .boolean) 1 21 eI [av x0, iv x1, iv x2] (fun σ => Ldr_isLike σ x0 x1 x2) := by
  refine Ct.of (own := RX8) (nm := "isLike") (desc := "(II)Z") rfl (by decide) (Nat.le_of_ble_eq_true rfl) (by decide) (fun X σ => ?_)
  show G X RX8 "isLike" cX8_isLike 7 (some .boolean) 1 21 enI 0 [(0, av x0), (1, iv x1), (2, iv x2)] [] σ (Ldr_isLike σ x0 x1 x2)
  unfold Ldr_isLike
  refine g_aload_n 0 0 dX8_isLike_0 rfl rfl ?_
  refine g_getR fdX8_57 dX8_isLike_1 ?_
  refine g_getR fdX8_152 dX8_isLike_4 ?_
  refine g_nmA (fun y1 => ?_)
  refine g_astore_n 3 dX8_isLike_7 rfl (by decide) rfl ?_
  refine g_aload_n 3 0 dX8_isLike_8 rfl rfl ?_
  refine g_iload_n 1 2 dX8_isLike_9 rfl rfl ?_
  refine g_iconst (v := 3) dX8_isLike_10 (by decide) ?_
  refine g_iadd dX8_isLike_11 ?_
  refine g_callV (fc := fun sς => Row_at sς y1 (x1 + (3 : Int32))) (ci := 3) (as := [iv (x1 + (3 : Int32))]) rfl rfl rfl q1409 q1410 mdX8_174 (ctX3_at y1 (x1 + (3 : Int32))) rfl (Nat.le_of_ble_eq_true rfl) (Nat.le_of_ble_eq_true rfl) (Nat.le_of_ble_eq_true rfl) pu_I dX8_isLike_12 (fun r3 σ2 => ?_)
  refine g_istore dX8_isLike_15 (by decide) rfl ?_
  refine g_iload 0 dX8_isLike_17 rfl ?_
  refine g_aload_n 3 1 dX8_isLike_19 rfl rfl ?_
  refine g_iload_n 2 4 dX8_isLike_20 rfl rfl ?_
  refine g_iconst (v := 3) dX8_isLike_21 (by decide) ?_
  refine g_iadd dX8_isLike_22 ?_
  refine g_callV (fc := fun sς => Row_at sς y1 (x2 + (3 : Int32))) (ci := 3) (as := [iv (x2 + (3 : Int32))]) rfl rfl rfl q1409 q1410 mdX8_174 (ctX3_at y1 (x2 + (3 : Int32))) rfl (Nat.le_of_ble_eq_true rfl) (Nat.le_of_ble_eq_true rfl) (Nat.le_of_ble_eq_true rfl) pu_I dX8_isLike_23 (fun r5 σ4 => ?_)
  refine g_icmp_ne 33 dX8_isLike_26 (by decide) ?_ ?_
  · refine g_iconst (v := 0) dX8_isLike_33 (by decide) ?_
    refine G.sub [2, 3, 4, 1, 0] rfl ?_
    exact gX8_isLike_p34 _ _ _ _ _ _ _
  · refine g_iconst (v := 1) dX8_isLike_29 (by decide) ?_
    refine g_goto 34 dX8_isLike_30 (by decide) ?_
    refine G.sub [2, 3, 4, 1, 0] rfl ?_
    exact gX8_isLike_p34 _ _ _ _ _ _ _
theorem V.dX8_typeOf_0 : decode cX8_typeOf 0 = .ok (.iload_n 1, 1) := by decide +kernel
theorem V.dX8_typeOf_1 : decode cX8_typeOf 1 = .ok (.istore_n 2, 1) := by decide +kernel
theorem V.dX8_typeOf_2 : decode cX8_typeOf 2 = .ok (.iconst 0, 1) := by decide +kernel
theorem V.dX8_typeOf_3 : decode cX8_typeOf 3 = .ok (.istore_n 3, 1) := by decide +kernel
theorem V.dX8_typeOf_4 : decode cX8_typeOf 4 = .ok (.iload_n 3, 1) := by decide +kernel
theorem V.dX8_typeOf_5 : decode cX8_typeOf 5 = .ok (.aload_n 0, 1) := by decide +kernel
theorem V.dX8_typeOf_6 : decode cX8_typeOf 6 = .ok (.invokevirtual 191, 3) := by decide +kernel
theorem V.dX8_typeOf_9 : decode cX8_typeOf 9 = .ok (.if_icmp .ge 34, 3) := by decide +kernel
theorem V.dX8_typeOf_12 : decode cX8_typeOf 12 = .ok (.aload_n 0, 1) := by decide +kernel
theorem V.dX8_typeOf_13 : decode cX8_typeOf 13 = .ok (.iload_n 3, 1) := by decide +kernel
theorem V.dX8_typeOf_14 : decode cX8_typeOf 14 = .ok (.invokevirtual 194, 3) := by decide +kernel
theorem V.dX8_typeOf_17 : decode cX8_typeOf 17 = .ok (.ifCond .eq 6, 3) := by decide +kernel
theorem V.dX8_typeOf_20 : decode cX8_typeOf 20 = .ok (.goto 17, 3) := by decide +kernel
theorem V.dX8_typeOf_23 : decode cX8_typeOf 23 = .ok (.iload_n 2, 1) := by decide +kernel
theorem V.dX8_typeOf_24 : decode cX8_typeOf 24 = .ok (.ifCond .ne 10, 3) := by decide +kernel
theorem V.dX8_typeOf_27 : decode cX8_typeOf 27 = .ok (.aload_n 0, 1) := by decide +kernel
theorem V.dX8_typeOf_28 : decode cX8_typeOf 28 = .ok (.iload_n 3, 1) := by decide +kernel
theorem V.dX8_typeOf_29 : decode cX8_typeOf 29 = .ok (.iconst 0, 1) := by decide +kernel
theorem V.dX8_typeOf_30 : decode cX8_typeOf 30 = .ok (.invokevirtual 197, 3) := by decide +kernel
theorem V.dX8_typeOf_33 : decode cX8_typeOf 33 = .ok (.ireturn, 1) := by decide +kernel
theorem V.dX8_typeOf_34 : decode cX8_typeOf 34 = .ok (.iinc 2 (-1), 3) := by decide +kernel
theorem V.dX8_typeOf_37 : decode cX8_typeOf 37 = .ok (.iinc 3 1, 3) := by decide +kernel
theorem V.dX8_typeOf_40 : decode cX8_typeOf 40 = .ok (.goto (-36), 3) := by decide +kernel
theorem V.dX8_typeOf_43 : decode cX8_typeOf 43 = .ok (.aload_n 0, 1) := by decide +kernel
theorem V.dX8_typeOf_44 : decode cX8_typeOf 44 = .ok (.getfield 57, 3) := by decide +kernel
theorem V.dX8_typeOf_47 : decode cX8_typeOf 47 = .ok (.getfield 96, 3) := by decide +kernel
theorem V.dX8_typeOf_50 : decode cX8_typeOf 50 = .ok (.iload_n 2, 1) := by decide +kernel
theorem V.dX8_typeOf_51 : decode cX8_typeOf 51 = .ok (.invokevirtual 174, 3) := by decide +kernel
theorem V.dX8_typeOf_54 : decode cX8_typeOf 54 = .ok (.ireturn, 1) := by decide +kernel
/-! ModuleEngine$Loader.typeOf(I)I -/
def V.Ldr_typeOf_p37 (rec4 : HS → Nat → Int32 → Int32 → Option (Int32 × HS)) (σ : HS) (x0 : Nat) (x2 : Int32) (x3 : Int32) : Option (Int32 × HS) :=
  bn (x3 + (1 : Int32)) fun y1 =>
  rec4 σ x0 x2 y1
theorem V.gX8_typeOf_p37 {X : CX} (rec4 : HS → Nat → Int32 → Int32 → Option (Int32 × HS)) (hrec4 : ∀ (σ : HS) (x0 : Nat) (x2 : Int32) (x3 : Int32), G X RX8 "typeOf" cX8_typeOf 4 (some .int) 3 61 enI 4 [(0, av x0), (2, iv x2), (3, iv x3)] [] σ (rec4 σ x0 x2 x3)) (σ : HS) (x0 : Nat) (x2 : Int32) (x3 : Int32) : G X RX8 "typeOf" cX8_typeOf 4 (some .int) 3 61 enI 37 [(0, av x0), (2, iv x2), (3, iv x3)] [] σ (Ldr_typeOf_p37 rec4 σ x0 x2 x3) := by
  unfold Ldr_typeOf_p37
  refine g_iincB (w := 1) 2 dX8_typeOf_37 rfl (by decide) (by decide) (fun _ => rfl) (fun y1 => ?_)
  refine g_goto 4 dX8_typeOf_40 (by decide) ?_
  refine G.sub [1, 2, 0] rfl ?_
  exact hrec4 _ _ _ _
def V.Ldr_typeOf_p4  : Nat → HS → Nat → Int32 → Int32 → Option (Int32 × HS)
  | 0, _, _, _, _ => none
  | n + 1, σ, x0, x2, x3 =>
    ck (tg σ x0 = 9) <| cl (Ldr_importCount σ x0 ) fun r2 σ1 =>
    if r2 ≤ x3 then (
      ck (tg σ1 x0 = 9) <|
      ck (tg σ1 (gR σ1 x0 7) = 3) <|
      ck (tg σ1 (gR σ1 (gR σ1 x0 7) 4) = 4) <| cl (Row_at σ1 (gR σ1 (gR σ1 x0 7) 4) x2) fun r4 σ3 =>
      some (r4, σ3))
    else (
      ck (tg σ1 x0 = 9) <| cl (Ldr_kindOf σ1 x0 x3) fun r6 σ5 =>
      if r6 = 0 then (
        if x2 = 0 then (
          ck (tg σ5 x0 = 9) <| cl (Ldr_importCell σ5 x0 x3 (0 : Int32)) fun r9 σ8 =>
          some (r9, σ8))
        else (
          bn (x2 + (-1 : Int32)) fun y7 =>
          Ldr_typeOf_p37 (Ldr_typeOf_p4 n) σ5 x0 y7 x3))
      else (
        Ldr_typeOf_p37 (Ldr_typeOf_p4 n) σ5 x0 x2 x3))
theorem V.gX8_typeOf_p4 {X : CX}  : ∀ (n : Nat) (σ : HS) (x0 : Nat) (x2 : Int32) (x3 : Int32), G X RX8 "typeOf" cX8_typeOf 4 (some .int) 3 61 enI 4 [(0, av x0), (2, iv x2), (3, iv x3)] [] σ (Ldr_typeOf_p4 n σ x0 x2 x3)
  | 0, σ, x0, x2, x3 => by rw [Ldr_typeOf_p4]; exact G.nul
  | n + 1, σ, x0, x2, x3 => by
    rw [Ldr_typeOf_p4]
    refine g_iload_n 3 2 dX8_typeOf_4 rfl rfl ?_
    refine g_aload_n 0 0 dX8_typeOf_5 rfl rfl ?_
    refine g_callV (fc := fun sς => Ldr_importCount sς x0 ) (ci := 8) (as := []) rfl rfl rfl q1637 qs49 mdX8_191 (ctX8_importCount x0 ) rfl (Nat.le_of_ble_eq_true rfl) (Nat.le_of_ble_eq_true rfl) (Nat.le_of_ble_eq_true rfl) pu_I dX8_typeOf_6 (fun r2 σ1 => ?_)
    refine g_icmp_ge 43 dX8_typeOf_9 (by decide) ?_ ?_
    · refine g_aload_n 0 0 dX8_typeOf_43 rfl rfl ?_
      refine g_getR fdX8_57 dX8_typeOf_44 ?_
      refine g_getR fdX8_96 dX8_typeOf_47 ?_
      refine g_iload_n 2 1 dX8_typeOf_50 rfl rfl ?_
      refine g_callV (fc := fun sς => Row_at sς (gR σ1 (gR σ1 x0 7) 4) x2) (ci := 3) (as := [iv x2]) rfl rfl rfl q1409 q1410 mdX8_174 (ctX3_at (gR σ1 (gR σ1 x0 7) 4) x2) rfl (Nat.le_of_ble_eq_true rfl) (Nat.le_of_ble_eq_true rfl) (Nat.le_of_ble_eq_true rfl) pu_I dX8_typeOf_51 (fun r4 σ3 => ?_)
      exact g_ireturn rfl dX8_typeOf_54
    · refine g_aload_n 0 0 dX8_typeOf_12 rfl rfl ?_
      refine g_iload_n 3 2 dX8_typeOf_13 rfl rfl ?_
      refine g_callV (fc := fun sς => Ldr_kindOf sς x0 x3) (ci := 8) (as := [iv x3]) rfl rfl rfl q1641 qs50 mdX8_194 (ctX8_kindOf x0 x3) rfl (Nat.le_of_ble_eq_true rfl) (Nat.le_of_ble_eq_true rfl) (Nat.le_of_ble_eq_true rfl) pu_I dX8_typeOf_14 (fun r6 σ5 => ?_)
      refine g_if_eq 23 dX8_typeOf_17 (by decide) ?_ ?_
      · refine g_iload_n 2 1 dX8_typeOf_23 rfl rfl ?_
        refine g_if_ne 34 dX8_typeOf_24 (by decide) ?_ ?_
        · refine g_iincB (w := (-1)) 1 dX8_typeOf_34 rfl (by decide) (by decide) (fun _ => rfl) (fun y7 => ?_)
          refine G.sub [1, 0, 2] rfl ?_
          exact gX8_typeOf_p37 (Ldr_typeOf_p4 n) (gX8_typeOf_p4 n) _ _ _ _
        · refine g_aload_n 0 0 dX8_typeOf_27 rfl rfl ?_
          refine g_iload_n 3 2 dX8_typeOf_28 rfl rfl ?_
          refine g_iconst (v := 0) dX8_typeOf_29 (by decide) ?_
          refine g_callV (fc := fun sς => Ldr_importCell sς x0 x3 (0 : Int32)) (ci := 8) (as := [iv x3, iv (0 : Int32)]) rfl rfl rfl q1645 qs51 mdX8_197 (ctX8_importCell x0 x3 (0 : Int32)) rfl (Nat.le_of_ble_eq_true rfl) (Nat.le_of_ble_eq_true rfl) (Nat.le_of_ble_eq_true rfl) pu_I dX8_typeOf_30 (fun r9 σ8 => ?_)
          exact g_ireturn rfl dX8_typeOf_33
      · refine g_goto 37 dX8_typeOf_20 (by decide) ?_
        exact gX8_typeOf_p37 (Ldr_typeOf_p4 n) (gX8_typeOf_p4 n) _ _ _ _
def V.Ldr_typeOf (σ : HS) (x0 : Nat) (x1 : Int32) : Option (Int32 × HS) :=
  Ldr_typeOf_p4 FU σ x0 x1 (0 : Int32)
theorem V.ctX8_typeOf (x0 : Nat) (x1 : Int32) : Ct yX8_typeOf  cX8_typeOf 4 (some .int) 3 61 eI [av x0, iv x1] (fun σ => Ldr_typeOf σ x0 x1) := by
  refine Ct.of (own := RX8) (nm := "typeOf") (desc := "(I)I") rfl (by decide) (Nat.le_of_ble_eq_true rfl) (by decide) (fun X σ => ?_)
  show G X RX8 "typeOf" cX8_typeOf 4 (some .int) 3 61 enI 0 [(0, av x0), (1, iv x1)] [] σ (Ldr_typeOf σ x0 x1)
  unfold Ldr_typeOf
  refine g_iload_n 1 1 dX8_typeOf_0 rfl rfl ?_
  refine g_istore_n 2 dX8_typeOf_1 rfl (by decide) rfl ?_
  refine g_iconst (v := 0) dX8_typeOf_2 (by decide) ?_
  refine g_istore_n 3 dX8_typeOf_3 rfl (by decide) rfl ?_
  refine G.sub [2, 1, 0] rfl ?_
  exact gX8_typeOf_p4 FU _ _ _ _
theorem V.dX8_checkExports_0 : decode cX8_checkExports 0 = .ok (.aload_n 0, 1) := by decide +kernel
theorem V.dX8_checkExports_1 : decode cX8_checkExports 1 = .ok (.getfield 57, 3) := by decide +kernel
theorem V.dX8_checkExports_4 : decode cX8_checkExports 4 = .ok (.getfield 152, 3) := by decide +kernel
theorem V.dX8_checkExports_7 : decode cX8_checkExports 7 = .ok (.astore_n 1, 1) := by decide +kernel
theorem V.dX8_checkExports_8 : decode cX8_checkExports 8 = .ok (.iconst 0, 1) := by decide +kernel
theorem V.dX8_checkExports_9 : decode cX8_checkExports 9 = .ok (.istore_n 2, 1) := by decide +kernel
theorem V.dX8_checkExports_10 : decode cX8_checkExports 10 = .ok (.iload_n 2, 1) := by decide +kernel
theorem V.dX8_checkExports_11 : decode cX8_checkExports 11 = .ok (.aload_n 1, 1) := by decide +kernel
theorem V.dX8_checkExports_12 : decode cX8_checkExports 12 = .ok (.invokevirtual 100, 3) := by decide +kernel
theorem V.dX8_checkExports_15 : decode cX8_checkExports 15 = .ok (.if_icmp .ge 89, 3) := by decide +kernel
theorem V.dX8_checkExports_18 : decode cX8_checkExports 18 = .ok (.aload_n 0, 1) := by decide +kernel
theorem V.dX8_checkExports_19 : decode cX8_checkExports 19 = .ok (.aload_n 1, 1) := by decide +kernel
theorem V.dX8_checkExports_20 : decode cX8_checkExports 20 = .ok (.iload_n 2, 1) := by decide +kernel
theorem V.dX8_checkExports_21 : decode cX8_checkExports 21 = .ok (.iconst 1, 1) := by decide +kernel
theorem V.dX8_checkExports_22 : decode cX8_checkExports 22 = .ok (.iadd, 1) := by decide +kernel
theorem V.dX8_checkExports_23 : decode cX8_checkExports 23 = .ok (.invokevirtual 174, 3) := by decide +kernel
theorem V.dX8_checkExports_26 : decode cX8_checkExports 26 = .ok (.invokestatic 176, 3) := by decide +kernel
theorem V.dX8_checkExports_29 : decode cX8_checkExports 29 = .ok (.aload_n 0, 1) := by decide +kernel
theorem V.dX8_checkExports_30 : decode cX8_checkExports 30 = .ok (.aload_n 1, 1) := by decide +kernel
theorem V.dX8_checkExports_31 : decode cX8_checkExports 31 = .ok (.iload_n 2, 1) := by decide +kernel
theorem V.dX8_checkExports_32 : decode cX8_checkExports 32 = .ok (.invokevirtual 174, 3) := by decide +kernel
theorem V.dX8_checkExports_35 : decode cX8_checkExports 35 = .ok (.invokevirtual 216, 3) := by decide +kernel
theorem V.dX8_checkExports_38 : decode cX8_checkExports 38 = .ok (.i2l, 1) := by decide +kernel
theorem V.dX8_checkExports_39 : decode cX8_checkExports 39 = .ok (.lcmp, 1) := by decide +kernel
theorem V.dX8_checkExports_40 : decode cX8_checkExports 40 = .ok (.ifCond .ge 7, 3) := by decide +kernel
theorem V.dX8_checkExports_43 : decode cX8_checkExports 43 = .ok (.iconst 1, 1) := by decide +kernel
theorem V.dX8_checkExports_44 : decode cX8_checkExports 44 = .ok (.goto 4, 3) := by decide +kernel
theorem V.dX8_checkExports_47 : decode cX8_checkExports 47 = .ok (.iconst 0, 1) := by decide +kernel
theorem V.dX8_checkExports_48 : decode cX8_checkExports 48 = .ok (.bipush 24, 2) := by decide +kernel
theorem V.dX8_checkExports_50 : decode cX8_checkExports 50 = .ok (.aload_n 0, 1) := by decide +kernel
theorem V.dX8_checkExports_51 : decode cX8_checkExports 51 = .ok (.bipush 7, 2) := by decide +kernel
theorem V.dX8_checkExports_53 : decode cX8_checkExports 53 = .ok (.invokevirtual 128, 3) := by decide +kernel
theorem V.dX8_checkExports_56 : decode cX8_checkExports 56 = .ok (.invokevirtual 132, 3) := by decide +kernel
theorem V.dX8_checkExports_59 : decode cX8_checkExports 59 = .ok (.iconst 0, 1) := by decide +kernel
theorem V.dX8_checkExports_60 : decode cX8_checkExports 60 = .ok (.istore_n 3, 1) := by decide +kernel
theorem V.dX8_checkExports_61 : decode cX8_checkExports 61 = .ok (.iload_n 3, 1) := by decide +kernel
theorem V.dX8_checkExports_62 : decode cX8_checkExports 62 = .ok (.iload_n 2, 1) := by decide +kernel
theorem V.dX8_checkExports_63 : decode cX8_checkExports 63 = .ok (.if_icmp .ge 35, 3) := by decide +kernel
theorem V.dX8_checkExports_66 : decode cX8_checkExports 66 = .ok (.aload_n 0, 1) := by decide +kernel
theorem V.dX8_checkExports_67 : decode cX8_checkExports 67 = .ok (.aload_n 0, 1) := by decide +kernel
theorem V.dX8_checkExports_68 : decode cX8_checkExports 68 = .ok (.iload_n 3, 1) := by decide +kernel
theorem V.dX8_checkExports_69 : decode cX8_checkExports 69 = .ok (.iload_n 2, 1) := by decide +kernel
theorem V.dX8_checkExports_70 : decode cX8_checkExports 70 = .ok (.invokevirtual 219, 3) := by decide +kernel
theorem V.dX8_checkExports_73 : decode cX8_checkExports 73 = .ok (.ifCond .ne 7, 3) := by decide +kernel
theorem V.dX8_checkExports_76 : decode cX8_checkExports 76 = .ok (.iconst 1, 1) := by decide +kernel
theorem V.dX8_checkExports_77 : decode cX8_checkExports 77 = .ok (.goto 4, 3) := by decide +kernel
theorem V.dX8_checkExports_80 : decode cX8_checkExports 80 = .ok (.iconst 0, 1) := by decide +kernel
theorem V.dX8_checkExports_81 : decode cX8_checkExports 81 = .ok (.bipush 23, 2) := by decide +kernel
theorem V.dX8_checkExports_83 : decode cX8_checkExports 83 = .ok (.aload_n 0, 1) := by decide +kernel
theorem V.dX8_checkExports_84 : decode cX8_checkExports 84 = .ok (.bipush 7, 2) := by decide +kernel
theorem V.dX8_checkExports_86 : decode cX8_checkExports 86 = .ok (.invokevirtual 128, 3) := by decide +kernel
theorem V.dX8_checkExports_89 : decode cX8_checkExports 89 = .ok (.invokevirtual 132, 3) := by decide +kernel
theorem V.dX8_checkExports_92 : decode cX8_checkExports 92 = .ok (.iinc 3 4, 3) := by decide +kernel
theorem V.dX8_checkExports_95 : decode cX8_checkExports 95 = .ok (.goto (-34), 3) := by decide +kernel
theorem V.dX8_checkExports_98 : decode cX8_checkExports 98 = .ok (.iinc 2 4, 3) := by decide +kernel
theorem V.dX8_checkExports_101 : decode cX8_checkExports 101 = .ok (.goto (-91), 3) := by decide +kernel
theorem V.dX8_checkExports_104 : decode cX8_checkExports 104 = .ok (.aload_n 0, 1) := by decide +kernel
theorem V.dX8_checkExports_105 : decode cX8_checkExports 105 = .ok (.getfield 57, 3) := by decide +kernel
theorem V.dX8_checkExports_108 : decode cX8_checkExports 108 = .ok (.getfield 223, 3) := by decide +kernel
theorem V.dX8_checkExports_111 : decode cX8_checkExports 111 = .ok (.ifCond .ne 4, 3) := by decide +kernel
theorem V.dX8_checkExports_114 : decode cX8_checkExports 114 = .ok (.return_, 1) := by decide +kernel
theorem V.dX8_checkExports_115 : decode cX8_checkExports 115 = .ok (.aload_n 0, 1) := by decide +kernel
theorem V.dX8_checkExports_116 : decode cX8_checkExports 116 = .ok (.getfield 57, 3) := by decide +kernel
theorem V.dX8_checkExports_119 : decode cX8_checkExports 119 = .ok (.getfield 227, 3) := by decide +kernel
theorem V.dX8_checkExports_122 : decode cX8_checkExports 122 = .ok (.invokestatic 176, 3) := by decide +kernel
theorem V.dX8_checkExports_125 : decode cX8_checkExports 125 = .ok (.aload_n 0, 1) := by decide +kernel
theorem V.dX8_checkExports_126 : decode cX8_checkExports 126 = .ok (.iconst 0, 1) := by decide +kernel
theorem V.dX8_checkExports_127 : decode cX8_checkExports 127 = .ok (.invokevirtual 216, 3) := by decide +kernel
theorem V.dX8_checkExports_130 : decode cX8_checkExports 130 = .ok (.i2l, 1) := by decide +kernel
theorem V.dX8_checkExports_131 : decode cX8_checkExports 131 = .ok (.lcmp, 1) := by decide +kernel
theorem V.dX8_checkExports_132 : decode cX8_checkExports 132 = .ok (.ifCond .ge 7, 3) := by decide +kernel
theorem V.dX8_checkExports_135 : decode cX8_checkExports 135 = .ok (.iconst 1, 1) := by decide +kernel
theorem V.dX8_checkExports_136 : decode cX8_checkExports 136 = .ok (.goto 4, 3) := by decide +kernel
theorem V.dX8_checkExports_139 : decode cX8_checkExports 139 = .ok (.iconst 0, 1) := by decide +kernel
theorem V.dX8_checkExports_140 : decode cX8_checkExports 140 = .ok (.istore_n 2, 1) := by decide +kernel
theorem V.dX8_checkExports_141 : decode cX8_checkExports 141 = .ok (.aload_n 0, 1) := by decide +kernel
theorem V.dX8_checkExports_142 : decode cX8_checkExports 142 = .ok (.iload_n 2, 1) := by decide +kernel
theorem V.dX8_checkExports_143 : decode cX8_checkExports 143 = .ok (.ifCond .eq 49, 3) := by decide +kernel
theorem V.dX8_checkExports_146 : decode cX8_checkExports 146 = .ok (.aload_n 0, 1) := by decide +kernel
theorem V.dX8_checkExports_147 : decode cX8_checkExports 147 = .ok (.getfield 57, 3) := by decide +kernel
theorem V.dX8_checkExports_150 : decode cX8_checkExports 150 = .ok (.aload_n 0, 1) := by decide +kernel
theorem V.dX8_checkExports_151 : decode cX8_checkExports 151 = .ok (.aload_n 0, 1) := by decide +kernel
theorem V.dX8_checkExports_152 : decode cX8_checkExports 152 = .ok (.getfield 57, 3) := by decide +kernel
theorem V.dX8_checkExports_155 : decode cX8_checkExports 155 = .ok (.getfield 227, 3) := by decide +kernel
theorem V.dX8_checkExports_158 : decode cX8_checkExports 158 = .ok (.invokevirtual 230, 3) := by decide +kernel
theorem V.dX8_checkExports_161 : decode cX8_checkExports 161 = .ok (.invokevirtual 165, 3) := by decide +kernel
theorem V.dX8_checkExports_164 : decode cX8_checkExports 164 = .ok (.ifCond .ne 28, 3) := by decide +kernel
theorem V.dX8_checkExports_167 : decode cX8_checkExports 167 = .ok (.aload_n 0, 1) := by decide +kernel
theorem V.dX8_checkExports_168 : decode cX8_checkExports 168 = .ok (.getfield 57, 3) := by decide +kernel
theorem V.dX8_checkExports_171 : decode cX8_checkExports 171 = .ok (.aload_n 0, 1) := by decide +kernel
theorem V.dX8_checkExports_172 : decode cX8_checkExports 172 = .ok (.aload_n 0, 1) := by decide +kernel
theorem V.dX8_checkExports_173 : decode cX8_checkExports 173 = .ok (.getfield 57, 3) := by decide +kernel
theorem V.dX8_checkExports_176 : decode cX8_checkExports 176 = .ok (.getfield 227, 3) := by decide +kernel
theorem V.dX8_checkExports_179 : decode cX8_checkExports 179 = .ok (.invokevirtual 230, 3) := by decide +kernel
theorem V.dX8_checkExports_182 : decode cX8_checkExports 182 = .ok (.invokevirtual 168, 3) := by decide +kernel
theorem V.dX8_checkExports_185 : decode cX8_checkExports 185 = .ok (.ifCond .ne 7, 3) := by decide +kernel
theorem V.dX8_checkExports_188 : decode cX8_checkExports 188 = .ok (.iconst 1, 1) := by decide +kernel
theorem V.dX8_checkExports_189 : decode cX8_checkExports 189 = .ok (.goto 4, 3) := by decide +kernel
theorem V.dX8_checkExports_192 : decode cX8_checkExports 192 = .ok (.iconst 0, 1) := by decide +kernel
theorem V.dX8_checkExports_193 : decode cX8_checkExports 193 = .ok (.bipush 25, 2) := by decide +kernel
theorem V.dX8_checkExports_195 : decode cX8_checkExports 195 = .ok (.aload_n 0, 1) := by decide +kernel
theorem V.dX8_checkExports_196 : decode cX8_checkExports 196 = .ok (.bipush 8, 2) := by decide +kernel
theorem V.dX8_checkExports_198 : decode cX8_checkExports 198 = .ok (.invokevirtual 128, 3) := by decide +kernel
theorem V.dX8_checkExports_201 : decode cX8_checkExports 201 = .ok (.invokevirtual 132, 3) := by decide +kernel
theorem V.dX8_checkExports_204 : decode cX8_checkExports 204 = .ok (.return_, 1) := by decide +kernel
theorem V.fdX8_223 : FD RX8 223 2 19 0 := ⟨(RX2, TX2, 21), tyX2, rfl, rfl, in_X2, by decide, Or.inr ⟨_, q487⟩, rfl⟩
theorem V.fdX8_227 : FD RX8 227 2 17 0 := ⟨(RX2, TX2, 21), tyX2, rfl, rfl, in_X2, by decide, Or.inr ⟨_, q481⟩, rfl⟩
theorem V.mdX8_216 : MD RX8 216 yX8_all cX8_all 3 (some .int) 1 := ⟨Or.inl q1671, q368, q1674, by decide, by decide, by decide +kernel⟩
theorem V.mdX8_230 : MD RX8 230 yX8_typeOf cX8_typeOf 4 (some .int) 1 := ⟨Or.inl q1679, q368, q1682, by decide, by decide, by decide +kernel⟩
theorem V.mdX8_219 : MD RX8 219 yX8_isLike cX8_isLike 7 (some .boolean) 2 := ⟨Or.inl q1675, q368, q1678, by decide, by decide, by decide +kernel⟩
/-! ModuleEngine$Loader.checkExports()V -/
def V.Ldr_checkExports_p193  (σ : HS) (x0 : Nat) (s0 : Int32) (s1 : Nat) : Option ((Nat ⊕ Unit) × HS) :=
  ck (tg σ x0 = 9) <| cl (Ldr_section σ x0 (8 : Int32)) fun r2 σ1 =>
  ck (tg σ1 s1 = 9) <| clT (Ldr_need σ1 s1 s0 (25 : Int32) r2) fun _ σ3 =>
  some (.inr (), σ3)
theorem V.gX8_checkExports_p193 {X : CX}  (σ : HS) (x0 : Nat) (s0 : Int32) (s1 : Nat) : G X RX8 "checkExports" cX8_checkExports 4 none 8 130 (enX enV (cxz X)) 193 [(0, av x0)] [iv s0, av s1] σ (Ldr_checkExports_p193 σ x0 s0 s1) := by
  unfold Ldr_checkExports_p193
  refine g_bipush (v := 25) dX8_checkExports_193 (by decide) ?_
  refine g_aload_n 0 0 dX8_checkExports_195 rfl rfl ?_
  refine g_bipush (v := 8) dX8_checkExports_196 (by decide) ?_
  refine g_callV (fc := fun sς => Ldr_section sς x0 (8 : Int32)) (ci := 8) (as := [iv (8 : Int32)]) rfl rfl rfl q1569 qs38 mdX8_128 (ctX8_section x0 (8 : Int32)) rfl (Nat.le_of_ble_eq_true rfl) (Nat.le_of_ble_eq_true rfl) (Nat.le_of_ble_eq_true rfl) pu_I dX8_checkExports_198 (fun r2 σ1 => ?_)
  refine g_callVT (fc := fun sς => Ldr_need sς s1 s0 (25 : Int32) r2) (ci := 8) (as := [iv s0, iv (25 : Int32), iv r2]) rfl rfl rfl q1590 qs42 q1588 mdX8_132 (ctX8_need s1 s0 (25 : Int32) r2) rfl (Nat.le_of_ble_eq_true rfl) (Nat.le_of_ble_eq_true rfl) (Nat.le_of_ble_eq_true rfl) pu_V (by decide) dX8_checkExports_201 (fun _ σ3 => ?_)
  exact g_return rfl dX8_checkExports_204
def V.Ldr_checkExports_p192  (σ : HS) (x0 : Nat) (s0 : Nat) : Option ((Nat ⊕ Unit) × HS) :=
  Ldr_checkExports_p193 σ x0 (0 : Int32) s0
theorem V.gX8_checkExports_p192 {X : CX}  (σ : HS) (x0 : Nat) (s0 : Nat) : G X RX8 "checkExports" cX8_checkExports 4 none 8 130 (enX enV (cxz X)) 192 [(0, av x0)] [av s0] σ (Ldr_checkExports_p192 σ x0 s0) := by
  unfold Ldr_checkExports_p192
  refine g_iconst (v := 0) dX8_checkExports_192 (by decide) ?_
  exact gX8_checkExports_p193 _ _ _ _
def V.Ldr_checkExports_p140  (σ : HS) (x0 : Nat) (s0 : Int32) : Option ((Nat ⊕ Unit) × HS) :=
  if s0 = 0 then (
    Ldr_checkExports_p192 σ x0 x0)
  else (
    ck (tg σ x0 = 9) <|
    ck (tg σ x0 = 9) <|
    ck (tg σ (gR σ x0 7) = 3) <|
    ck (tg σ x0 = 9) <| cl (Ldr_typeOf σ x0 (gI σ (gR σ x0 7) 17)) fun r2 σ1 =>
    ck (tg σ1 (gR σ x0 7) = 3) <| cl (Mod_parameters σ1 (gR σ x0 7) r2) fun r4 σ3 =>
    if r4 = 0 then (
      ck (tg σ3 x0 = 9) <|
      ck (tg σ3 x0 = 9) <|
      ck (tg σ3 (gR σ3 x0 7) = 3) <|
      ck (tg σ3 x0 = 9) <| cl (Ldr_typeOf σ3 x0 (gI σ3 (gR σ3 x0 7) 17)) fun r6 σ5 =>
      ck (tg σ5 (gR σ3 x0 7) = 3) <| cl (Mod_results σ5 (gR σ3 x0 7) r6) fun r8 σ7 =>
      if r8 = 0 then (
        Ldr_checkExports_p193 σ7 x0 (1 : Int32) x0)
      else (
        Ldr_checkExports_p192 σ7 x0 x0))
    else (
      Ldr_checkExports_p192 σ3 x0 x0))
theorem V.gX8_checkExports_p140 {X : CX}  (σ : HS) (x0 : Nat) (s0 : Int32) : G X RX8 "checkExports" cX8_checkExports 4 none 8 130 (enX enV (cxz X)) 140 [(0, av x0)] [iv s0] σ (Ldr_checkExports_p140 σ x0 s0) := by
  unfold Ldr_checkExports_p140
  refine g_istore_n 2 dX8_checkExports_140 rfl (by decide) rfl ?_
  refine g_aload_n 0 1 dX8_checkExports_141 rfl rfl ?_
  refine g_iload_n 2 0 dX8_checkExports_142 rfl rfl ?_
  refine g_if_eq 192 dX8_checkExports_143 (by decide) ?_ ?_
  · refine G.sub [1] rfl ?_
    exact gX8_checkExports_p192 _ _ _
  · refine g_aload_n 0 1 dX8_checkExports_146 rfl rfl ?_
    refine g_getR fdX8_57 dX8_checkExports_147 ?_
    refine g_aload_n 0 1 dX8_checkExports_150 rfl rfl ?_
    refine g_aload_n 0 1 dX8_checkExports_151 rfl rfl ?_
    refine g_getR fdX8_57 dX8_checkExports_152 ?_
    refine g_getI fdX8_227 dX8_checkExports_155 ?_
    refine g_callV (fc := fun sς => Ldr_typeOf sς x0 (gI σ (gR σ x0 7) 17)) (ci := 8) (as := [iv (gI σ (gR σ x0 7) 17)]) rfl rfl rfl q1681 qs59 mdX8_230 (ctX8_typeOf x0 (gI σ (gR σ x0 7) 17)) rfl (Nat.le_of_ble_eq_true rfl) (Nat.le_of_ble_eq_true rfl) (Nat.le_of_ble_eq_true rfl) pu_I dX8_checkExports_158 (fun r2 σ1 => ?_)
    refine g_callV (fc := fun sς => Mod_parameters sς (gR σ x0 7) r2) (ci := 2) (as := [iv r2]) rfl rfl rfl q1558 q1559 mdX8_165 (ctX2_parameters (gR σ x0 7) r2) rfl (Nat.le_of_ble_eq_true rfl) (Nat.le_of_ble_eq_true rfl) (Nat.le_of_ble_eq_true rfl) pu_I dX8_checkExports_161 (fun r4 σ3 => ?_)
    refine g_if_ne 192 dX8_checkExports_164 (by decide) ?_ ?_
    · refine G.sub [1] rfl ?_
      exact gX8_checkExports_p192 _ _ _
    · refine g_aload_n 0 1 dX8_checkExports_167 rfl rfl ?_
      refine g_getR fdX8_57 dX8_checkExports_168 ?_
      refine g_aload_n 0 1 dX8_checkExports_171 rfl rfl ?_
      refine g_aload_n 0 1 dX8_checkExports_172 rfl rfl ?_
      refine g_getR fdX8_57 dX8_checkExports_173 ?_
      refine g_getI fdX8_227 dX8_checkExports_176 ?_
      refine g_callV (fc := fun sς => Ldr_typeOf sς x0 (gI σ3 (gR σ3 x0 7) 17)) (ci := 8) (as := [iv (gI σ3 (gR σ3 x0 7) 17)]) rfl rfl rfl q1681 qs59 mdX8_230 (ctX8_typeOf x0 (gI σ3 (gR σ3 x0 7) 17)) rfl (Nat.le_of_ble_eq_true rfl) (Nat.le_of_ble_eq_true rfl) (Nat.le_of_ble_eq_true rfl) pu_I dX8_checkExports_179 (fun r6 σ5 => ?_)
      refine g_callV (fc := fun sς => Mod_results sς (gR σ3 x0 7) r6) (ci := 2) (as := [iv r6]) rfl rfl rfl q1563 q1564 mdX8_168 (ctX2_results (gR σ3 x0 7) r6) rfl (Nat.le_of_ble_eq_true rfl) (Nat.le_of_ble_eq_true rfl) (Nat.le_of_ble_eq_true rfl) pu_I dX8_checkExports_182 (fun r8 σ7 => ?_)
      refine g_if_ne 192 dX8_checkExports_185 (by decide) ?_ ?_
      · refine G.sub [1] rfl ?_
        exact gX8_checkExports_p192 _ _ _
      · refine g_iconst (v := 1) dX8_checkExports_188 (by decide) ?_
        refine g_goto 193 dX8_checkExports_189 (by decide) ?_
        refine G.sub [1] rfl ?_
        exact gX8_checkExports_p193 _ _ _ _
def V.Ldr_checkExports_p81 (rec10 : HS → Nat → Nat → Int32 → Option ((Nat ⊕ Unit) × HS)) (rec61 : HS → Nat → Nat → Int32 → Int32 → Option ((Nat ⊕ Unit) × HS)) (σ : HS) (x0 : Nat) (x1 : Nat) (x2 : Int32) (x3 : Int32) (s0 : Int32) (s1 : Nat) : Option ((Nat ⊕ Unit) × HS) :=
  ck (tg σ x0 = 9) <| cl (Ldr_section σ x0 (7 : Int32)) fun r2 σ1 =>
  ck (tg σ1 s1 = 9) <| clT (Ldr_need σ1 s1 s0 (23 : Int32) r2) fun _ σ3 =>
  bn (x3 + (4 : Int32)) fun y4 =>
  rec61 σ3 x0 x1 x2 y4
theorem V.gX8_checkExports_p81 {X : CX} (rec10 : HS → Nat → Nat → Int32 → Option ((Nat ⊕ Unit) × HS)) (hrec10 : ∀ (σ : HS) (x0 : Nat) (x1 : Nat) (x2 : Int32), G X RX8 "checkExports" cX8_checkExports 4 none 8 130 (enX enV (cxz X)) 10 [(0, av x0), (1, av x1), (2, iv x2)] [] σ (rec10 σ x0 x1 x2)) (rec61 : HS → Nat → Nat → Int32 → Int32 → Option ((Nat ⊕ Unit) × HS)) (hrec61 : ∀ (σ : HS) (x0 : Nat) (x1 : Nat) (x2 : Int32) (x3 : Int32), G X RX8 "checkExports" cX8_checkExports 4 none 8 130 (enX enV (cxz X)) 61 [(0, av x0), (1, av x1), (2, iv x2), (3, iv x3)] [] σ (rec61 σ x0 x1 x2 x3)) (σ : HS) (x0 : Nat) (x1 : Nat) (x2 : Int32) (x3 : Int32) (s0 : Int32) (s1 : Nat) : G X RX8 "checkExports" cX8_checkExports 4 none 8 130 (enX enV (cxz X)) 81 [(0, av x0), (1, av x1), (2, iv x2), (3, iv x3)] [iv s0, av s1] σ (Ldr_checkExports_p81 rec10 rec61 σ x0 x1 x2 x3 s0 s1) := by
  unfold Ldr_checkExports_p81
  refine g_bipush (v := 23) dX8_checkExports_81 (by decide) ?_
  refine g_aload_n 0 0 dX8_checkExports_83 rfl rfl ?_
  refine g_bipush (v := 7) dX8_checkExports_84 (by decide) ?_
  refine g_callV (fc := fun sς => Ldr_section sς x0 (7 : Int32)) (ci := 8) (as := [iv (7 : Int32)]) rfl rfl rfl q1569 qs38 mdX8_128 (ctX8_section x0 (7 : Int32)) rfl (Nat.le_of_ble_eq_true rfl) (Nat.le_of_ble_eq_true rfl) (Nat.le_of_ble_eq_true rfl) pu_I dX8_checkExports_86 (fun r2 σ1 => ?_)
  refine g_callVT (fc := fun sς => Ldr_need sς s1 s0 (23 : Int32) r2) (ci := 8) (as := [iv s0, iv (23 : Int32), iv r2]) rfl rfl rfl q1590 qs42 q1588 mdX8_132 (ctX8_need s1 s0 (23 : Int32) r2) rfl (Nat.le_of_ble_eq_true rfl) (Nat.le_of_ble_eq_true rfl) (Nat.le_of_ble_eq_true rfl) pu_V (by decide) dX8_checkExports_89 (fun _ σ3 => ?_)
  refine g_iincB (w := 4) 3 dX8_checkExports_92 rfl (by decide) (by decide) (fun _ => rfl) (fun y4 => ?_)
  refine g_goto 61 dX8_checkExports_95 (by decide) ?_
  refine G.sub [1, 2, 3, 0] rfl ?_
  exact hrec61 _ _ _ _ _
def V.Ldr_checkExports_p61 (rec10 : HS → Nat → Nat → Int32 → Option ((Nat ⊕ Unit) × HS)) : Nat → HS → Nat → Nat → Int32 → Int32 → Option ((Nat ⊕ Unit) × HS)
  | 0, _, _, _, _, _ => none
  | n + 1, σ, x0, x1, x2, x3 =>
    if x2 ≤ x3 then (
      bn (x2 + (4 : Int32)) fun y1 =>
      rec10 σ x0 x1 y1)
    else (
      ck (tg σ x0 = 9) <| cl (Ldr_isLike σ x0 x3 x2) fun r3 σ2 =>
      if r3 = 0 then (
        Ldr_checkExports_p81 rec10 (Ldr_checkExports_p61 rec10 n) σ2 x0 x1 x2 x3 (1 : Int32) x0)
      else (
        Ldr_checkExports_p81 rec10 (Ldr_checkExports_p61 rec10 n) σ2 x0 x1 x2 x3 (0 : Int32) x0))
theorem V.gX8_checkExports_p61 {X : CX} (rec10 : HS → Nat → Nat → Int32 → Option ((Nat ⊕ Unit) × HS)) (hrec10 : ∀ (σ : HS) (x0 : Nat) (x1 : Nat) (x2 : Int32), G X RX8 "checkExports" cX8_checkExports 4 none 8 130 (enX enV (cxz X)) 10 [(0, av x0), (1, av x1), (2, iv x2)] [] σ (rec10 σ x0 x1 x2)) : ∀ (n : Nat) (σ : HS) (x0 : Nat) (x1 : Nat) (x2 : Int32) (x3 : Int32), G X RX8 "checkExports" cX8_checkExports 4 none 8 130 (enX enV (cxz X)) 61 [(0, av x0), (1, av x1), (2, iv x2), (3, iv x3)] [] σ (Ldr_checkExports_p61 rec10 n σ x0 x1 x2 x3)
  | 0, σ, x0, x1, x2, x3 => by rw [Ldr_checkExports_p61]; exact G.nul
  | n + 1, σ, x0, x1, x2, x3 => by
    rw [Ldr_checkExports_p61]
    refine g_iload_n 3 3 dX8_checkExports_61 rfl rfl ?_
    refine g_iload_n 2 2 dX8_checkExports_62 rfl rfl ?_
    refine g_icmp_ge 98 dX8_checkExports_63 (by decide) ?_ ?_
    · refine g_iincB (w := 4) 2 dX8_checkExports_98 rfl (by decide) (by decide) (fun _ => rfl) (fun y1 => ?_)
      refine g_goto 10 dX8_checkExports_101 (by decide) ?_
      refine G.sub [1, 2, 0] rfl ?_
      exact hrec10 _ _ _ _
    · refine g_aload_n 0 0 dX8_checkExports_66 rfl rfl ?_
      refine g_aload_n 0 0 dX8_checkExports_67 rfl rfl ?_
      refine g_iload_n 3 3 dX8_checkExports_68 rfl rfl ?_
      refine g_iload_n 2 2 dX8_checkExports_69 rfl rfl ?_
      refine g_callV (fc := fun sς => Ldr_isLike sς x0 x3 x2) (ci := 8) (as := [iv x3, iv x2]) rfl rfl rfl q1677 qs58 mdX8_219 (ctX8_isLike x0 x3 x2) rfl (Nat.le_of_ble_eq_true rfl) (Nat.le_of_ble_eq_true rfl) (Nat.le_of_ble_eq_true rfl) pu_I dX8_checkExports_70 (fun r3 σ2 => ?_)
      refine g_if_ne 80 dX8_checkExports_73 (by decide) ?_ ?_
      · refine g_iconst (v := 0) dX8_checkExports_80 (by decide) ?_
        exact gX8_checkExports_p81 rec10 hrec10 (Ldr_checkExports_p61 rec10 n) (gX8_checkExports_p61 rec10 hrec10 n) _ _ _ _ _ _ _
      · refine g_iconst (v := 1) dX8_checkExports_76 (by decide) ?_
        refine g_goto 81 dX8_checkExports_77 (by decide) ?_
        exact gX8_checkExports_p81 rec10 hrec10 (Ldr_checkExports_p61 rec10 n) (gX8_checkExports_p61 rec10 hrec10 n) _ _ _ _ _ _ _
def V.Ldr_checkExports_p48 (rec10 : HS → Nat → Nat → Int32 → Option ((Nat ⊕ Unit) × HS)) (σ : HS) (x0 : Nat) (x1 : Nat) (x2 : Int32) (s0 : Int32) (s1 : Nat) : Option ((Nat ⊕ Unit) × HS) :=
  ck (tg σ x0 = 9) <| cl (Ldr_section σ x0 (7 : Int32)) fun r2 σ1 =>
  ck (tg σ1 s1 = 9) <| clT (Ldr_need σ1 s1 s0 (24 : Int32) r2) fun _ σ3 =>
  Ldr_checkExports_p61 rec10 FU σ3 x0 x1 x2 (0 : Int32)
theorem V.gX8_checkExports_p48 {X : CX} (rec10 : HS → Nat → Nat → Int32 → Option ((Nat ⊕ Unit) × HS)) (hrec10 : ∀ (σ : HS) (x0 : Nat) (x1 : Nat) (x2 : Int32), G X RX8 "checkExports" cX8_checkExports 4 none 8 130 (enX enV (cxz X)) 10 [(0, av x0), (1, av x1), (2, iv x2)] [] σ (rec10 σ x0 x1 x2)) (σ : HS) (x0 : Nat) (x1 : Nat) (x2 : Int32) (s0 : Int32) (s1 : Nat) : G X RX8 "checkExports" cX8_checkExports 4 none 8 130 (enX enV (cxz X)) 48 [(0, av x0), (1, av x1), (2, iv x2)] [iv s0, av s1] σ (Ldr_checkExports_p48 rec10 σ x0 x1 x2 s0 s1) := by
  unfold Ldr_checkExports_p48
  refine g_bipush (v := 24) dX8_checkExports_48 (by decide) ?_
  refine g_aload_n 0 0 dX8_checkExports_50 rfl rfl ?_
  refine g_bipush (v := 7) dX8_checkExports_51 (by decide) ?_
  refine g_callV (fc := fun sς => Ldr_section sς x0 (7 : Int32)) (ci := 8) (as := [iv (7 : Int32)]) rfl rfl rfl q1569 qs38 mdX8_128 (ctX8_section x0 (7 : Int32)) rfl (Nat.le_of_ble_eq_true rfl) (Nat.le_of_ble_eq_true rfl) (Nat.le_of_ble_eq_true rfl) pu_I dX8_checkExports_53 (fun r2 σ1 => ?_)
  refine g_callVT (fc := fun sς => Ldr_need sς s1 s0 (24 : Int32) r2) (ci := 8) (as := [iv s0, iv (24 : Int32), iv r2]) rfl rfl rfl q1590 qs42 q1588 mdX8_132 (ctX8_need s1 s0 (24 : Int32) r2) rfl (Nat.le_of_ble_eq_true rfl) (Nat.le_of_ble_eq_true rfl) (Nat.le_of_ble_eq_true rfl) pu_V (by decide) dX8_checkExports_56 (fun _ σ3 => ?_)
  refine g_iconst (v := 0) dX8_checkExports_59 (by decide) ?_
  refine g_istore_n 3 dX8_checkExports_60 rfl (by decide) rfl ?_
  refine G.sub [1, 2, 3, 0] rfl ?_
  exact gX8_checkExports_p61 rec10 hrec10 FU _ _ _ _ _
def V.Ldr_checkExports_p10  : Nat → HS → Nat → Nat → Int32 → Option ((Nat ⊕ Unit) × HS)
  | 0, _, _, _, _ => none
  | n + 1, σ, x0, x1, x2 =>
    ck (tg σ x1 = 4) <| cl (Row_size σ x1 ) fun r2 σ1 =>
    if r2 ≤ x2 then (
      ck (tg σ1 x0 = 9) <|
      ck (tg σ1 (gR σ1 x0 7) = 3) <|
      if (gI σ1 (gR σ1 x0 7) 19) = 0 then (
        some (.inr (), σ1))
      else (
        ck (tg σ1 x0 = 9) <|
        ck (tg σ1 (gR σ1 x0 7) = 3) <|
        cl (Mod_wide σ1 (gI σ1 (gR σ1 x0 7) 17)) fun r4 σ3 =>
        ck (tg σ3 x0 = 9) <| cl (Ldr_all σ3 x0 (0 : Int32)) fun r6 σ5 =>
        if r6.toInt64 ≤ r4 then (
          Ldr_checkExports_p140 σ5 x0 (0 : Int32))
        else (
          Ldr_checkExports_p140 σ5 x0 (1 : Int32))))
    else (
      ck (tg σ1 x1 = 4) <| cl (Row_at σ1 x1 (x2 + (1 : Int32))) fun r8 σ7 =>
      cl (Mod_wide σ7 r8) fun r10 σ9 =>
      ck (tg σ9 x1 = 4) <| cl (Row_at σ9 x1 x2) fun r12 σ11 =>
      ck (tg σ11 x0 = 9) <| cl (Ldr_all σ11 x0 r12) fun r14 σ13 =>
      if r14.toInt64 ≤ r10 then (
        Ldr_checkExports_p48 (Ldr_checkExports_p10 n) σ13 x0 x1 x2 (0 : Int32) x0)
      else (
        Ldr_checkExports_p48 (Ldr_checkExports_p10 n) σ13 x0 x1 x2 (1 : Int32) x0))
theorem V.gX8_checkExports_p10 {X : CX}  : ∀ (n : Nat) (σ : HS) (x0 : Nat) (x1 : Nat) (x2 : Int32), G X RX8 "checkExports" cX8_checkExports 4 none 8 130 (enX enV (cxz X)) 10 [(0, av x0), (1, av x1), (2, iv x2)] [] σ (Ldr_checkExports_p10 n σ x0 x1 x2)
  | 0, σ, x0, x1, x2 => by rw [Ldr_checkExports_p10]; exact G.nul
  | n + 1, σ, x0, x1, x2 => by
    rw [Ldr_checkExports_p10]
    refine g_iload_n 2 2 dX8_checkExports_10 rfl rfl ?_
    refine g_aload_n 1 1 dX8_checkExports_11 rfl rfl ?_
    refine g_callV (fc := fun sς => Row_size sς x1 ) (ci := 3) (as := []) rfl rfl rfl q1421 q1422 mdX8_100 (ctX3_size x1 ) rfl (Nat.le_of_ble_eq_true rfl) (Nat.le_of_ble_eq_true rfl) (Nat.le_of_ble_eq_true rfl) pu_I dX8_checkExports_12 (fun r2 σ1 => ?_)
    refine g_icmp_ge 104 dX8_checkExports_15 (by decide) ?_ ?_
    · refine g_aload_n 0 0 dX8_checkExports_104 rfl rfl ?_
      refine g_getR fdX8_57 dX8_checkExports_105 ?_
      refine g_getI fdX8_223 dX8_checkExports_108 ?_
      refine g_if_ne 115 dX8_checkExports_111 (by decide) ?_ ?_
      · refine g_aload_n 0 0 dX8_checkExports_115 rfl rfl ?_
        refine g_getR fdX8_57 dX8_checkExports_116 ?_
        refine g_getI fdX8_227 dX8_checkExports_119 ?_
        refine g_callS (fc := fun sς => Mod_wide sς (gI σ1 (gR σ1 x0 7) 17)) (as := [iv (gI σ1 (gR σ1 x0 7) 17)]) q1376 mdX8_176 (ctX2_wide (gI σ1 (gR σ1 x0 7) 17)) rfl (Nat.le_of_ble_eq_true rfl) (Nat.le_of_ble_eq_true rfl) (Nat.le_of_ble_eq_true rfl) pu_J dX8_checkExports_122 (fun r4 σ3 => ?_)
        refine g_aload_n 0 0 dX8_checkExports_125 rfl rfl ?_
        refine g_iconst (v := 0) dX8_checkExports_126 (by decide) ?_
        refine g_callV (fc := fun sς => Ldr_all sς x0 (0 : Int32)) (ci := 8) (as := [iv (0 : Int32)]) rfl rfl rfl q1673 qs57 mdX8_216 (ctX8_all x0 (0 : Int32)) rfl (Nat.le_of_ble_eq_true rfl) (Nat.le_of_ble_eq_true rfl) (Nat.le_of_ble_eq_true rfl) pu_I dX8_checkExports_127 (fun r6 σ5 => ?_)
        refine g_i2l dX8_checkExports_130 ?_
        refine g_lcmp_ge 139 dX8_checkExports_131 dX8_checkExports_132 (by decide) ?_ ?_
        · refine g_iconst (v := 0) dX8_checkExports_139 (by decide) ?_
          refine G.sub [0] rfl ?_
          exact gX8_checkExports_p140 _ _ _
        · refine g_iconst (v := 1) dX8_checkExports_135 (by decide) ?_
          refine g_goto 140 dX8_checkExports_136 (by decide) ?_
          refine G.sub [0] rfl ?_
          exact gX8_checkExports_p140 _ _ _
      · exact g_return rfl dX8_checkExports_114
    · refine g_aload_n 0 0 dX8_checkExports_18 rfl rfl ?_
      refine g_aload_n 1 1 dX8_checkExports_19 rfl rfl ?_
      refine g_iload_n 2 2 dX8_checkExports_20 rfl rfl ?_
      refine g_iconst (v := 1) dX8_checkExports_21 (by decide) ?_
      refine g_iadd dX8_checkExports_22 ?_
      refine g_callV (fc := fun sς => Row_at sς x1 (x2 + (1 : Int32))) (ci := 3) (as := [iv (x2 + (1 : Int32))]) rfl rfl rfl q1409 q1410 mdX8_174 (ctX3_at x1 (x2 + (1 : Int32))) rfl (Nat.le_of_ble_eq_true rfl) (Nat.le_of_ble_eq_true rfl) (Nat.le_of_ble_eq_true rfl) pu_I dX8_checkExports_23 (fun r8 σ7 => ?_)
      refine g_callS (fc := fun sς => Mod_wide sς r8) (as := [iv r8]) q1376 mdX8_176 (ctX2_wide r8) rfl (Nat.le_of_ble_eq_true rfl) (Nat.le_of_ble_eq_true rfl) (Nat.le_of_ble_eq_true rfl) pu_J dX8_checkExports_26 (fun r10 σ9 => ?_)
      refine g_aload_n 0 0 dX8_checkExports_29 rfl rfl ?_
      refine g_aload_n 1 1 dX8_checkExports_30 rfl rfl ?_
      refine g_iload_n 2 2 dX8_checkExports_31 rfl rfl ?_
      refine g_callV (fc := fun sς => Row_at sς x1 x2) (ci := 3) (as := [iv x2]) rfl rfl rfl q1409 q1410 mdX8_174 (ctX3_at x1 x2) rfl (Nat.le_of_ble_eq_true rfl) (Nat.le_of_ble_eq_true rfl) (Nat.le_of_ble_eq_true rfl) pu_I dX8_checkExports_32 (fun r12 σ11 => ?_)
      refine g_callV (fc := fun sς => Ldr_all sς x0 r12) (ci := 8) (as := [iv r12]) rfl rfl rfl q1673 qs57 mdX8_216 (ctX8_all x0 r12) rfl (Nat.le_of_ble_eq_true rfl) (Nat.le_of_ble_eq_true rfl) (Nat.le_of_ble_eq_true rfl) pu_I dX8_checkExports_35 (fun r14 σ13 => ?_)
      refine g_i2l dX8_checkExports_38 ?_
      refine g_lcmp_ge 47 dX8_checkExports_39 dX8_checkExports_40 (by decide) ?_ ?_
      · refine g_iconst (v := 0) dX8_checkExports_47 (by decide) ?_
        exact gX8_checkExports_p48 (Ldr_checkExports_p10 n) (gX8_checkExports_p10 n) _ _ _ _ _ _
      · refine g_iconst (v := 1) dX8_checkExports_43 (by decide) ?_
        refine g_goto 48 dX8_checkExports_44 (by decide) ?_
        exact gX8_checkExports_p48 (Ldr_checkExports_p10 n) (gX8_checkExports_p10 n) _ _ _ _ _ _
def V.Ldr_checkExports (σ : HS) (x0 : Nat) : Option ((Nat ⊕ Unit) × HS) :=
  ck (tg σ x0 = 9) <|
  ck (tg σ (gR σ x0 7) = 3) <|
  bn (gR σ (gR σ x0 7) 8) fun y1 =>
  Ldr_checkExports_p10 FU σ x0 y1 (0 : Int32)
theorem V.ctX8_checkExports (x0 : Nat) : Ct yX8_checkExports  cX8_checkExports 4 none 8 130 eXV [av x0] (fun σ => Ldr_checkExports σ x0) := by
  refine Ct.of (own := RX8) (nm := "checkExports") (desc := "()V") rfl (by decide) (Nat.le_of_ble_eq_true rfl) (by decide) (fun X σ => ?_)
  show G X RX8 "checkExports" cX8_checkExports 4 none 8 130 (enX enV (cxz X)) 0 [(0, av x0)] [] σ (Ldr_checkExports σ x0)
  unfold Ldr_checkExports
  refine g_aload_n 0 0 dX8_checkExports_0 rfl rfl ?_
  refine g_getR fdX8_57 dX8_checkExports_1 ?_
  refine g_getR fdX8_152 dX8_checkExports_4 ?_
  refine g_nmA (fun y1 => ?_)
  refine g_astore_n 1 dX8_checkExports_7 rfl (by decide) rfl ?_
  refine g_iconst (v := 0) dX8_checkExports_8 (by decide) ?_
  refine g_istore_n 2 dX8_checkExports_9 rfl (by decide) rfl ?_
  refine G.sub [2, 1, 0] rfl ?_
  exact gX8_checkExports_p10 FU _ _ _ _
theorem V.dX8_declare_0 : decode cX8_declare 0 = .ok (.iload_n 1, 1) := by decide +kernel
theorem V.dX8_declare_1 : decode cX8_declare 1 = .ok (.invokestatic 176, 3) := by decide +kernel
theorem V.dX8_declare_4 : decode cX8_declare 4 = .ok (.aload_n 0, 1) := by decide +kernel
theorem V.dX8_declare_5 : decode cX8_declare 5 = .ok (.getfield 19, 3) := by decide +kernel
theorem V.dX8_declare_8 : decode cX8_declare 8 = .ok (.getfield 233, 3) := by decide +kernel
theorem V.dX8_declare_11 : decode cX8_declare 11 = .ok (.invokevirtual 100, 3) := by decide +kernel
theorem V.dX8_declare_14 : decode cX8_declare 14 = .ok (.i2l, 1) := by decide +kernel
theorem V.dX8_declare_15 : decode cX8_declare 15 = .ok (.lcmp, 1) := by decide +kernel
theorem V.dX8_declare_16 : decode cX8_declare 16 = .ok (.ifCond .ge 15, 3) := by decide +kernel
theorem V.dX8_declare_19 : decode cX8_declare 19 = .ok (.aload_n 0, 1) := by decide +kernel
theorem V.dX8_declare_20 : decode cX8_declare 20 = .ok (.getfield 19, 3) := by decide +kernel
theorem V.dX8_declare_23 : decode cX8_declare 23 = .ok (.getfield 237, 3) := by decide +kernel
theorem V.dX8_declare_26 : decode cX8_declare 26 = .ok (.iload_n 1, 1) := by decide +kernel
theorem V.dX8_declare_27 : decode cX8_declare 27 = .ok (.iconst 1, 1) := by decide +kernel
theorem V.dX8_declare_28 : decode cX8_declare 28 = .ok (.invokevirtual 259, 3) := by decide +kernel
theorem V.dX8_declare_31 : decode cX8_declare 31 = .ok (.return_, 1) := by decide +kernel
theorem V.fdX8_233 : FD RX8 233 10 0 2 := ⟨(RX10, TX10, 8), tyX10, rfl, rfl, in_X10, by decide, Or.inr ⟨_, q772⟩, rfl⟩
theorem V.fdX8_237 : FD RX8 237 10 1 2 := ⟨(RX10, TX10, 8), tyX10, rfl, rfl, in_X10, by decide, Or.inr ⟨_, q775⟩, rfl⟩
theorem V.mdX8_259 : MD RX8 259 yX3_set cX3_set 3 none 2 := ⟨Or.inl q1701, q363, q1441, by decide, by decide, by decide +kernel⟩
/-! ModuleEngine$Loader.declare(I)V -/
def V.Ldr_declare (σ : HS) (x0 : Nat) (x1 : Int32) : Option (Unit × HS) :=
  cl (Mod_wide σ x1) fun r2 σ1 =>
  ck (tg σ1 x0 = 9) <|
  ck (tg σ1 (gR σ1 x0 4) = 11) <|
  ck (tg σ1 (gR σ1 (gR σ1 x0 4) 0) = 4) <| cl (Row_size σ1 (gR σ1 (gR σ1 x0 4) 0) ) fun r4 σ3 =>
  if r4.toInt64 ≤ r2 then (
    some ((), σ3))
  else (
    ck (tg σ3 x0 = 9) <|
    ck (tg σ3 (gR σ3 x0 4) = 11) <|
    ck (tg σ3 (gR σ3 (gR σ3 x0 4) 1) = 4) <| cl (Row_set σ3 (gR σ3 (gR σ3 x0 4) 1) x1 (1 : Int32)) fun _ σ5 =>
    some ((), σ5))
theorem V.ctX8_declare (x0 : Nat) (x1 : Int32) : Ct yX8_declare  cX8_declare 2 none 1 22 eV [av x0, iv x1] (fun σ => Ldr_declare σ x0 x1) := by
  refine Ct.of (own := RX8) (nm := "declare") (desc := "(I)V") rfl (by decide) (Nat.le_of_ble_eq_true rfl) (by decide) (fun X σ => ?_)
  show G X RX8 "declare" cX8_declare 2 none 1 22 enV 0 [(0, av x0), (1, iv x1)] [] σ (Ldr_declare σ x0 x1)
  unfold Ldr_declare
  refine g_iload_n 1 1 dX8_declare_0 rfl rfl ?_
  refine g_callS (fc := fun sς => Mod_wide sς x1) (as := [iv x1]) q1376 mdX8_176 (ctX2_wide x1) rfl (Nat.le_of_ble_eq_true rfl) (Nat.le_of_ble_eq_true rfl) (Nat.le_of_ble_eq_true rfl) pu_J dX8_declare_1 (fun r2 σ1 => ?_)
  refine g_aload_n 0 0 dX8_declare_4 rfl rfl ?_
  refine g_getR fdX8_19 dX8_declare_5 ?_
  refine g_getR fdX8_233 dX8_declare_8 ?_
  refine g_callV (fc := fun sς => Row_size sς (gR σ1 (gR σ1 x0 4) 0) ) (ci := 3) (as := []) rfl rfl rfl q1421 q1422 mdX8_100 (ctX3_size (gR σ1 (gR σ1 x0 4) 0) ) rfl (Nat.le_of_ble_eq_true rfl) (Nat.le_of_ble_eq_true rfl) (Nat.le_of_ble_eq_true rfl) pu_I dX8_declare_11 (fun r4 σ3 => ?_)
  refine g_i2l dX8_declare_14 ?_
  refine g_lcmp_ge 31 dX8_declare_15 dX8_declare_16 (by decide) ?_ ?_
  · exact g_return rfl dX8_declare_31
  · refine g_aload_n 0 0 dX8_declare_19 rfl rfl ?_
    refine g_getR fdX8_19 dX8_declare_20 ?_
    refine g_getR fdX8_237 dX8_declare_23 ?_
    refine g_iload_n 1 1 dX8_declare_26 rfl rfl ?_
    refine g_iconst (v := 1) dX8_declare_27 (by decide) ?_
    refine g_callV (fc := fun sς => Row_set sς (gR σ3 (gR σ3 x0 4) 1) x1 (1 : Int32)) (ci := 3) (as := [iv x1, iv (1 : Int32)]) rfl rfl rfl q1439 q1440 mdX8_259 (ctX3_set (gR σ3 (gR σ3 x0 4) 1) x1 (1 : Int32)) rfl (Nat.le_of_ble_eq_true rfl) (Nat.le_of_ble_eq_true rfl) (Nat.le_of_ble_eq_true rfl) pu_V dX8_declare_28 (fun _ σ5 => ?_)
    exact g_return rfl dX8_declare_31
theorem V.dX8_declareIn_0 : decode cX8_declareIn 0 = .ok (.aload_n 0, 1) := by decide +kernel
theorem V.dX8_declareIn_1 : decode cX8_declareIn 1 = .ok (.getfield 35, 3) := by decide +kernel
theorem V.dX8_declareIn_4 : decode cX8_declareIn 4 = .ok (.iload_n 1, 1) := by decide +kernel
theorem V.dX8_declareIn_5 : decode cX8_declareIn 5 = .ok (.invokevirtual 112, 3) := by decide +kernel
theorem V.dX8_declareIn_8 : decode cX8_declareIn 8 = .ok (.aload_n 0, 1) := by decide +kernel
theorem V.dX8_declareIn_9 : decode cX8_declareIn 9 = .ok (.getfield 35, 3) := by decide +kernel
theorem V.dX8_declareIn_12 : decode cX8_declareIn 12 = .ok (.getfield 118, 3) := by decide +kernel
theorem V.dX8_declareIn_15 : decode cX8_declareIn 15 = .ok (.iload_n 2, 1) := by decide +kernel
theorem V.dX8_declareIn_16 : decode cX8_declareIn 16 = .ok (.if_icmp .ge 37, 3) := by decide +kernel
theorem V.dX8_declareIn_19 : decode cX8_declareIn 19 = .ok (.aload_n 0, 1) := by decide +kernel
theorem V.dX8_declareIn_20 : decode cX8_declareIn 20 = .ok (.getfield 35, 3) := by decide +kernel
theorem V.dX8_declareIn_23 : decode cX8_declareIn 23 = .ok (.invokevirtual 182, 3) := by decide +kernel
theorem V.dX8_declareIn_26 : decode cX8_declareIn 26 = .ok (.aload_n 0, 1) := by decide +kernel
theorem V.dX8_declareIn_27 : decode cX8_declareIn 27 = .ok (.getfield 35, 3) := by decide +kernel
theorem V.dX8_declareIn_30 : decode cX8_declareIn 30 = .ok (.getfield 185, 3) := by decide +kernel
theorem V.dX8_declareIn_33 : decode cX8_declareIn 33 = .ok (.sipush 210, 3) := by decide +kernel
theorem V.dX8_declareIn_36 : decode cX8_declareIn 36 = .ok (.if_icmp .ne (-28), 3) := by decide +kernel
theorem V.dX8_declareIn_39 : decode cX8_declareIn 39 = .ok (.aload_n 0, 1) := by decide +kernel
theorem V.dX8_declareIn_40 : decode cX8_declareIn 40 = .ok (.aload_n 0, 1) := by decide +kernel
theorem V.dX8_declareIn_41 : decode cX8_declareIn 41 = .ok (.getfield 35, 3) := by decide +kernel
theorem V.dX8_declareIn_44 : decode cX8_declareIn 44 = .ok (.getfield 262, 3) := by decide +kernel
theorem V.dX8_declareIn_47 : decode cX8_declareIn 47 = .ok (.invokevirtual 265, 3) := by decide +kernel
theorem V.dX8_declareIn_50 : decode cX8_declareIn 50 = .ok (.goto (-42), 3) := by decide +kernel
theorem V.dX8_declareIn_53 : decode cX8_declareIn 53 = .ok (.return_, 1) := by decide +kernel
theorem V.fdX8_262 : FD RX8 262 12 4 0 := ⟨(RX12, TX12, 8), tyX12, rfl, rfl, in_X12, by decide, Or.inr ⟨_, q888⟩, rfl⟩
theorem V.mdX8_265 : MD RX8 265 yX8_declare cX8_declare 2 none 1 := ⟨Or.inl q1697, q368, q1700, by decide, by decide, by decide +kernel⟩
/-! ModuleEngine$Loader.declareIn(II)V -/
def V.Ldr_declareIn_p8  : Nat → HS → Nat → Int32 → Option (Unit × HS)
  | 0, _, _, _ => none
  | n + 1, σ, x0, x2 =>
    ck (tg σ x0 = 9) <|
    ck (tg σ (gR σ x0 6) = 13) <|
    if x2 ≤ (gI σ (gR σ x0 6) 1) then (
      some ((), σ))
    else (
      ck (tg σ x0 = 9) <|
      ck (tg σ (gR σ x0 6) = 13) <| cl (Wlk_next σ (gR σ x0 6) ) fun _ σ1 =>
      ck (tg σ1 x0 = 9) <|
      ck (tg σ1 (gR σ1 x0 6) = 13) <|
      if (gI σ1 (gR σ1 x0 6) 3) = (210 : Int32) then (
        ck (tg σ1 x0 = 9) <|
        ck (tg σ1 (gR σ1 x0 6) = 13) <|
        ck (tg σ1 x0 = 9) <| cl (Ldr_declare σ1 x0 (gI σ1 (gR σ1 x0 6) 4)) fun _ σ2 =>
        Ldr_declareIn_p8 n σ2 x0 x2)
      else (
        Ldr_declareIn_p8 n σ1 x0 x2))
theorem V.gX8_declareIn_p8 {X : CX}  : ∀ (n : Nat) (σ : HS) (x0 : Nat) (x2 : Int32), G X RX8 "declareIn" cX8_declareIn 3 none 5 109 enV 8 [(0, av x0), (2, iv x2)] [] σ (Ldr_declareIn_p8 n σ x0 x2)
  | 0, σ, x0, x2 => by rw [Ldr_declareIn_p8]; exact G.nul
  | n + 1, σ, x0, x2 => by
    rw [Ldr_declareIn_p8]
    refine g_aload_n 0 0 dX8_declareIn_8 rfl rfl ?_
    refine g_getR fdX8_35 dX8_declareIn_9 ?_
    refine g_getI fdX8_118 dX8_declareIn_12 ?_
    refine g_iload_n 2 1 dX8_declareIn_15 rfl rfl ?_
    refine g_icmp_ge 53 dX8_declareIn_16 (by decide) ?_ ?_
    · exact g_return rfl dX8_declareIn_53
    · refine g_aload_n 0 0 dX8_declareIn_19 rfl rfl ?_
      refine g_getR fdX8_35 dX8_declareIn_20 ?_
      refine g_callV (fc := fun sς => Wlk_next sς (gR σ x0 6) ) (ci := 12) (as := []) rfl rfl rfl q1609 q1610 mdX8_182 (ctX12_next (gR σ x0 6) ) rfl (Nat.le_of_ble_eq_true rfl) (Nat.le_of_ble_eq_true rfl) (Nat.le_of_ble_eq_true rfl) pu_V dX8_declareIn_23 (fun _ σ1 => ?_)
      refine g_aload_n 0 0 dX8_declareIn_26 rfl rfl ?_
      refine g_getR fdX8_35 dX8_declareIn_27 ?_
      refine g_getI fdX8_185 dX8_declareIn_30 ?_
      refine g_sipush (v := 210) dX8_declareIn_33 (by decide) ?_
      refine g_icmp_ne 8 dX8_declareIn_36 (by decide) ?_ ?_
      · exact gX8_declareIn_p8 n _ _ _
      · refine g_aload_n 0 0 dX8_declareIn_39 rfl rfl ?_
        refine g_aload_n 0 0 dX8_declareIn_40 rfl rfl ?_
        refine g_getR fdX8_35 dX8_declareIn_41 ?_
        refine g_getI fdX8_262 dX8_declareIn_44 ?_
        refine g_callV (fc := fun sς => Ldr_declare sς x0 (gI σ1 (gR σ1 x0 6) 4)) (ci := 8) (as := [iv (gI σ1 (gR σ1 x0 6) 4)]) rfl rfl rfl q1699 qs63 mdX8_265 (ctX8_declare x0 (gI σ1 (gR σ1 x0 6) 4)) rfl (Nat.le_of_ble_eq_true rfl) (Nat.le_of_ble_eq_true rfl) (Nat.le_of_ble_eq_true rfl) pu_V dX8_declareIn_47 (fun _ σ2 => ?_)
        refine g_goto 8 dX8_declareIn_50 (by decide) ?_
        exact gX8_declareIn_p8 n _ _ _
def V.Ldr_declareIn (σ : HS) (x0 : Nat) (x1 : Int32) (x2 : Int32) : Option (Unit × HS) :=
  ck (tg σ x0 = 9) <|
  ck (tg σ (gR σ x0 6) = 13) <| cl (Wlk_go σ (gR σ x0 6) x1) fun _ σ1 =>
  Ldr_declareIn_p8 FU σ1 x0 x2
theorem V.ctX8_declareIn (x0 : Nat) (x1 : Int32) (x2 : Int32) : Ct yX8_declareIn  cX8_declareIn 3 none 5 109 eV [av x0, iv x1, iv x2] (fun σ => Ldr_declareIn σ x0 x1 x2) := by
  refine Ct.of (own := RX8) (nm := "declareIn") (desc := "(II)V") rfl (by decide) (Nat.le_of_ble_eq_true rfl) (by decide) (fun X σ => ?_)
  show G X RX8 "declareIn" cX8_declareIn 3 none 5 109 enV 0 [(0, av x0), (1, iv x1), (2, iv x2)] [] σ (Ldr_declareIn σ x0 x1 x2)
  unfold Ldr_declareIn
  refine g_aload_n 0 0 dX8_declareIn_0 rfl rfl ?_
  refine g_getR fdX8_35 dX8_declareIn_1 ?_
  refine g_iload_n 1 1 dX8_declareIn_4 rfl rfl ?_
  refine g_callV (fc := fun sς => Wlk_go sς (gR σ x0 6) x1) (ci := 12) (as := [iv x1]) rfl rfl rfl q1572 q1573 mdX8_112 (ctX12_go (gR σ x0 6) x1) rfl (Nat.le_of_ble_eq_true rfl) (Nat.le_of_ble_eq_true rfl) (Nat.le_of_ble_eq_true rfl) pu_V dX8_declareIn_5 (fun _ σ1 => ?_)
  refine G.sub [0, 2] rfl ?_
  exact gX8_declareIn_p8 FU _ _ _
theorem V.dX8_declareAll_0 : decode cX8_declareAll 0 = .ok (.aload_n 0, 1) := by decide +kernel
theorem V.dX8_declareAll_1 : decode cX8_declareAll 1 = .ok (.getfield 57, 3) := by decide +kernel
theorem V.dX8_declareAll_4 : decode cX8_declareAll 4 = .ok (.getfield 149, 3) := by decide +kernel
theorem V.dX8_declareAll_7 : decode cX8_declareAll 7 = .ok (.astore_n 1, 1) := by decide +kernel
theorem V.dX8_declareAll_8 : decode cX8_declareAll 8 = .ok (.iconst 0, 1) := by decide +kernel
theorem V.dX8_declareAll_9 : decode cX8_declareAll 9 = .ok (.istore_n 2, 1) := by decide +kernel
theorem V.dX8_declareAll_10 : decode cX8_declareAll 10 = .ok (.iload_n 2, 1) := by decide +kernel
theorem V.dX8_declareAll_11 : decode cX8_declareAll 11 = .ok (.aload_n 1, 1) := by decide +kernel
theorem V.dX8_declareAll_12 : decode cX8_declareAll 12 = .ok (.invokevirtual 100, 3) := by decide +kernel
theorem V.dX8_declareAll_15 : decode cX8_declareAll 15 = .ok (.if_icmp .ge 27, 3) := by decide +kernel
theorem V.dX8_declareAll_18 : decode cX8_declareAll 18 = .ok (.aload_n 0, 1) := by decide +kernel
theorem V.dX8_declareAll_19 : decode cX8_declareAll 19 = .ok (.aload_n 1, 1) := by decide +kernel
theorem V.dX8_declareAll_20 : decode cX8_declareAll 20 = .ok (.iload_n 2, 1) := by decide +kernel
theorem V.dX8_declareAll_21 : decode cX8_declareAll 21 = .ok (.iconst 2, 1) := by decide +kernel
theorem V.dX8_declareAll_22 : decode cX8_declareAll 22 = .ok (.iadd, 1) := by decide +kernel
theorem V.dX8_declareAll_23 : decode cX8_declareAll 23 = .ok (.invokevirtual 174, 3) := by decide +kernel
theorem V.dX8_declareAll_26 : decode cX8_declareAll 26 = .ok (.aload_n 1, 1) := by decide +kernel
theorem V.dX8_declareAll_27 : decode cX8_declareAll 27 = .ok (.iload_n 2, 1) := by decide +kernel
theorem V.dX8_declareAll_28 : decode cX8_declareAll 28 = .ok (.iconst 3, 1) := by decide +kernel
theorem V.dX8_declareAll_29 : decode cX8_declareAll 29 = .ok (.iadd, 1) := by decide +kernel
theorem V.dX8_declareAll_30 : decode cX8_declareAll 30 = .ok (.invokevirtual 174, 3) := by decide +kernel
theorem V.dX8_declareAll_33 : decode cX8_declareAll 33 = .ok (.invokevirtual 268, 3) := by decide +kernel
theorem V.dX8_declareAll_36 : decode cX8_declareAll 36 = .ok (.iinc 2 4, 3) := by decide +kernel
theorem V.dX8_declareAll_39 : decode cX8_declareAll 39 = .ok (.goto (-29), 3) := by decide +kernel
theorem V.dX8_declareAll_42 : decode cX8_declareAll 42 = .ok (.aload_n 0, 1) := by decide +kernel
theorem V.dX8_declareAll_43 : decode cX8_declareAll 43 = .ok (.getfield 57, 3) := by decide +kernel
theorem V.dX8_declareAll_46 : decode cX8_declareAll 46 = .ok (.getfield 155, 3) := by decide +kernel
theorem V.dX8_declareAll_49 : decode cX8_declareAll 49 = .ok (.astore_n 2, 1) := by decide +kernel
theorem V.dX8_declareAll_50 : decode cX8_declareAll 50 = .ok (.iconst 0, 1) := by decide +kernel
theorem V.dX8_declareAll_51 : decode cX8_declareAll 51 = .ok (.istore_n 3, 1) := by decide +kernel
theorem V.dX8_declareAll_52 : decode cX8_declareAll 52 = .ok (.iload_n 3, 1) := by decide +kernel
theorem V.dX8_declareAll_53 : decode cX8_declareAll 53 = .ok (.aload_n 2, 1) := by decide +kernel
theorem V.dX8_declareAll_54 : decode cX8_declareAll 54 = .ok (.invokevirtual 100, 3) := by decide +kernel
theorem V.dX8_declareAll_57 : decode cX8_declareAll 57 = .ok (.if_icmp .ge 140, 3) := by decide +kernel
theorem V.dX8_declareAll_60 : decode cX8_declareAll 60 = .ok (.aload_n 2, 1) := by decide +kernel
theorem V.dX8_declareAll_61 : decode cX8_declareAll 61 = .ok (.iload_n 3, 1) := by decide +kernel
theorem V.dX8_declareAll_62 : decode cX8_declareAll 62 = .ok (.invokevirtual 174, 3) := by decide +kernel
theorem V.dX8_declareAll_65 : decode cX8_declareAll 65 = .ok (.iconst 1, 1) := by decide +kernel
theorem V.dX8_declareAll_66 : decode cX8_declareAll 66 = .ok (.if_icmp .ne 21, 3) := by decide +kernel
theorem V.dX8_declareAll_69 : decode cX8_declareAll 69 = .ok (.aload_n 0, 1) := by decide +kernel
theorem V.dX8_declareAll_70 : decode cX8_declareAll 70 = .ok (.aload_n 2, 1) := by decide +kernel
theorem V.dX8_declareAll_71 : decode cX8_declareAll 71 = .ok (.iload_n 3, 1) := by decide +kernel
theorem V.dX8_declareAll_72 : decode cX8_declareAll 72 = .ok (.iconst 4, 1) := by decide +kernel
theorem V.dX8_declareAll_73 : decode cX8_declareAll 73 = .ok (.iadd, 1) := by decide +kernel
theorem V.dX8_declareAll_74 : decode cX8_declareAll 74 = .ok (.invokevirtual 174, 3) := by decide +kernel
theorem V.dX8_declareAll_77 : decode cX8_declareAll 77 = .ok (.aload_n 2, 1) := by decide +kernel
theorem V.dX8_declareAll_78 : decode cX8_declareAll 78 = .ok (.iload_n 3, 1) := by decide +kernel
theorem V.dX8_declareAll_79 : decode cX8_declareAll 79 = .ok (.iconst 5, 1) := by decide +kernel
theorem V.dX8_declareAll_80 : decode cX8_declareAll 80 = .ok (.iadd, 1) := by decide +kernel
theorem V.dX8_declareAll_81 : decode cX8_declareAll 81 = .ok (.invokevirtual 174, 3) := by decide +kernel
theorem V.dX8_declareAll_84 : decode cX8_declareAll 84 = .ok (.invokevirtual 268, 3) := by decide +kernel
theorem V.dX8_declareAll_87 : decode cX8_declareAll 87 = .ok (.iconst 0, 1) := by decide +kernel
theorem V.dX8_declareAll_88 : decode cX8_declareAll 88 = .ok (.istore 4, 2) := by decide +kernel
theorem V.dX8_declareAll_90 : decode cX8_declareAll 90 = .ok (.iload 4, 2) := by decide +kernel
theorem V.dX8_declareAll_92 : decode cX8_declareAll 92 = .ok (.aload_n 2, 1) := by decide +kernel
theorem V.dX8_declareAll_93 : decode cX8_declareAll 93 = .ok (.iload_n 3, 1) := by decide +kernel
theorem V.dX8_declareAll_94 : decode cX8_declareAll 94 = .ok (.iconst 3, 1) := by decide +kernel
theorem V.dX8_declareAll_95 : decode cX8_declareAll 95 = .ok (.iadd, 1) := by decide +kernel
theorem V.dX8_declareAll_96 : decode cX8_declareAll 96 = .ok (.invokevirtual 174, 3) := by decide +kernel
theorem V.dX8_declareAll_99 : decode cX8_declareAll 99 = .ok (.if_icmp .ge 92, 3) := by decide +kernel
theorem V.dX8_declareAll_102 : decode cX8_declareAll 102 = .ok (.aload_n 2, 1) := by decide +kernel
theorem V.dX8_declareAll_103 : decode cX8_declareAll 103 = .ok (.iload_n 3, 1) := by decide +kernel
theorem V.dX8_declareAll_104 : decode cX8_declareAll 104 = .ok (.bipush 7, 2) := by decide +kernel
theorem V.dX8_declareAll_106 : decode cX8_declareAll 106 = .ok (.iadd, 1) := by decide +kernel
theorem V.dX8_declareAll_107 : decode cX8_declareAll 107 = .ok (.invokevirtual 174, 3) := by decide +kernel
theorem V.dX8_declareAll_110 : decode cX8_declareAll 110 = .ok (.istore 5, 2) := by decide +kernel
theorem V.dX8_declareAll_112 : decode cX8_declareAll 112 = .ok (.aload_n 2, 1) := by decide +kernel
theorem V.dX8_declareAll_113 : decode cX8_declareAll 113 = .ok (.iload_n 3, 1) := by decide +kernel
theorem V.dX8_declareAll_114 : decode cX8_declareAll 114 = .ok (.bipush 6, 2) := by decide +kernel
theorem V.dX8_declareAll_116 : decode cX8_declareAll 116 = .ok (.iadd, 1) := by decide +kernel
theorem V.dX8_declareAll_117 : decode cX8_declareAll 117 = .ok (.invokevirtual 174, 3) := by decide +kernel
theorem V.dX8_declareAll_120 : decode cX8_declareAll 120 = .ok (.ifCond .ne 25, 3) := by decide +kernel
theorem V.dX8_declareAll_123 : decode cX8_declareAll 123 = .ok (.aload_n 0, 1) := by decide +kernel
theorem V.dX8_declareAll_124 : decode cX8_declareAll 124 = .ok (.aload_n 0, 1) := by decide +kernel
theorem V.dX8_declareAll_125 : decode cX8_declareAll 125 = .ok (.getfield 57, 3) := by decide +kernel
theorem V.dX8_declareAll_128 : decode cX8_declareAll 128 = .ok (.getfield 271, 3) := by decide +kernel
theorem V.dX8_declareAll_131 : decode cX8_declareAll 131 = .ok (.iload 5, 2) := by decide +kernel
theorem V.dX8_declareAll_133 : decode cX8_declareAll 133 = .ok (.iload 4, 2) := by decide +kernel
theorem V.dX8_declareAll_135 : decode cX8_declareAll 135 = .ok (.iadd, 1) := by decide +kernel
theorem V.dX8_declareAll_136 : decode cX8_declareAll 136 = .ok (.invokevirtual 174, 3) := by decide +kernel
theorem V.dX8_declareAll_139 : decode cX8_declareAll 139 = .ok (.invokevirtual 265, 3) := by decide +kernel
theorem V.dX8_declareAll_142 : decode cX8_declareAll 142 = .ok (.goto 43, 3) := by decide +kernel
theorem V.dX8_declareAll_145 : decode cX8_declareAll 145 = .ok (.aload_n 0, 1) := by decide +kernel
theorem V.dX8_declareAll_146 : decode cX8_declareAll 146 = .ok (.aload_n 0, 1) := by decide +kernel
theorem V.dX8_declareAll_147 : decode cX8_declareAll 147 = .ok (.getfield 57, 3) := by decide +kernel
theorem V.dX8_declareAll_150 : decode cX8_declareAll 150 = .ok (.getfield 271, 3) := by decide +kernel
theorem V.dX8_declareAll_153 : decode cX8_declareAll 153 = .ok (.iload 5, 2) := by decide +kernel
theorem V.dX8_declareAll_155 : decode cX8_declareAll 155 = .ok (.iconst 2, 1) := by decide +kernel
theorem V.dX8_declareAll_156 : decode cX8_declareAll 156 = .ok (.iload 4, 2) := by decide +kernel
theorem V.dX8_declareAll_158 : decode cX8_declareAll 158 = .ok (.imul, 1) := by decide +kernel
theorem V.dX8_declareAll_159 : decode cX8_declareAll 159 = .ok (.iadd, 1) := by decide +kernel
theorem V.dX8_declareAll_160 : decode cX8_declareAll 160 = .ok (.invokevirtual 174, 3) := by decide +kernel
theorem V.dX8_declareAll_163 : decode cX8_declareAll 163 = .ok (.aload_n 0, 1) := by decide +kernel
theorem V.dX8_declareAll_164 : decode cX8_declareAll 164 = .ok (.getfield 57, 3) := by decide +kernel
theorem V.dX8_declareAll_167 : decode cX8_declareAll 167 = .ok (.getfield 271, 3) := by decide +kernel
theorem V.dX8_declareAll_170 : decode cX8_declareAll 170 = .ok (.iload 5, 2) := by decide +kernel
theorem V.dX8_declareAll_172 : decode cX8_declareAll 172 = .ok (.iconst 2, 1) := by decide +kernel
theorem V.dX8_declareAll_173 : decode cX8_declareAll 173 = .ok (.iload 4, 2) := by decide +kernel
theorem V.dX8_declareAll_175 : decode cX8_declareAll 175 = .ok (.imul, 1) := by decide +kernel
theorem V.dX8_declareAll_176 : decode cX8_declareAll 176 = .ok (.iadd, 1) := by decide +kernel
theorem V.dX8_declareAll_177 : decode cX8_declareAll 177 = .ok (.iconst 1, 1) := by decide +kernel
theorem V.dX8_declareAll_178 : decode cX8_declareAll 178 = .ok (.iadd, 1) := by decide +kernel
theorem V.dX8_declareAll_179 : decode cX8_declareAll 179 = .ok (.invokevirtual 174, 3) := by decide +kernel
theorem V.dX8_declareAll_182 : decode cX8_declareAll 182 = .ok (.invokevirtual 268, 3) := by decide +kernel
theorem V.dX8_declareAll_185 : decode cX8_declareAll 185 = .ok (.iinc 4 1, 3) := by decide +kernel
theorem V.dX8_declareAll_188 : decode cX8_declareAll 188 = .ok (.goto (-98), 3) := by decide +kernel
theorem V.dX8_declareAll_191 : decode cX8_declareAll 191 = .ok (.iinc 3 8, 3) := by decide +kernel
theorem V.dX8_declareAll_194 : decode cX8_declareAll 194 = .ok (.goto (-142), 3) := by decide +kernel
theorem V.dX8_declareAll_197 : decode cX8_declareAll 197 = .ok (.aload_n 0, 1) := by decide +kernel
theorem V.dX8_declareAll_198 : decode cX8_declareAll 198 = .ok (.getfield 57, 3) := by decide +kernel
theorem V.dX8_declareAll_201 : decode cX8_declareAll 201 = .ok (.getfield 152, 3) := by decide +kernel
theorem V.dX8_declareAll_204 : decode cX8_declareAll 204 = .ok (.astore_n 3, 1) := by decide +kernel
theorem V.dX8_declareAll_205 : decode cX8_declareAll 205 = .ok (.iconst 0, 1) := by decide +kernel
theorem V.dX8_declareAll_206 : decode cX8_declareAll 206 = .ok (.istore 4, 2) := by decide +kernel
theorem V.dX8_declareAll_208 : decode cX8_declareAll 208 = .ok (.iload 4, 2) := by decide +kernel
theorem V.dX8_declareAll_210 : decode cX8_declareAll 210 = .ok (.aload_n 3, 1) := by decide +kernel
theorem V.dX8_declareAll_211 : decode cX8_declareAll 211 = .ok (.invokevirtual 100, 3) := by decide +kernel
theorem V.dX8_declareAll_214 : decode cX8_declareAll 214 = .ok (.if_icmp .ge 30, 3) := by decide +kernel
theorem V.dX8_declareAll_217 : decode cX8_declareAll 217 = .ok (.aload_n 3, 1) := by decide +kernel
theorem V.dX8_declareAll_218 : decode cX8_declareAll 218 = .ok (.iload 4, 2) := by decide +kernel
theorem V.dX8_declareAll_220 : decode cX8_declareAll 220 = .ok (.invokevirtual 174, 3) := by decide +kernel
theorem V.dX8_declareAll_223 : decode cX8_declareAll 223 = .ok (.ifCond .ne 15, 3) := by decide +kernel
theorem V.dX8_declareAll_226 : decode cX8_declareAll 226 = .ok (.aload_n 0, 1) := by decide +kernel
theorem V.dX8_declareAll_227 : decode cX8_declareAll 227 = .ok (.aload_n 3, 1) := by decide +kernel
theorem V.dX8_declareAll_228 : decode cX8_declareAll 228 = .ok (.iload 4, 2) := by decide +kernel
theorem V.dX8_declareAll_230 : decode cX8_declareAll 230 = .ok (.iconst 1, 1) := by decide +kernel
theorem V.dX8_declareAll_231 : decode cX8_declareAll 231 = .ok (.iadd, 1) := by decide +kernel
theorem V.dX8_declareAll_232 : decode cX8_declareAll 232 = .ok (.invokevirtual 174, 3) := by decide +kernel
theorem V.dX8_declareAll_235 : decode cX8_declareAll 235 = .ok (.invokevirtual 265, 3) := by decide +kernel
theorem V.dX8_declareAll_238 : decode cX8_declareAll 238 = .ok (.iinc 4 4, 3) := by decide +kernel
theorem V.dX8_declareAll_241 : decode cX8_declareAll 241 = .ok (.goto (-33), 3) := by decide +kernel
theorem V.dX8_declareAll_244 : decode cX8_declareAll 244 = .ok (.return_, 1) := by decide +kernel
theorem V.mdX8_268 : MD RX8 268 yX8_declareIn cX8_declareIn 3 none 2 := ⟨Or.inl q1693, q368, q1696, by decide, by decide, by decide +kernel⟩
theorem V.fdX8_271 : FD RX8 271 2 10 2 := ⟨(RX2, TX2, 21), tyX2, rfl, rfl, in_X2, by decide, Or.inr ⟨_, q461⟩, rfl⟩
/-! ModuleEngine$Loader.declareAll()V -/
def V.Ldr_declareAll_p238 (rec208 : HS → Nat → Nat → Int32 → Option (Unit × HS)) (σ : HS) (x0 : Nat) (x3 : Nat) (x4 : Int32) : Option (Unit × HS) :=
  bn (x4 + (4 : Int32)) fun y1 =>
  rec208 σ x0 x3 y1
theorem V.gX8_declareAll_p238 {X : CX} (rec208 : HS → Nat → Nat → Int32 → Option (Unit × HS)) (hrec208 : ∀ (σ : HS) (x0 : Nat) (x3 : Nat) (x4 : Int32), G X RX8 "declareAll" cX8_declareAll 6 none 6 131 enV 208 [(0, av x0), (3, av x3), (4, iv x4)] [] σ (rec208 σ x0 x3 x4)) (σ : HS) (x0 : Nat) (x3 : Nat) (x4 : Int32) : G X RX8 "declareAll" cX8_declareAll 6 none 6 131 enV 238 [(0, av x0), (3, av x3), (4, iv x4)] [] σ (Ldr_declareAll_p238 rec208 σ x0 x3 x4) := by
  unfold Ldr_declareAll_p238
  refine g_iincB (w := 4) 2 dX8_declareAll_238 rfl (by decide) (by decide) (fun _ => rfl) (fun y1 => ?_)
  refine g_goto 208 dX8_declareAll_241 (by decide) ?_
  refine G.sub [1, 2, 0] rfl ?_
  exact hrec208 _ _ _ _
def V.Ldr_declareAll_p208  : Nat → HS → Nat → Nat → Int32 → Option (Unit × HS)
  | 0, _, _, _, _ => none
  | n + 1, σ, x0, x3, x4 =>
    ck (tg σ x3 = 4) <| cl (Row_size σ x3 ) fun r2 σ1 =>
    if r2 ≤ x4 then (
      some ((), σ1))
    else (
      ck (tg σ1 x3 = 4) <| cl (Row_at σ1 x3 x4) fun r4 σ3 =>
      if r4 = 0 then (
        ck (tg σ3 x3 = 4) <| cl (Row_at σ3 x3 (x4 + (1 : Int32))) fun r6 σ5 =>
        ck (tg σ5 x0 = 9) <| cl (Ldr_declare σ5 x0 r6) fun _ σ7 =>
        Ldr_declareAll_p238 (Ldr_declareAll_p208 n) σ7 x0 x3 x4)
      else (
        Ldr_declareAll_p238 (Ldr_declareAll_p208 n) σ3 x0 x3 x4))
theorem V.gX8_declareAll_p208 {X : CX}  : ∀ (n : Nat) (σ : HS) (x0 : Nat) (x3 : Nat) (x4 : Int32), G X RX8 "declareAll" cX8_declareAll 6 none 6 131 enV 208 [(0, av x0), (3, av x3), (4, iv x4)] [] σ (Ldr_declareAll_p208 n σ x0 x3 x4)
  | 0, σ, x0, x3, x4 => by rw [Ldr_declareAll_p208]; exact G.nul
  | n + 1, σ, x0, x3, x4 => by
    rw [Ldr_declareAll_p208]
    refine g_iload 2 dX8_declareAll_208 rfl ?_
    refine g_aload_n 3 1 dX8_declareAll_210 rfl rfl ?_
    refine g_callV (fc := fun sς => Row_size sς x3 ) (ci := 3) (as := []) rfl rfl rfl q1421 q1422 mdX8_100 (ctX3_size x3 ) rfl (Nat.le_of_ble_eq_true rfl) (Nat.le_of_ble_eq_true rfl) (Nat.le_of_ble_eq_true rfl) pu_I dX8_declareAll_211 (fun r2 σ1 => ?_)
    refine g_icmp_ge 244 dX8_declareAll_214 (by decide) ?_ ?_
    · exact g_return rfl dX8_declareAll_244
    · refine g_aload_n 3 1 dX8_declareAll_217 rfl rfl ?_
      refine g_iload 2 dX8_declareAll_218 rfl ?_
      refine g_callV (fc := fun sς => Row_at sς x3 x4) (ci := 3) (as := [iv x4]) rfl rfl rfl q1409 q1410 mdX8_174 (ctX3_at x3 x4) rfl (Nat.le_of_ble_eq_true rfl) (Nat.le_of_ble_eq_true rfl) (Nat.le_of_ble_eq_true rfl) pu_I dX8_declareAll_220 (fun r4 σ3 => ?_)
      refine g_if_ne 238 dX8_declareAll_223 (by decide) ?_ ?_
      · exact gX8_declareAll_p238 (Ldr_declareAll_p208 n) (gX8_declareAll_p208 n) _ _ _ _
      · refine g_aload_n 0 0 dX8_declareAll_226 rfl rfl ?_
        refine g_aload_n 3 1 dX8_declareAll_227 rfl rfl ?_
        refine g_iload 2 dX8_declareAll_228 rfl ?_
        refine g_iconst (v := 1) dX8_declareAll_230 (by decide) ?_
        refine g_iadd dX8_declareAll_231 ?_
        refine g_callV (fc := fun sς => Row_at sς x3 (x4 + (1 : Int32))) (ci := 3) (as := [iv (x4 + (1 : Int32))]) rfl rfl rfl q1409 q1410 mdX8_174 (ctX3_at x3 (x4 + (1 : Int32))) rfl (Nat.le_of_ble_eq_true rfl) (Nat.le_of_ble_eq_true rfl) (Nat.le_of_ble_eq_true rfl) pu_I dX8_declareAll_232 (fun r6 σ5 => ?_)
        refine g_callV (fc := fun sς => Ldr_declare sς x0 r6) (ci := 8) (as := [iv r6]) rfl rfl rfl q1699 qs63 mdX8_265 (ctX8_declare x0 r6) rfl (Nat.le_of_ble_eq_true rfl) (Nat.le_of_ble_eq_true rfl) (Nat.le_of_ble_eq_true rfl) pu_V dX8_declareAll_235 (fun _ σ7 => ?_)
        exact gX8_declareAll_p238 (Ldr_declareAll_p208 n) (gX8_declareAll_p208 n) _ _ _ _
def V.Ldr_declareAll_p185 (rec52 : HS → Nat → Nat → Int32 → Option (Unit × HS)) (rec90 : HS → Nat → Nat → Int32 → Int32 → Option (Unit × HS)) (σ : HS) (x0 : Nat) (x2 : Nat) (x3 : Int32) (x4 : Int32) : Option (Unit × HS) :=
  bn (x4 + (1 : Int32)) fun y1 =>
  rec90 σ x0 x2 x3 y1
theorem V.gX8_declareAll_p185 {X : CX} (rec52 : HS → Nat → Nat → Int32 → Option (Unit × HS)) (hrec52 : ∀ (σ : HS) (x0 : Nat) (x2 : Nat) (x3 : Int32), G X RX8 "declareAll" cX8_declareAll 6 none 6 131 enV 52 [(0, av x0), (2, av x2), (3, iv x3)] [] σ (rec52 σ x0 x2 x3)) (rec90 : HS → Nat → Nat → Int32 → Int32 → Option (Unit × HS)) (hrec90 : ∀ (σ : HS) (x0 : Nat) (x2 : Nat) (x3 : Int32) (x4 : Int32), G X RX8 "declareAll" cX8_declareAll 6 none 6 131 enV 90 [(0, av x0), (2, av x2), (3, iv x3), (4, iv x4)] [] σ (rec90 σ x0 x2 x3 x4)) (σ : HS) (x0 : Nat) (x2 : Nat) (x3 : Int32) (x4 : Int32) : G X RX8 "declareAll" cX8_declareAll 6 none 6 131 enV 185 [(0, av x0), (2, av x2), (3, iv x3), (4, iv x4)] [] σ (Ldr_declareAll_p185 rec52 rec90 σ x0 x2 x3 x4) := by
  unfold Ldr_declareAll_p185
  refine g_iincB (w := 1) 3 dX8_declareAll_185 rfl (by decide) (by decide) (fun _ => rfl) (fun y1 => ?_)
  refine g_goto 90 dX8_declareAll_188 (by decide) ?_
  refine G.sub [1, 2, 3, 0] rfl ?_
  exact hrec90 _ _ _ _ _
def V.Ldr_declareAll_p90 (rec52 : HS → Nat → Nat → Int32 → Option (Unit × HS)) : Nat → HS → Nat → Nat → Int32 → Int32 → Option (Unit × HS)
  | 0, _, _, _, _, _ => none
  | n + 1, σ, x0, x2, x3, x4 =>
    ck (tg σ x2 = 4) <| cl (Row_at σ x2 (x3 + (3 : Int32))) fun r2 σ1 =>
    if r2 ≤ x4 then (
      bn (x3 + (8 : Int32)) fun y3 =>
      rec52 σ1 x0 x2 y3)
    else (
      ck (tg σ1 x2 = 4) <| cl (Row_at σ1 x2 (x3 + (7 : Int32))) fun r5 σ4 =>
      ck (tg σ4 x2 = 4) <| cl (Row_at σ4 x2 (x3 + (6 : Int32))) fun r7 σ6 =>
      if r7 = 0 then (
        ck (tg σ6 x0 = 9) <|
        ck (tg σ6 (gR σ6 x0 7) = 3) <|
        ck (tg σ6 (gR σ6 (gR σ6 x0 7) 10) = 4) <| cl (Row_at σ6 (gR σ6 (gR σ6 x0 7) 10) (r5 + x4)) fun r14 σ13 =>
        ck (tg σ13 x0 = 9) <| cl (Ldr_declare σ13 x0 r14) fun _ σ15 =>
        Ldr_declareAll_p185 rec52 (Ldr_declareAll_p90 rec52 n) σ15 x0 x2 x3 x4)
      else (
        ck (tg σ6 x0 = 9) <|
        ck (tg σ6 (gR σ6 x0 7) = 3) <|
        ck (tg σ6 (gR σ6 (gR σ6 x0 7) 10) = 4) <| cl (Row_at σ6 (gR σ6 (gR σ6 x0 7) 10) (r5 + ((2 : Int32) * x4))) fun r9 σ8 =>
        ck (tg σ8 x0 = 9) <|
        ck (tg σ8 (gR σ8 x0 7) = 3) <|
        ck (tg σ8 (gR σ8 (gR σ8 x0 7) 10) = 4) <| cl (Row_at σ8 (gR σ8 (gR σ8 x0 7) 10) ((r5 + ((2 : Int32) * x4)) + (1 : Int32))) fun r11 σ10 =>
        ck (tg σ10 x0 = 9) <| cl (Ldr_declareIn σ10 x0 r9 r11) fun _ σ12 =>
        Ldr_declareAll_p185 rec52 (Ldr_declareAll_p90 rec52 n) σ12 x0 x2 x3 x4))
theorem V.gX8_declareAll_p90 {X : CX} (rec52 : HS → Nat → Nat → Int32 → Option (Unit × HS)) (hrec52 : ∀ (σ : HS) (x0 : Nat) (x2 : Nat) (x3 : Int32), G X RX8 "declareAll" cX8_declareAll 6 none 6 131 enV 52 [(0, av x0), (2, av x2), (3, iv x3)] [] σ (rec52 σ x0 x2 x3)) : ∀ (n : Nat) (σ : HS) (x0 : Nat) (x2 : Nat) (x3 : Int32) (x4 : Int32), G X RX8 "declareAll" cX8_declareAll 6 none 6 131 enV 90 [(0, av x0), (2, av x2), (3, iv x3), (4, iv x4)] [] σ (Ldr_declareAll_p90 rec52 n σ x0 x2 x3 x4)
  | 0, σ, x0, x2, x3, x4 => by rw [Ldr_declareAll_p90]; exact G.nul
  | n + 1, σ, x0, x2, x3, x4 => by
    rw [Ldr_declareAll_p90]
    refine g_iload 3 dX8_declareAll_90 rfl ?_
    refine g_aload_n 2 1 dX8_declareAll_92 rfl rfl ?_
    refine g_iload_n 3 2 dX8_declareAll_93 rfl rfl ?_
    refine g_iconst (v := 3) dX8_declareAll_94 (by decide) ?_
    refine g_iadd dX8_declareAll_95 ?_
    refine g_callV (fc := fun sς => Row_at sς x2 (x3 + (3 : Int32))) (ci := 3) (as := [iv (x3 + (3 : Int32))]) rfl rfl rfl q1409 q1410 mdX8_174 (ctX3_at x2 (x3 + (3 : Int32))) rfl (Nat.le_of_ble_eq_true rfl) (Nat.le_of_ble_eq_true rfl) (Nat.le_of_ble_eq_true rfl) pu_I dX8_declareAll_96 (fun r2 σ1 => ?_)
    refine g_icmp_ge 191 dX8_declareAll_99 (by decide) ?_ ?_
    · refine g_iincB (w := 8) 2 dX8_declareAll_191 rfl (by decide) (by decide) (fun _ => rfl) (fun y3 => ?_)
      refine g_goto 52 dX8_declareAll_194 (by decide) ?_
      refine G.sub [1, 2, 0] rfl ?_
      exact hrec52 _ _ _ _
    · refine g_aload_n 2 1 dX8_declareAll_102 rfl rfl ?_
      refine g_iload_n 3 2 dX8_declareAll_103 rfl rfl ?_
      refine g_bipush (v := 7) dX8_declareAll_104 (by decide) ?_
      refine g_iadd dX8_declareAll_106 ?_
      refine g_callV (fc := fun sς => Row_at sς x2 (x3 + (7 : Int32))) (ci := 3) (as := [iv (x3 + (7 : Int32))]) rfl rfl rfl q1409 q1410 mdX8_174 (ctX3_at x2 (x3 + (7 : Int32))) rfl (Nat.le_of_ble_eq_true rfl) (Nat.le_of_ble_eq_true rfl) (Nat.le_of_ble_eq_true rfl) pu_I dX8_declareAll_107 (fun r5 σ4 => ?_)
      refine g_istore dX8_declareAll_110 (by decide) rfl ?_
      refine g_aload_n 2 2 dX8_declareAll_112 rfl rfl ?_
      refine g_iload_n 3 3 dX8_declareAll_113 rfl rfl ?_
      refine g_bipush (v := 6) dX8_declareAll_114 (by decide) ?_
      refine g_iadd dX8_declareAll_116 ?_
      refine g_callV (fc := fun sς => Row_at sς x2 (x3 + (6 : Int32))) (ci := 3) (as := [iv (x3 + (6 : Int32))]) rfl rfl rfl q1409 q1410 mdX8_174 (ctX3_at x2 (x3 + (6 : Int32))) rfl (Nat.le_of_ble_eq_true rfl) (Nat.le_of_ble_eq_true rfl) (Nat.le_of_ble_eq_true rfl) pu_I dX8_declareAll_117 (fun r7 σ6 => ?_)
      refine g_if_ne 145 dX8_declareAll_120 (by decide) ?_ ?_
      · refine g_aload_n 0 1 dX8_declareAll_145 rfl rfl ?_
        refine g_aload_n 0 1 dX8_declareAll_146 rfl rfl ?_
        refine g_getR fdX8_57 dX8_declareAll_147 ?_
        refine g_getR fdX8_271 dX8_declareAll_150 ?_
        refine g_iload 0 dX8_declareAll_153 rfl ?_
        refine g_iconst (v := 2) dX8_declareAll_155 (by decide) ?_
        refine g_iload 4 dX8_declareAll_156 rfl ?_
        refine g_imul dX8_declareAll_158 ?_
        refine g_iadd dX8_declareAll_159 ?_
        refine g_callV (fc := fun sς => Row_at sς (gR σ6 (gR σ6 x0 7) 10) (r5 + ((2 : Int32) * x4))) (ci := 3) (as := [iv (r5 + ((2 : Int32) * x4))]) rfl rfl rfl q1409 q1410 mdX8_174 (ctX3_at (gR σ6 (gR σ6 x0 7) 10) (r5 + ((2 : Int32) * x4))) rfl (Nat.le_of_ble_eq_true rfl) (Nat.le_of_ble_eq_true rfl) (Nat.le_of_ble_eq_true rfl) pu_I dX8_declareAll_160 (fun r9 σ8 => ?_)
        refine g_aload_n 0 1 dX8_declareAll_163 rfl rfl ?_
        refine g_getR fdX8_57 dX8_declareAll_164 ?_
        refine g_getR fdX8_271 dX8_declareAll_167 ?_
        refine g_iload 0 dX8_declareAll_170 rfl ?_
        refine g_iconst (v := 2) dX8_declareAll_172 (by decide) ?_
        refine g_iload 4 dX8_declareAll_173 rfl ?_
        refine g_imul dX8_declareAll_175 ?_
        refine g_iadd dX8_declareAll_176 ?_
        refine g_iconst (v := 1) dX8_declareAll_177 (by decide) ?_
        refine g_iadd dX8_declareAll_178 ?_
        refine g_callV (fc := fun sς => Row_at sς (gR σ8 (gR σ8 x0 7) 10) ((r5 + ((2 : Int32) * x4)) + (1 : Int32))) (ci := 3) (as := [iv ((r5 + ((2 : Int32) * x4)) + (1 : Int32))]) rfl rfl rfl q1409 q1410 mdX8_174 (ctX3_at (gR σ8 (gR σ8 x0 7) 10) ((r5 + ((2 : Int32) * x4)) + (1 : Int32))) rfl (Nat.le_of_ble_eq_true rfl) (Nat.le_of_ble_eq_true rfl) (Nat.le_of_ble_eq_true rfl) pu_I dX8_declareAll_179 (fun r11 σ10 => ?_)
        refine g_callV (fc := fun sς => Ldr_declareIn sς x0 r9 r11) (ci := 8) (as := [iv r9, iv r11]) rfl rfl rfl q1695 qs62 mdX8_268 (ctX8_declareIn x0 r9 r11) rfl (Nat.le_of_ble_eq_true rfl) (Nat.le_of_ble_eq_true rfl) (Nat.le_of_ble_eq_true rfl) pu_V dX8_declareAll_182 (fun _ σ12 => ?_)
        refine G.sub [1, 2, 3, 4] rfl ?_
        exact gX8_declareAll_p185 rec52 hrec52 (Ldr_declareAll_p90 rec52 n) (gX8_declareAll_p90 rec52 hrec52 n) _ _ _ _ _
      · refine g_aload_n 0 1 dX8_declareAll_123 rfl rfl ?_
        refine g_aload_n 0 1 dX8_declareAll_124 rfl rfl ?_
        refine g_getR fdX8_57 dX8_declareAll_125 ?_
        refine g_getR fdX8_271 dX8_declareAll_128 ?_
        refine g_iload 0 dX8_declareAll_131 rfl ?_
        refine g_iload 4 dX8_declareAll_133 rfl ?_
        refine g_iadd dX8_declareAll_135 ?_
        refine g_callV (fc := fun sς => Row_at sς (gR σ6 (gR σ6 x0 7) 10) (r5 + x4)) (ci := 3) (as := [iv (r5 + x4)]) rfl rfl rfl q1409 q1410 mdX8_174 (ctX3_at (gR σ6 (gR σ6 x0 7) 10) (r5 + x4)) rfl (Nat.le_of_ble_eq_true rfl) (Nat.le_of_ble_eq_true rfl) (Nat.le_of_ble_eq_true rfl) pu_I dX8_declareAll_136 (fun r14 σ13 => ?_)
        refine g_callV (fc := fun sς => Ldr_declare sς x0 r14) (ci := 8) (as := [iv r14]) rfl rfl rfl q1699 qs63 mdX8_265 (ctX8_declare x0 r14) rfl (Nat.le_of_ble_eq_true rfl) (Nat.le_of_ble_eq_true rfl) (Nat.le_of_ble_eq_true rfl) pu_V dX8_declareAll_139 (fun _ σ15 => ?_)
        refine g_goto 185 dX8_declareAll_142 (by decide) ?_
        refine G.sub [1, 2, 3, 4] rfl ?_
        exact gX8_declareAll_p185 rec52 hrec52 (Ldr_declareAll_p90 rec52 n) (gX8_declareAll_p90 rec52 hrec52 n) _ _ _ _ _
def V.Ldr_declareAll_p87 (rec52 : HS → Nat → Nat → Int32 → Option (Unit × HS)) (σ : HS) (x0 : Nat) (x2 : Nat) (x3 : Int32) : Option (Unit × HS) :=
  Ldr_declareAll_p90 rec52 FU σ x0 x2 x3 (0 : Int32)
theorem V.gX8_declareAll_p87 {X : CX} (rec52 : HS → Nat → Nat → Int32 → Option (Unit × HS)) (hrec52 : ∀ (σ : HS) (x0 : Nat) (x2 : Nat) (x3 : Int32), G X RX8 "declareAll" cX8_declareAll 6 none 6 131 enV 52 [(0, av x0), (2, av x2), (3, iv x3)] [] σ (rec52 σ x0 x2 x3)) (σ : HS) (x0 : Nat) (x2 : Nat) (x3 : Int32) : G X RX8 "declareAll" cX8_declareAll 6 none 6 131 enV 87 [(0, av x0), (2, av x2), (3, iv x3)] [] σ (Ldr_declareAll_p87 rec52 σ x0 x2 x3) := by
  unfold Ldr_declareAll_p87
  refine g_iconst (v := 0) dX8_declareAll_87 (by decide) ?_
  refine g_istore dX8_declareAll_88 (by decide) rfl ?_
  refine G.sub [1, 2, 3, 0] rfl ?_
  exact gX8_declareAll_p90 rec52 hrec52 FU _ _ _ _ _
def V.Ldr_declareAll_p52  : Nat → HS → Nat → Nat → Int32 → Option (Unit × HS)
  | 0, _, _, _, _ => none
  | n + 1, σ, x0, x2, x3 =>
    ck (tg σ x2 = 4) <| cl (Row_size σ x2 ) fun r2 σ1 =>
    if r2 ≤ x3 then (
      ck (tg σ1 x0 = 9) <|
      ck (tg σ1 (gR σ1 x0 7) = 3) <|
      bn (gR σ1 (gR σ1 x0 7) 8) fun y3 =>
      Ldr_declareAll_p208 FU σ1 x0 y3 (0 : Int32))
    else (
      ck (tg σ1 x2 = 4) <| cl (Row_at σ1 x2 x3) fun r5 σ4 =>
      if r5 = (1 : Int32) then (
        ck (tg σ4 x2 = 4) <| cl (Row_at σ4 x2 (x3 + (4 : Int32))) fun r7 σ6 =>
        ck (tg σ6 x2 = 4) <| cl (Row_at σ6 x2 (x3 + (5 : Int32))) fun r9 σ8 =>
        ck (tg σ8 x0 = 9) <| cl (Ldr_declareIn σ8 x0 r7 r9) fun _ σ10 =>
        Ldr_declareAll_p87 (Ldr_declareAll_p52 n) σ10 x0 x2 x3)
      else (
        Ldr_declareAll_p87 (Ldr_declareAll_p52 n) σ4 x0 x2 x3))
theorem V.gX8_declareAll_p52 {X : CX}  : ∀ (n : Nat) (σ : HS) (x0 : Nat) (x2 : Nat) (x3 : Int32), G X RX8 "declareAll" cX8_declareAll 6 none 6 131 enV 52 [(0, av x0), (2, av x2), (3, iv x3)] [] σ (Ldr_declareAll_p52 n σ x0 x2 x3)
  | 0, σ, x0, x2, x3 => by rw [Ldr_declareAll_p52]; exact G.nul
  | n + 1, σ, x0, x2, x3 => by
    rw [Ldr_declareAll_p52]
    refine g_iload_n 3 2 dX8_declareAll_52 rfl rfl ?_
    refine g_aload_n 2 1 dX8_declareAll_53 rfl rfl ?_
    refine g_callV (fc := fun sς => Row_size sς x2 ) (ci := 3) (as := []) rfl rfl rfl q1421 q1422 mdX8_100 (ctX3_size x2 ) rfl (Nat.le_of_ble_eq_true rfl) (Nat.le_of_ble_eq_true rfl) (Nat.le_of_ble_eq_true rfl) pu_I dX8_declareAll_54 (fun r2 σ1 => ?_)
    refine g_icmp_ge 197 dX8_declareAll_57 (by decide) ?_ ?_
    · refine g_aload_n 0 0 dX8_declareAll_197 rfl rfl ?_
      refine g_getR fdX8_57 dX8_declareAll_198 ?_
      refine g_getR fdX8_152 dX8_declareAll_201 ?_
      refine g_nmA (fun y3 => ?_)
      refine g_astore_n 3 dX8_declareAll_204 rfl (by decide) rfl ?_
      refine g_iconst (v := 0) dX8_declareAll_205 (by decide) ?_
      refine g_istore dX8_declareAll_206 (by decide) rfl ?_
      refine G.sub [2, 1, 0] rfl ?_
      exact gX8_declareAll_p208 FU _ _ _ _
    · refine g_aload_n 2 1 dX8_declareAll_60 rfl rfl ?_
      refine g_iload_n 3 2 dX8_declareAll_61 rfl rfl ?_
      refine g_callV (fc := fun sς => Row_at sς x2 x3) (ci := 3) (as := [iv x3]) rfl rfl rfl q1409 q1410 mdX8_174 (ctX3_at x2 x3) rfl (Nat.le_of_ble_eq_true rfl) (Nat.le_of_ble_eq_true rfl) (Nat.le_of_ble_eq_true rfl) pu_I dX8_declareAll_62 (fun r5 σ4 => ?_)
      refine g_iconst (v := 1) dX8_declareAll_65 (by decide) ?_
      refine g_icmp_ne 87 dX8_declareAll_66 (by decide) ?_ ?_
      · exact gX8_declareAll_p87 (Ldr_declareAll_p52 n) (gX8_declareAll_p52 n) _ _ _ _
      · refine g_aload_n 0 0 dX8_declareAll_69 rfl rfl ?_
        refine g_aload_n 2 1 dX8_declareAll_70 rfl rfl ?_
        refine g_iload_n 3 2 dX8_declareAll_71 rfl rfl ?_
        refine g_iconst (v := 4) dX8_declareAll_72 (by decide) ?_
        refine g_iadd dX8_declareAll_73 ?_
        refine g_callV (fc := fun sς => Row_at sς x2 (x3 + (4 : Int32))) (ci := 3) (as := [iv (x3 + (4 : Int32))]) rfl rfl rfl q1409 q1410 mdX8_174 (ctX3_at x2 (x3 + (4 : Int32))) rfl (Nat.le_of_ble_eq_true rfl) (Nat.le_of_ble_eq_true rfl) (Nat.le_of_ble_eq_true rfl) pu_I dX8_declareAll_74 (fun r7 σ6 => ?_)
        refine g_aload_n 2 1 dX8_declareAll_77 rfl rfl ?_
        refine g_iload_n 3 2 dX8_declareAll_78 rfl rfl ?_
        refine g_iconst (v := 5) dX8_declareAll_79 (by decide) ?_
        refine g_iadd dX8_declareAll_80 ?_
        refine g_callV (fc := fun sς => Row_at sς x2 (x3 + (5 : Int32))) (ci := 3) (as := [iv (x3 + (5 : Int32))]) rfl rfl rfl q1409 q1410 mdX8_174 (ctX3_at x2 (x3 + (5 : Int32))) rfl (Nat.le_of_ble_eq_true rfl) (Nat.le_of_ble_eq_true rfl) (Nat.le_of_ble_eq_true rfl) pu_I dX8_declareAll_81 (fun r9 σ8 => ?_)
        refine g_callV (fc := fun sς => Ldr_declareIn sς x0 r7 r9) (ci := 8) (as := [iv r7, iv r9]) rfl rfl rfl q1695 qs62 mdX8_268 (ctX8_declareIn x0 r7 r9) rfl (Nat.le_of_ble_eq_true rfl) (Nat.le_of_ble_eq_true rfl) (Nat.le_of_ble_eq_true rfl) pu_V dX8_declareAll_84 (fun _ σ10 => ?_)
        exact gX8_declareAll_p87 (Ldr_declareAll_p52 n) (gX8_declareAll_p52 n) _ _ _ _
def V.Ldr_declareAll_p10  : Nat → HS → Nat → Nat → Int32 → Option (Unit × HS)
  | 0, _, _, _, _ => none
  | n + 1, σ, x0, x1, x2 =>
    ck (tg σ x1 = 4) <| cl (Row_size σ x1 ) fun r2 σ1 =>
    if r2 ≤ x2 then (
      ck (tg σ1 x0 = 9) <|
      ck (tg σ1 (gR σ1 x0 7) = 3) <|
      bn (gR σ1 (gR σ1 x0 7) 9) fun y3 =>
      Ldr_declareAll_p52 FU σ1 x0 y3 (0 : Int32))
    else (
      ck (tg σ1 x1 = 4) <| cl (Row_at σ1 x1 (x2 + (2 : Int32))) fun r5 σ4 =>
      ck (tg σ4 x1 = 4) <| cl (Row_at σ4 x1 (x2 + (3 : Int32))) fun r7 σ6 =>
      ck (tg σ6 x0 = 9) <| cl (Ldr_declareIn σ6 x0 r5 r7) fun _ σ8 =>
      bn (x2 + (4 : Int32)) fun y9 =>
      Ldr_declareAll_p10 n σ8 x0 x1 y9)
theorem V.gX8_declareAll_p10 {X : CX}  : ∀ (n : Nat) (σ : HS) (x0 : Nat) (x1 : Nat) (x2 : Int32), G X RX8 "declareAll" cX8_declareAll 6 none 6 131 enV 10 [(0, av x0), (1, av x1), (2, iv x2)] [] σ (Ldr_declareAll_p10 n σ x0 x1 x2)
  | 0, σ, x0, x1, x2 => by rw [Ldr_declareAll_p10]; exact G.nul
  | n + 1, σ, x0, x1, x2 => by
    rw [Ldr_declareAll_p10]
    refine g_iload_n 2 2 dX8_declareAll_10 rfl rfl ?_
    refine g_aload_n 1 1 dX8_declareAll_11 rfl rfl ?_
    refine g_callV (fc := fun sς => Row_size sς x1 ) (ci := 3) (as := []) rfl rfl rfl q1421 q1422 mdX8_100 (ctX3_size x1 ) rfl (Nat.le_of_ble_eq_true rfl) (Nat.le_of_ble_eq_true rfl) (Nat.le_of_ble_eq_true rfl) pu_I dX8_declareAll_12 (fun r2 σ1 => ?_)
    refine g_icmp_ge 42 dX8_declareAll_15 (by decide) ?_ ?_
    · refine g_aload_n 0 0 dX8_declareAll_42 rfl rfl ?_
      refine g_getR fdX8_57 dX8_declareAll_43 ?_
      refine g_getR fdX8_155 dX8_declareAll_46 ?_
      refine g_nmA (fun y3 => ?_)
      refine g_astore_n 2 dX8_declareAll_49 rfl (by decide) rfl ?_
      refine g_iconst (v := 0) dX8_declareAll_50 (by decide) ?_
      refine g_istore_n 3 dX8_declareAll_51 rfl (by decide) rfl ?_
      refine G.sub [2, 1, 0] rfl ?_
      exact gX8_declareAll_p52 FU _ _ _ _
    · refine g_aload_n 0 0 dX8_declareAll_18 rfl rfl ?_
      refine g_aload_n 1 1 dX8_declareAll_19 rfl rfl ?_
      refine g_iload_n 2 2 dX8_declareAll_20 rfl rfl ?_
      refine g_iconst (v := 2) dX8_declareAll_21 (by decide) ?_
      refine g_iadd dX8_declareAll_22 ?_
      refine g_callV (fc := fun sς => Row_at sς x1 (x2 + (2 : Int32))) (ci := 3) (as := [iv (x2 + (2 : Int32))]) rfl rfl rfl q1409 q1410 mdX8_174 (ctX3_at x1 (x2 + (2 : Int32))) rfl (Nat.le_of_ble_eq_true rfl) (Nat.le_of_ble_eq_true rfl) (Nat.le_of_ble_eq_true rfl) pu_I dX8_declareAll_23 (fun r5 σ4 => ?_)
      refine g_aload_n 1 1 dX8_declareAll_26 rfl rfl ?_
      refine g_iload_n 2 2 dX8_declareAll_27 rfl rfl ?_
      refine g_iconst (v := 3) dX8_declareAll_28 (by decide) ?_
      refine g_iadd dX8_declareAll_29 ?_
      refine g_callV (fc := fun sς => Row_at sς x1 (x2 + (3 : Int32))) (ci := 3) (as := [iv (x2 + (3 : Int32))]) rfl rfl rfl q1409 q1410 mdX8_174 (ctX3_at x1 (x2 + (3 : Int32))) rfl (Nat.le_of_ble_eq_true rfl) (Nat.le_of_ble_eq_true rfl) (Nat.le_of_ble_eq_true rfl) pu_I dX8_declareAll_30 (fun r7 σ6 => ?_)
      refine g_callV (fc := fun sς => Ldr_declareIn sς x0 r5 r7) (ci := 8) (as := [iv r5, iv r7]) rfl rfl rfl q1695 qs62 mdX8_268 (ctX8_declareIn x0 r5 r7) rfl (Nat.le_of_ble_eq_true rfl) (Nat.le_of_ble_eq_true rfl) (Nat.le_of_ble_eq_true rfl) pu_V dX8_declareAll_33 (fun _ σ8 => ?_)
      refine g_iincB (w := 4) 2 dX8_declareAll_36 rfl (by decide) (by decide) (fun _ => rfl) (fun y9 => ?_)
      refine g_goto 10 dX8_declareAll_39 (by decide) ?_
      refine G.sub [1, 2, 0] rfl ?_
      exact gX8_declareAll_p10 n _ _ _ _
def V.Ldr_declareAll (σ : HS) (x0 : Nat) : Option (Unit × HS) :=
  ck (tg σ x0 = 9) <|
  ck (tg σ (gR σ x0 7) = 3) <|
  bn (gR σ (gR σ x0 7) 7) fun y1 =>
  Ldr_declareAll_p10 FU σ x0 y1 (0 : Int32)
theorem V.ctX8_declareAll (x0 : Nat) : Ct yX8_declareAll  cX8_declareAll 6 none 6 131 eV [av x0] (fun σ => Ldr_declareAll σ x0) := by
  refine Ct.of (own := RX8) (nm := "declareAll") (desc := "()V") rfl (by decide) (Nat.le_of_ble_eq_true rfl) (by decide) (fun X σ => ?_)
  show G X RX8 "declareAll" cX8_declareAll 6 none 6 131 enV 0 [(0, av x0)] [] σ (Ldr_declareAll σ x0)
  unfold Ldr_declareAll
  refine g_aload_n 0 0 dX8_declareAll_0 rfl rfl ?_
  refine g_getR fdX8_57 dX8_declareAll_1 ?_
  refine g_getR fdX8_149 dX8_declareAll_4 ?_
  refine g_nmA (fun y1 => ?_)
  refine g_astore_n 1 dX8_declareAll_7 rfl (by decide) rfl ?_
  refine g_iconst (v := 0) dX8_declareAll_8 (by decide) ?_
  refine g_istore_n 2 dX8_declareAll_9 rfl (by decide) rfl ?_
  refine G.sub [2, 1, 0] rfl ?_
  exact gX8_declareAll_p10 FU _ _ _ _
theorem V.dX8_fillSpaces_0 : decode cX8_fillSpaces 0 = .ok (.aload_n 0, 1) := by decide +kernel
theorem V.dX8_fillSpaces_1 : decode cX8_fillSpaces 1 = .ok (.getfield 19, 3) := by decide +kernel
theorem V.dX8_fillSpaces_4 : decode cX8_fillSpaces 4 = .ok (.getfield 233, 3) := by decide +kernel
theorem V.dX8_fillSpaces_7 : decode cX8_fillSpaces 7 = .ok (.iconst 0, 1) := by decide +kernel
theorem V.dX8_fillSpaces_8 : decode cX8_fillSpaces 8 = .ok (.invokevirtual 234, 3) := by decide +kernel
theorem V.dX8_fillSpaces_11 : decode cX8_fillSpaces 11 = .ok (.aload_n 0, 1) := by decide +kernel
theorem V.dX8_fillSpaces_12 : decode cX8_fillSpaces 12 = .ok (.getfield 19, 3) := by decide +kernel
theorem V.dX8_fillSpaces_15 : decode cX8_fillSpaces 15 = .ok (.getfield 237, 3) := by decide +kernel
theorem V.dX8_fillSpaces_18 : decode cX8_fillSpaces 18 = .ok (.iconst 0, 1) := by decide +kernel
theorem V.dX8_fillSpaces_19 : decode cX8_fillSpaces 19 = .ok (.invokevirtual 234, 3) := by decide +kernel
theorem V.dX8_fillSpaces_22 : decode cX8_fillSpaces 22 = .ok (.aload_n 0, 1) := by decide +kernel
theorem V.dX8_fillSpaces_23 : decode cX8_fillSpaces 23 = .ok (.getfield 19, 3) := by decide +kernel
theorem V.dX8_fillSpaces_26 : decode cX8_fillSpaces 26 = .ok (.getfield 240, 3) := by decide +kernel
theorem V.dX8_fillSpaces_29 : decode cX8_fillSpaces 29 = .ok (.iconst 0, 1) := by decide +kernel
theorem V.dX8_fillSpaces_30 : decode cX8_fillSpaces 30 = .ok (.invokevirtual 234, 3) := by decide +kernel
theorem V.dX8_fillSpaces_33 : decode cX8_fillSpaces 33 = .ok (.aload_n 0, 1) := by decide +kernel
theorem V.dX8_fillSpaces_34 : decode cX8_fillSpaces 34 = .ok (.getfield 19, 3) := by decide +kernel
theorem V.dX8_fillSpaces_37 : decode cX8_fillSpaces 37 = .ok (.getfield 241, 3) := by decide +kernel
theorem V.dX8_fillSpaces_40 : decode cX8_fillSpaces 40 = .ok (.iconst 0, 1) := by decide +kernel
theorem V.dX8_fillSpaces_41 : decode cX8_fillSpaces 41 = .ok (.invokevirtual 234, 3) := by decide +kernel
theorem V.dX8_fillSpaces_44 : decode cX8_fillSpaces 44 = .ok (.aload_n 0, 1) := by decide +kernel
theorem V.dX8_fillSpaces_45 : decode cX8_fillSpaces 45 = .ok (.getfield 19, 3) := by decide +kernel
theorem V.dX8_fillSpaces_48 : decode cX8_fillSpaces 48 = .ok (.getfield 242, 3) := by decide +kernel
theorem V.dX8_fillSpaces_51 : decode cX8_fillSpaces 51 = .ok (.iconst 0, 1) := by decide +kernel
theorem V.dX8_fillSpaces_52 : decode cX8_fillSpaces 52 = .ok (.invokevirtual 234, 3) := by decide +kernel
theorem V.dX8_fillSpaces_55 : decode cX8_fillSpaces 55 = .ok (.aload_n 0, 1) := by decide +kernel
theorem V.dX8_fillSpaces_56 : decode cX8_fillSpaces 56 = .ok (.getfield 19, 3) := by decide +kernel
theorem V.dX8_fillSpaces_59 : decode cX8_fillSpaces 59 = .ok (.getfield 245, 3) := by decide +kernel
theorem V.dX8_fillSpaces_62 : decode cX8_fillSpaces 62 = .ok (.iconst 0, 1) := by decide +kernel
theorem V.dX8_fillSpaces_63 : decode cX8_fillSpaces 63 = .ok (.invokevirtual 234, 3) := by decide +kernel
theorem V.dX8_fillSpaces_66 : decode cX8_fillSpaces 66 = .ok (.aload_n 0, 1) := by decide +kernel
theorem V.dX8_fillSpaces_67 : decode cX8_fillSpaces 67 = .ok (.getfield 19, 3) := by decide +kernel
theorem V.dX8_fillSpaces_70 : decode cX8_fillSpaces 70 = .ok (.iconst 0, 1) := by decide +kernel
theorem V.dX8_fillSpaces_71 : decode cX8_fillSpaces 71 = .ok (.putfield 246, 3) := by decide +kernel
theorem V.dX8_fillSpaces_74 : decode cX8_fillSpaces 74 = .ok (.iconst 0, 1) := by decide +kernel
theorem V.dX8_fillSpaces_75 : decode cX8_fillSpaces 75 = .ok (.istore_n 1, 1) := by decide +kernel
theorem V.dX8_fillSpaces_76 : decode cX8_fillSpaces 76 = .ok (.iload_n 1, 1) := by decide +kernel
theorem V.dX8_fillSpaces_77 : decode cX8_fillSpaces 77 = .ok (.aload_n 0, 1) := by decide +kernel
theorem V.dX8_fillSpaces_78 : decode cX8_fillSpaces 78 = .ok (.invokevirtual 191, 3) := by decide +kernel
theorem V.dX8_fillSpaces_81 : decode cX8_fillSpaces 81 = .ok (.if_icmp .ge 111, 3) := by decide +kernel
theorem V.dX8_fillSpaces_84 : decode cX8_fillSpaces 84 = .ok (.aload_n 0, 1) := by decide +kernel
theorem V.dX8_fillSpaces_85 : decode cX8_fillSpaces 85 = .ok (.iload_n 1, 1) := by decide +kernel
theorem V.dX8_fillSpaces_86 : decode cX8_fillSpaces 86 = .ok (.invokevirtual 194, 3) := by decide +kernel
theorem V.dX8_fillSpaces_89 : decode cX8_fillSpaces 89 = .ok (.istore_n 2, 1) := by decide +kernel
theorem V.dX8_fillSpaces_90 : decode cX8_fillSpaces 90 = .ok (.iload_n 2, 1) := by decide +kernel
theorem V.dX8_fillSpaces_91 : decode cX8_fillSpaces 91 = .ok (.ifCond .ne 19, 3) := by decide +kernel
theorem V.dX8_fillSpaces_94 : decode cX8_fillSpaces 94 = .ok (.aload_n 0, 1) := by decide +kernel
theorem V.dX8_fillSpaces_95 : decode cX8_fillSpaces 95 = .ok (.getfield 19, 3) := by decide +kernel
theorem V.dX8_fillSpaces_98 : decode cX8_fillSpaces 98 = .ok (.getfield 233, 3) := by decide +kernel
theorem V.dX8_fillSpaces_101 : decode cX8_fillSpaces 101 = .ok (.aload_n 0, 1) := by decide +kernel
theorem V.dX8_fillSpaces_102 : decode cX8_fillSpaces 102 = .ok (.iload_n 1, 1) := by decide +kernel
theorem V.dX8_fillSpaces_103 : decode cX8_fillSpaces 103 = .ok (.iconst 0, 1) := by decide +kernel
theorem V.dX8_fillSpaces_104 : decode cX8_fillSpaces 104 = .ok (.invokevirtual 197, 3) := by decide +kernel
theorem V.dX8_fillSpaces_107 : decode cX8_fillSpaces 107 = .ok (.invokevirtual 248, 3) := by decide +kernel
theorem V.dX8_fillSpaces_110 : decode cX8_fillSpaces 110 = .ok (.iload_n 2, 1) := by decide +kernel
theorem V.dX8_fillSpaces_111 : decode cX8_fillSpaces 111 = .ok (.iconst 1, 1) := by decide +kernel
theorem V.dX8_fillSpaces_112 : decode cX8_fillSpaces 112 = .ok (.if_icmp .ne 19, 3) := by decide +kernel
theorem V.dX8_fillSpaces_115 : decode cX8_fillSpaces 115 = .ok (.aload_n 0, 1) := by decide +kernel
theorem V.dX8_fillSpaces_116 : decode cX8_fillSpaces 116 = .ok (.getfield 19, 3) := by decide +kernel
theorem V.dX8_fillSpaces_119 : decode cX8_fillSpaces 119 = .ok (.getfield 240, 3) := by decide +kernel
theorem V.dX8_fillSpaces_122 : decode cX8_fillSpaces 122 = .ok (.aload_n 0, 1) := by decide +kernel
theorem V.dX8_fillSpaces_123 : decode cX8_fillSpaces 123 = .ok (.iload_n 1, 1) := by decide +kernel
theorem V.dX8_fillSpaces_124 : decode cX8_fillSpaces 124 = .ok (.iconst 0, 1) := by decide +kernel
theorem V.dX8_fillSpaces_125 : decode cX8_fillSpaces 125 = .ok (.invokevirtual 197, 3) := by decide +kernel
theorem V.dX8_fillSpaces_128 : decode cX8_fillSpaces 128 = .ok (.invokevirtual 248, 3) := by decide +kernel
theorem V.dX8_fillSpaces_131 : decode cX8_fillSpaces 131 = .ok (.iload_n 2, 1) := by decide +kernel
theorem V.dX8_fillSpaces_132 : decode cX8_fillSpaces 132 = .ok (.iconst 2, 1) := by decide +kernel
theorem V.dX8_fillSpaces_133 : decode cX8_fillSpaces 133 = .ok (.if_icmp .ne 16, 3) := by decide +kernel
theorem V.dX8_fillSpaces_136 : decode cX8_fillSpaces 136 = .ok (.aload_n 0, 1) := by decide +kernel
theorem V.dX8_fillSpaces_137 : decode cX8_fillSpaces 137 = .ok (.getfield 19, 3) := by decide +kernel
theorem V.dX8_fillSpaces_140 : decode cX8_fillSpaces 140 = .ok (.dup, 1) := by decide +kernel
theorem V.dX8_fillSpaces_141 : decode cX8_fillSpaces 141 = .ok (.getfield 246, 3) := by decide +kernel
theorem V.dX8_fillSpaces_144 : decode cX8_fillSpaces 144 = .ok (.iconst 1, 1) := by decide +kernel
theorem V.dX8_fillSpaces_145 : decode cX8_fillSpaces 145 = .ok (.iadd, 1) := by decide +kernel
theorem V.dX8_fillSpaces_146 : decode cX8_fillSpaces 146 = .ok (.putfield 246, 3) := by decide +kernel
theorem V.dX8_fillSpaces_149 : decode cX8_fillSpaces 149 = .ok (.iload_n 2, 1) := by decide +kernel
theorem V.dX8_fillSpaces_150 : decode cX8_fillSpaces 150 = .ok (.iconst 3, 1) := by decide +kernel
theorem V.dX8_fillSpaces_151 : decode cX8_fillSpaces 151 = .ok (.if_icmp .ne 35, 3) := by decide +kernel
theorem V.dX8_fillSpaces_154 : decode cX8_fillSpaces 154 = .ok (.aload_n 0, 1) := by decide +kernel
theorem V.dX8_fillSpaces_155 : decode cX8_fillSpaces 155 = .ok (.getfield 19, 3) := by decide +kernel
theorem V.dX8_fillSpaces_158 : decode cX8_fillSpaces 158 = .ok (.getfield 241, 3) := by decide +kernel
theorem V.dX8_fillSpaces_161 : decode cX8_fillSpaces 161 = .ok (.aload_n 0, 1) := by decide +kernel
theorem V.dX8_fillSpaces_162 : decode cX8_fillSpaces 162 = .ok (.iload_n 1, 1) := by decide +kernel
theorem V.dX8_fillSpaces_163 : decode cX8_fillSpaces 163 = .ok (.iconst 0, 1) := by decide +kernel
theorem V.dX8_fillSpaces_164 : decode cX8_fillSpaces 164 = .ok (.invokevirtual 197, 3) := by decide +kernel
theorem V.dX8_fillSpaces_167 : decode cX8_fillSpaces 167 = .ok (.invokevirtual 248, 3) := by decide +kernel
theorem V.dX8_fillSpaces_170 : decode cX8_fillSpaces 170 = .ok (.aload_n 0, 1) := by decide +kernel
theorem V.dX8_fillSpaces_171 : decode cX8_fillSpaces 171 = .ok (.getfield 19, 3) := by decide +kernel
theorem V.dX8_fillSpaces_174 : decode cX8_fillSpaces 174 = .ok (.getfield 242, 3) := by decide +kernel
theorem V.dX8_fillSpaces_177 : decode cX8_fillSpaces 177 = .ok (.aload_n 0, 1) := by decide +kernel
theorem V.dX8_fillSpaces_178 : decode cX8_fillSpaces 178 = .ok (.iload_n 1, 1) := by decide +kernel
theorem V.dX8_fillSpaces_179 : decode cX8_fillSpaces 179 = .ok (.iconst 1, 1) := by decide +kernel
theorem V.dX8_fillSpaces_180 : decode cX8_fillSpaces 180 = .ok (.invokevirtual 197, 3) := by decide +kernel
theorem V.dX8_fillSpaces_183 : decode cX8_fillSpaces 183 = .ok (.invokevirtual 248, 3) := by decide +kernel
theorem V.dX8_fillSpaces_186 : decode cX8_fillSpaces 186 = .ok (.iinc 1 1, 3) := by decide +kernel
theorem V.dX8_fillSpaces_189 : decode cX8_fillSpaces 189 = .ok (.goto (-113), 3) := by decide +kernel
theorem V.dX8_fillSpaces_192 : decode cX8_fillSpaces 192 = .ok (.aload_n 0, 1) := by decide +kernel
theorem V.dX8_fillSpaces_193 : decode cX8_fillSpaces 193 = .ok (.aload_n 0, 1) := by decide +kernel
theorem V.dX8_fillSpaces_194 : decode cX8_fillSpaces 194 = .ok (.getfield 19, 3) := by decide +kernel
theorem V.dX8_fillSpaces_197 : decode cX8_fillSpaces 197 = .ok (.getfield 241, 3) := by decide +kernel
theorem V.dX8_fillSpaces_200 : decode cX8_fillSpaces 200 = .ok (.invokevirtual 100, 3) := by decide +kernel
theorem V.dX8_fillSpaces_203 : decode cX8_fillSpaces 203 = .ok (.putfield 251, 3) := by decide +kernel
theorem V.dX8_fillSpaces_206 : decode cX8_fillSpaces 206 = .ok (.iconst 0, 1) := by decide +kernel
theorem V.dX8_fillSpaces_207 : decode cX8_fillSpaces 207 = .ok (.istore_n 1, 1) := by decide +kernel
theorem V.dX8_fillSpaces_208 : decode cX8_fillSpaces 208 = .ok (.iload_n 1, 1) := by decide +kernel
theorem V.dX8_fillSpaces_209 : decode cX8_fillSpaces 209 = .ok (.aload_n 0, 1) := by decide +kernel
theorem V.dX8_fillSpaces_210 : decode cX8_fillSpaces 210 = .ok (.getfield 57, 3) := by decide +kernel
theorem V.dX8_fillSpaces_213 : decode cX8_fillSpaces 213 = .ok (.getfield 96, 3) := by decide +kernel
theorem V.dX8_fillSpaces_216 : decode cX8_fillSpaces 216 = .ok (.invokevirtual 100, 3) := by decide +kernel
theorem V.dX8_fillSpaces_219 : decode cX8_fillSpaces 219 = .ok (.if_icmp .ge 30, 3) := by decide +kernel
theorem V.dX8_fillSpaces_222 : decode cX8_fillSpaces 222 = .ok (.aload_n 0, 1) := by decide +kernel
theorem V.dX8_fillSpaces_223 : decode cX8_fillSpaces 223 = .ok (.getfield 19, 3) := by decide +kernel
theorem V.dX8_fillSpaces_226 : decode cX8_fillSpaces 226 = .ok (.getfield 233, 3) := by decide +kernel
theorem V.dX8_fillSpaces_229 : decode cX8_fillSpaces 229 = .ok (.aload_n 0, 1) := by decide +kernel
theorem V.dX8_fillSpaces_230 : decode cX8_fillSpaces 230 = .ok (.getfield 57, 3) := by decide +kernel
theorem V.dX8_fillSpaces_233 : decode cX8_fillSpaces 233 = .ok (.getfield 96, 3) := by decide +kernel
theorem V.dX8_fillSpaces_236 : decode cX8_fillSpaces 236 = .ok (.iload_n 1, 1) := by decide +kernel
theorem V.dX8_fillSpaces_237 : decode cX8_fillSpaces 237 = .ok (.invokevirtual 174, 3) := by decide +kernel
theorem V.dX8_fillSpaces_240 : decode cX8_fillSpaces 240 = .ok (.invokevirtual 248, 3) := by decide +kernel
theorem V.dX8_fillSpaces_243 : decode cX8_fillSpaces 243 = .ok (.iinc 1 1, 3) := by decide +kernel
theorem V.dX8_fillSpaces_246 : decode cX8_fillSpaces 246 = .ok (.goto (-38), 3) := by decide +kernel
theorem V.dX8_fillSpaces_249 : decode cX8_fillSpaces 249 = .ok (.iconst 0, 1) := by decide +kernel
theorem V.dX8_fillSpaces_250 : decode cX8_fillSpaces 250 = .ok (.istore_n 1, 1) := by decide +kernel
theorem V.dX8_fillSpaces_251 : decode cX8_fillSpaces 251 = .ok (.iload_n 1, 1) := by decide +kernel
theorem V.dX8_fillSpaces_252 : decode cX8_fillSpaces 252 = .ok (.aload_n 0, 1) := by decide +kernel
theorem V.dX8_fillSpaces_253 : decode cX8_fillSpaces 253 = .ok (.getfield 57, 3) := by decide +kernel
theorem V.dX8_fillSpaces_256 : decode cX8_fillSpaces 256 = .ok (.getfield 143, 3) := by decide +kernel
theorem V.dX8_fillSpaces_259 : decode cX8_fillSpaces 259 = .ok (.invokevirtual 100, 3) := by decide +kernel
theorem V.dX8_fillSpaces_262 : decode cX8_fillSpaces 262 = .ok (.if_icmp .ge 30, 3) := by decide +kernel
theorem V.dX8_fillSpaces_265 : decode cX8_fillSpaces 265 = .ok (.aload_n 0, 1) := by decide +kernel
theorem V.dX8_fillSpaces_266 : decode cX8_fillSpaces 266 = .ok (.getfield 19, 3) := by decide +kernel
theorem V.dX8_fillSpaces_269 : decode cX8_fillSpaces 269 = .ok (.getfield 240, 3) := by decide +kernel
theorem V.dX8_fillSpaces_272 : decode cX8_fillSpaces 272 = .ok (.aload_n 0, 1) := by decide +kernel
theorem V.dX8_fillSpaces_273 : decode cX8_fillSpaces 273 = .ok (.getfield 57, 3) := by decide +kernel
theorem V.dX8_fillSpaces_276 : decode cX8_fillSpaces 276 = .ok (.getfield 143, 3) := by decide +kernel
theorem V.dX8_fillSpaces_279 : decode cX8_fillSpaces 279 = .ok (.iload_n 1, 1) := by decide +kernel
theorem V.dX8_fillSpaces_280 : decode cX8_fillSpaces 280 = .ok (.invokevirtual 174, 3) := by decide +kernel
theorem V.dX8_fillSpaces_283 : decode cX8_fillSpaces 283 = .ok (.invokevirtual 248, 3) := by decide +kernel
theorem V.dX8_fillSpaces_286 : decode cX8_fillSpaces 286 = .ok (.iinc 1 4, 3) := by decide +kernel
theorem V.dX8_fillSpaces_289 : decode cX8_fillSpaces 289 = .ok (.goto (-38), 3) := by decide +kernel
theorem V.dX8_fillSpaces_292 : decode cX8_fillSpaces 292 = .ok (.aload_n 0, 1) := by decide +kernel
theorem V.dX8_fillSpaces_293 : decode cX8_fillSpaces 293 = .ok (.getfield 19, 3) := by decide +kernel
theorem V.dX8_fillSpaces_296 : decode cX8_fillSpaces 296 = .ok (.dup, 1) := by decide +kernel
theorem V.dX8_fillSpaces_297 : decode cX8_fillSpaces 297 = .ok (.getfield 246, 3) := by decide +kernel
theorem V.dX8_fillSpaces_300 : decode cX8_fillSpaces 300 = .ok (.aload_n 0, 1) := by decide +kernel
theorem V.dX8_fillSpaces_301 : decode cX8_fillSpaces 301 = .ok (.getfield 57, 3) := by decide +kernel
theorem V.dX8_fillSpaces_304 : decode cX8_fillSpaces 304 = .ok (.getfield 146, 3) := by decide +kernel
theorem V.dX8_fillSpaces_307 : decode cX8_fillSpaces 307 = .ok (.iconst 4, 1) := by decide +kernel
theorem V.dX8_fillSpaces_308 : decode cX8_fillSpaces 308 = .ok (.invokestatic 139, 3) := by decide +kernel
theorem V.dX8_fillSpaces_311 : decode cX8_fillSpaces 311 = .ok (.iadd, 1) := by decide +kernel
theorem V.dX8_fillSpaces_312 : decode cX8_fillSpaces 312 = .ok (.putfield 246, 3) := by decide +kernel
theorem V.dX8_fillSpaces_315 : decode cX8_fillSpaces 315 = .ok (.iconst 0, 1) := by decide +kernel
theorem V.dX8_fillSpaces_316 : decode cX8_fillSpaces 316 = .ok (.istore_n 1, 1) := by decide +kernel
theorem V.dX8_fillSpaces_317 : decode cX8_fillSpaces 317 = .ok (.iload_n 1, 1) := by decide +kernel
theorem V.dX8_fillSpaces_318 : decode cX8_fillSpaces 318 = .ok (.aload_n 0, 1) := by decide +kernel
theorem V.dX8_fillSpaces_319 : decode cX8_fillSpaces 319 = .ok (.getfield 57, 3) := by decide +kernel
theorem V.dX8_fillSpaces_322 : decode cX8_fillSpaces 322 = .ok (.getfield 149, 3) := by decide +kernel
theorem V.dX8_fillSpaces_325 : decode cX8_fillSpaces 325 = .ok (.invokevirtual 100, 3) := by decide +kernel
theorem V.dX8_fillSpaces_328 : decode cX8_fillSpaces 328 = .ok (.if_icmp .ge 53, 3) := by decide +kernel
theorem V.dX8_fillSpaces_331 : decode cX8_fillSpaces 331 = .ok (.aload_n 0, 1) := by decide +kernel
theorem V.dX8_fillSpaces_332 : decode cX8_fillSpaces 332 = .ok (.getfield 19, 3) := by decide +kernel
theorem V.dX8_fillSpaces_335 : decode cX8_fillSpaces 335 = .ok (.getfield 241, 3) := by decide +kernel
theorem V.dX8_fillSpaces_338 : decode cX8_fillSpaces 338 = .ok (.aload_n 0, 1) := by decide +kernel
theorem V.dX8_fillSpaces_339 : decode cX8_fillSpaces 339 = .ok (.getfield 57, 3) := by decide +kernel
theorem V.dX8_fillSpaces_342 : decode cX8_fillSpaces 342 = .ok (.getfield 149, 3) := by decide +kernel
theorem V.dX8_fillSpaces_345 : decode cX8_fillSpaces 345 = .ok (.iload_n 1, 1) := by decide +kernel
theorem V.dX8_fillSpaces_346 : decode cX8_fillSpaces 346 = .ok (.invokevirtual 174, 3) := by decide +kernel
theorem V.dX8_fillSpaces_349 : decode cX8_fillSpaces 349 = .ok (.invokevirtual 248, 3) := by decide +kernel
theorem V.dX8_fillSpaces_352 : decode cX8_fillSpaces 352 = .ok (.aload_n 0, 1) := by decide +kernel
theorem V.dX8_fillSpaces_353 : decode cX8_fillSpaces 353 = .ok (.getfield 19, 3) := by decide +kernel
theorem V.dX8_fillSpaces_356 : decode cX8_fillSpaces 356 = .ok (.getfield 242, 3) := by decide +kernel
theorem V.dX8_fillSpaces_359 : decode cX8_fillSpaces 359 = .ok (.aload_n 0, 1) := by decide +kernel
theorem V.dX8_fillSpaces_360 : decode cX8_fillSpaces 360 = .ok (.getfield 57, 3) := by decide +kernel
theorem V.dX8_fillSpaces_363 : decode cX8_fillSpaces 363 = .ok (.getfield 149, 3) := by decide +kernel
theorem V.dX8_fillSpaces_366 : decode cX8_fillSpaces 366 = .ok (.iload_n 1, 1) := by decide +kernel
theorem V.dX8_fillSpaces_367 : decode cX8_fillSpaces 367 = .ok (.iconst 1, 1) := by decide +kernel
theorem V.dX8_fillSpaces_368 : decode cX8_fillSpaces 368 = .ok (.iadd, 1) := by decide +kernel
theorem V.dX8_fillSpaces_369 : decode cX8_fillSpaces 369 = .ok (.invokevirtual 174, 3) := by decide +kernel
theorem V.dX8_fillSpaces_372 : decode cX8_fillSpaces 372 = .ok (.invokevirtual 248, 3) := by decide +kernel
theorem V.dX8_fillSpaces_375 : decode cX8_fillSpaces 375 = .ok (.iinc 1 4, 3) := by decide +kernel
theorem V.dX8_fillSpaces_378 : decode cX8_fillSpaces 378 = .ok (.goto (-61), 3) := by decide +kernel
theorem V.dX8_fillSpaces_381 : decode cX8_fillSpaces 381 = .ok (.iconst 0, 1) := by decide +kernel
theorem V.dX8_fillSpaces_382 : decode cX8_fillSpaces 382 = .ok (.istore_n 1, 1) := by decide +kernel
theorem V.dX8_fillSpaces_383 : decode cX8_fillSpaces 383 = .ok (.iload_n 1, 1) := by decide +kernel
theorem V.dX8_fillSpaces_384 : decode cX8_fillSpaces 384 = .ok (.aload_n 0, 1) := by decide +kernel
theorem V.dX8_fillSpaces_385 : decode cX8_fillSpaces 385 = .ok (.getfield 57, 3) := by decide +kernel
theorem V.dX8_fillSpaces_388 : decode cX8_fillSpaces 388 = .ok (.getfield 155, 3) := by decide +kernel
theorem V.dX8_fillSpaces_391 : decode cX8_fillSpaces 391 = .ok (.invokevirtual 100, 3) := by decide +kernel
theorem V.dX8_fillSpaces_394 : decode cX8_fillSpaces 394 = .ok (.if_icmp .ge 32, 3) := by decide +kernel
theorem V.dX8_fillSpaces_397 : decode cX8_fillSpaces 397 = .ok (.aload_n 0, 1) := by decide +kernel
theorem V.dX8_fillSpaces_398 : decode cX8_fillSpaces 398 = .ok (.getfield 19, 3) := by decide +kernel
theorem V.dX8_fillSpaces_401 : decode cX8_fillSpaces 401 = .ok (.getfield 245, 3) := by decide +kernel
theorem V.dX8_fillSpaces_404 : decode cX8_fillSpaces 404 = .ok (.aload_n 0, 1) := by decide +kernel
theorem V.dX8_fillSpaces_405 : decode cX8_fillSpaces 405 = .ok (.getfield 57, 3) := by decide +kernel
theorem V.dX8_fillSpaces_408 : decode cX8_fillSpaces 408 = .ok (.getfield 155, 3) := by decide +kernel
theorem V.dX8_fillSpaces_411 : decode cX8_fillSpaces 411 = .ok (.iload_n 1, 1) := by decide +kernel
theorem V.dX8_fillSpaces_412 : decode cX8_fillSpaces 412 = .ok (.iconst 1, 1) := by decide +kernel
theorem V.dX8_fillSpaces_413 : decode cX8_fillSpaces 413 = .ok (.iadd, 1) := by decide +kernel
theorem V.dX8_fillSpaces_414 : decode cX8_fillSpaces 414 = .ok (.invokevirtual 174, 3) := by decide +kernel
theorem V.dX8_fillSpaces_417 : decode cX8_fillSpaces 417 = .ok (.invokevirtual 248, 3) := by decide +kernel
theorem V.dX8_fillSpaces_420 : decode cX8_fillSpaces 420 = .ok (.iinc 1 8, 3) := by decide +kernel
theorem V.dX8_fillSpaces_423 : decode cX8_fillSpaces 423 = .ok (.goto (-40), 3) := by decide +kernel
theorem V.dX8_fillSpaces_426 : decode cX8_fillSpaces 426 = .ok (.aload_n 0, 1) := by decide +kernel
theorem V.dX8_fillSpaces_427 : decode cX8_fillSpaces 427 = .ok (.getfield 19, 3) := by decide +kernel
theorem V.dX8_fillSpaces_430 : decode cX8_fillSpaces 430 = .ok (.aload_n 0, 1) := by decide +kernel
theorem V.dX8_fillSpaces_431 : decode cX8_fillSpaces 431 = .ok (.getfield 57, 3) := by decide +kernel
theorem V.dX8_fillSpaces_434 : decode cX8_fillSpaces 434 = .ok (.getfield 162, 3) := by decide +kernel
theorem V.dX8_fillSpaces_437 : decode cX8_fillSpaces 437 = .ok (.bipush 6, 2) := by decide +kernel
theorem V.dX8_fillSpaces_439 : decode cX8_fillSpaces 439 = .ok (.invokestatic 139, 3) := by decide +kernel
theorem V.dX8_fillSpaces_442 : decode cX8_fillSpaces 442 = .ok (.putfield 254, 3) := by decide +kernel
theorem V.dX8_fillSpaces_445 : decode cX8_fillSpaces 445 = .ok (.iconst 0, 1) := by decide +kernel
theorem V.dX8_fillSpaces_446 : decode cX8_fillSpaces 446 = .ok (.istore_n 1, 1) := by decide +kernel
theorem V.dX8_fillSpaces_447 : decode cX8_fillSpaces 447 = .ok (.iload_n 1, 1) := by decide +kernel
theorem V.dX8_fillSpaces_448 : decode cX8_fillSpaces 448 = .ok (.aload_n 0, 1) := by decide +kernel
theorem V.dX8_fillSpaces_449 : decode cX8_fillSpaces 449 = .ok (.getfield 19, 3) := by decide +kernel
theorem V.dX8_fillSpaces_452 : decode cX8_fillSpaces 452 = .ok (.getfield 233, 3) := by decide +kernel
theorem V.dX8_fillSpaces_455 : decode cX8_fillSpaces 455 = .ok (.invokevirtual 100, 3) := by decide +kernel
theorem V.dX8_fillSpaces_458 : decode cX8_fillSpaces 458 = .ok (.if_icmp .ge 20, 3) := by decide +kernel
theorem V.dX8_fillSpaces_461 : decode cX8_fillSpaces 461 = .ok (.aload_n 0, 1) := by decide +kernel
theorem V.dX8_fillSpaces_462 : decode cX8_fillSpaces 462 = .ok (.getfield 19, 3) := by decide +kernel
theorem V.dX8_fillSpaces_465 : decode cX8_fillSpaces 465 = .ok (.getfield 237, 3) := by decide +kernel
theorem V.dX8_fillSpaces_468 : decode cX8_fillSpaces 468 = .ok (.iconst 0, 1) := by decide +kernel
theorem V.dX8_fillSpaces_469 : decode cX8_fillSpaces 469 = .ok (.invokevirtual 248, 3) := by decide +kernel
theorem V.dX8_fillSpaces_472 : decode cX8_fillSpaces 472 = .ok (.iinc 1 1, 3) := by decide +kernel
theorem V.dX8_fillSpaces_475 : decode cX8_fillSpaces 475 = .ok (.goto (-28), 3) := by decide +kernel
theorem V.dX8_fillSpaces_478 : decode cX8_fillSpaces 478 = .ok (.aload_n 0, 1) := by decide +kernel
theorem V.dX8_fillSpaces_479 : decode cX8_fillSpaces 479 = .ok (.invokevirtual 256, 3) := by decide +kernel
theorem V.dX8_fillSpaces_482 : decode cX8_fillSpaces 482 = .ok (.return_, 1) := by decide +kernel
theorem V.mdX8_234 : MD RX8 234 yX3_cut cX3_cut 2 none 1 := ⟨Or.inl q1687, q363, q1283, by decide, by decide, by decide +kernel⟩
theorem V.fdX8_240 : FD RX8 240 10 2 2 := ⟨(RX10, TX10, 8), tyX10, rfl, rfl, in_X10, by decide, Or.inr ⟨_, q778⟩, rfl⟩
theorem V.fdX8_241 : FD RX8 241 10 3 2 := ⟨(RX10, TX10, 8), tyX10, rfl, rfl, in_X10, by decide, Or.inr ⟨_, q781⟩, rfl⟩
theorem V.fdX8_242 : FD RX8 242 10 4 2 := ⟨(RX10, TX10, 8), tyX10, rfl, rfl, in_X10, by decide, Or.inr ⟨_, q784⟩, rfl⟩
theorem V.fdX8_245 : FD RX8 245 10 5 2 := ⟨(RX10, TX10, 8), tyX10, rfl, rfl, in_X10, by decide, Or.inr ⟨_, q787⟩, rfl⟩
theorem V.fpX8_246 {nm : String} : FP RX8 nm 246 10 6 (.int) := ⟨(RX10, TX10, 8), tyX10, rfl, rfl, in_X10, by decide, tyX10_ok, nmX10, rfl, Or.inl ⟨rfl, Or.inr ⟨_, q789⟩⟩⟩
theorem V.fpX8_251 {nm : String} : FP RX8 nm 251 8 8 (.int) := ⟨(RX8, TX8, 9), tyX8, rfl, rfl, in_X8, by decide, tyX8_ok, nmX8, rfl, Or.inl ⟨rfl, Or.inl q922⟩⟩
theorem V.mdX8_248 : MD RX8 248 yX3_add cX3_add 4 none 1 := ⟨Or.inl q1688, q363, q1407, by decide, by decide, by decide +kernel⟩
theorem V.fdX8_246 : FD RX8 246 10 6 0 := ⟨(RX10, TX10, 8), tyX10, rfl, rfl, in_X10, by decide, Or.inr ⟨_, q789⟩, rfl⟩
theorem V.fpX8_254 {nm : String} : FP RX8 nm 254 10 7 (.int) := ⟨(RX10, TX10, 8), tyX10, rfl, rfl, in_X10, by decide, tyX10_ok, nmX10, rfl, Or.inl ⟨rfl, Or.inr ⟨_, q791⟩⟩⟩
theorem V.mdX8_256 : MD RX8 256 yX8_declareAll cX8_declareAll 6 none 0 := ⟨Or.inl q1689, q368, q1692, by decide, by decide, by decide +kernel⟩
/-! ModuleEngine$Loader.fillSpaces()V -/
def V.Ldr_fillSpaces_p447  : Nat → HS → Nat → Int32 → Option (Unit × HS)
  | 0, _, _, _ => none
  | n + 1, σ, x0, x1 =>
    ck (tg σ x0 = 9) <|
    ck (tg σ (gR σ x0 4) = 11) <|
    ck (tg σ (gR σ (gR σ x0 4) 0) = 4) <| cl (Row_size σ (gR σ (gR σ x0 4) 0) ) fun r2 σ1 =>
    if r2 ≤ x1 then (
      ck (tg σ1 x0 = 9) <| cl (Ldr_declareAll σ1 x0 ) fun _ σ3 =>
      some ((), σ3))
    else (
      ck (tg σ1 x0 = 9) <|
      ck (tg σ1 (gR σ1 x0 4) = 11) <|
      ck (tg σ1 (gR σ1 (gR σ1 x0 4) 1) = 4) <| cl (Row_add σ1 (gR σ1 (gR σ1 x0 4) 1) (0 : Int32)) fun _ σ4 =>
      bn (x1 + (1 : Int32)) fun y5 =>
      Ldr_fillSpaces_p447 n σ4 x0 y5)
theorem V.gX8_fillSpaces_p447 {X : CX}  : ∀ (n : Nat) (σ : HS) (x0 : Nat) (x1 : Int32), G X RX8 "fillSpaces" cX8_fillSpaces 3 none 7 156 enV 447 [(0, av x0), (1, iv x1)] [] σ (Ldr_fillSpaces_p447 n σ x0 x1)
  | 0, σ, x0, x1 => by rw [Ldr_fillSpaces_p447]; exact G.nul
  | n + 1, σ, x0, x1 => by
    rw [Ldr_fillSpaces_p447]
    refine g_iload_n 1 1 dX8_fillSpaces_447 rfl rfl ?_
    refine g_aload_n 0 0 dX8_fillSpaces_448 rfl rfl ?_
    refine g_getR fdX8_19 dX8_fillSpaces_449 ?_
    refine g_getR fdX8_233 dX8_fillSpaces_452 ?_
    refine g_callV (fc := fun sς => Row_size sς (gR σ (gR σ x0 4) 0) ) (ci := 3) (as := []) rfl rfl rfl q1421 q1422 mdX8_100 (ctX3_size (gR σ (gR σ x0 4) 0) ) rfl (Nat.le_of_ble_eq_true rfl) (Nat.le_of_ble_eq_true rfl) (Nat.le_of_ble_eq_true rfl) pu_I dX8_fillSpaces_455 (fun r2 σ1 => ?_)
    refine g_icmp_ge 478 dX8_fillSpaces_458 (by decide) ?_ ?_
    · refine g_aload_n 0 0 dX8_fillSpaces_478 rfl rfl ?_
      refine g_callV (fc := fun sς => Ldr_declareAll sς x0 ) (ci := 8) (as := []) rfl rfl rfl q1691 qs61 mdX8_256 (ctX8_declareAll x0 ) rfl (Nat.le_of_ble_eq_true rfl) (Nat.le_of_ble_eq_true rfl) (Nat.le_of_ble_eq_true rfl) pu_V dX8_fillSpaces_479 (fun _ σ3 => ?_)
      exact g_return rfl dX8_fillSpaces_482
    · refine g_aload_n 0 0 dX8_fillSpaces_461 rfl rfl ?_
      refine g_getR fdX8_19 dX8_fillSpaces_462 ?_
      refine g_getR fdX8_237 dX8_fillSpaces_465 ?_
      refine g_iconst (v := 0) dX8_fillSpaces_468 (by decide) ?_
      refine g_callV (fc := fun sς => Row_add sς (gR σ1 (gR σ1 x0 4) 1) (0 : Int32)) (ci := 3) (as := [iv (0 : Int32)]) rfl rfl rfl q1405 q1406 mdX8_248 (ctX3_add (gR σ1 (gR σ1 x0 4) 1) (0 : Int32)) rfl (Nat.le_of_ble_eq_true rfl) (Nat.le_of_ble_eq_true rfl) (Nat.le_of_ble_eq_true rfl) pu_V dX8_fillSpaces_469 (fun _ σ4 => ?_)
      refine g_iincB (w := 1) 1 dX8_fillSpaces_472 rfl (by decide) (by decide) (fun _ => rfl) (fun y5 => ?_)
      refine g_goto 447 dX8_fillSpaces_475 (by decide) ?_
      refine G.sub [1, 0] rfl ?_
      exact gX8_fillSpaces_p447 n _ _ _
def V.Ldr_fillSpaces_p383  : Nat → HS → Nat → Int32 → Option (Unit × HS)
  | 0, _, _, _ => none
  | n + 1, σ, x0, x1 =>
    ck (tg σ x0 = 9) <|
    ck (tg σ (gR σ x0 7) = 3) <|
    ck (tg σ (gR σ (gR σ x0 7) 9) = 4) <| cl (Row_size σ (gR σ (gR σ x0 7) 9) ) fun r2 σ1 =>
    if r2 ≤ x1 then (
      ck (tg σ1 x0 = 9) <|
      ck (tg σ1 x0 = 9) <|
      ck (tg σ1 (gR σ1 x0 7) = 3) <|
      cl (Ldr_count σ1 (gR σ1 (gR σ1 x0 7) 13) (6 : Int32)) fun r4 σ3 =>
      ck (tg σ3 (gR σ1 x0 4) = 11) <| bn (sI σ3 (gR σ1 x0 4) 7 r4) fun σ5 =>
      Ldr_fillSpaces_p447 FU σ5 x0 (0 : Int32))
    else (
      ck (tg σ1 x0 = 9) <|
      ck (tg σ1 (gR σ1 x0 4) = 11) <|
      ck (tg σ1 x0 = 9) <|
      ck (tg σ1 (gR σ1 x0 7) = 3) <|
      ck (tg σ1 (gR σ1 (gR σ1 x0 7) 9) = 4) <| cl (Row_at σ1 (gR σ1 (gR σ1 x0 7) 9) (x1 + (1 : Int32))) fun r7 σ6 =>
      ck (tg σ6 (gR σ1 (gR σ1 x0 4) 5) = 4) <| cl (Row_add σ6 (gR σ1 (gR σ1 x0 4) 5) r7) fun _ σ8 =>
      bn (x1 + (8 : Int32)) fun y9 =>
      Ldr_fillSpaces_p383 n σ8 x0 y9)
theorem V.gX8_fillSpaces_p383 {X : CX}  : ∀ (n : Nat) (σ : HS) (x0 : Nat) (x1 : Int32), G X RX8 "fillSpaces" cX8_fillSpaces 3 none 7 156 enV 383 [(0, av x0), (1, iv x1)] [] σ (Ldr_fillSpaces_p383 n σ x0 x1)
  | 0, σ, x0, x1 => by rw [Ldr_fillSpaces_p383]; exact G.nul
  | n + 1, σ, x0, x1 => by
    rw [Ldr_fillSpaces_p383]
    refine g_iload_n 1 1 dX8_fillSpaces_383 rfl rfl ?_
    refine g_aload_n 0 0 dX8_fillSpaces_384 rfl rfl ?_
    refine g_getR fdX8_57 dX8_fillSpaces_385 ?_
    refine g_getR fdX8_155 dX8_fillSpaces_388 ?_
    refine g_callV (fc := fun sς => Row_size sς (gR σ (gR σ x0 7) 9) ) (ci := 3) (as := []) rfl rfl rfl q1421 q1422 mdX8_100 (ctX3_size (gR σ (gR σ x0 7) 9) ) rfl (Nat.le_of_ble_eq_true rfl) (Nat.le_of_ble_eq_true rfl) (Nat.le_of_ble_eq_true rfl) pu_I dX8_fillSpaces_391 (fun r2 σ1 => ?_)
    refine g_icmp_ge 426 dX8_fillSpaces_394 (by decide) ?_ ?_
    · refine g_aload_n 0 0 dX8_fillSpaces_426 rfl rfl ?_
      refine g_getR fdX8_19 dX8_fillSpaces_427 ?_
      refine g_aload_n 0 0 dX8_fillSpaces_430 rfl rfl ?_
      refine g_getR fdX8_57 dX8_fillSpaces_431 ?_
      refine g_getR fdX8_162 dX8_fillSpaces_434 ?_
      refine g_bipush (v := 6) dX8_fillSpaces_437 (by decide) ?_
      refine g_callS (fc := fun sς => Ldr_count sς (gR σ1 (gR σ1 x0 7) 13) (6 : Int32)) (as := [av (gR σ1 (gR σ1 x0 7) 13), iv (6 : Int32)]) q1598 mdX8_139 (ctX8_count (gR σ1 (gR σ1 x0 7) 13) (6 : Int32)) rfl (Nat.le_of_ble_eq_true rfl) (Nat.le_of_ble_eq_true rfl) (Nat.le_of_ble_eq_true rfl) pu_I dX8_fillSpaces_439 (fun r4 σ3 => ?_)
      refine g_putI fpX8_254 dX8_fillSpaces_442 (fun σ5 => ?_)
      refine g_iconst (v := 0) dX8_fillSpaces_445 (by decide) ?_
      refine g_istore_n 1 dX8_fillSpaces_446 rfl (by decide) rfl ?_
      refine G.sub [1, 0] rfl ?_
      exact gX8_fillSpaces_p447 FU _ _ _
    · refine g_aload_n 0 0 dX8_fillSpaces_397 rfl rfl ?_
      refine g_getR fdX8_19 dX8_fillSpaces_398 ?_
      refine g_getR fdX8_245 dX8_fillSpaces_401 ?_
      refine g_aload_n 0 0 dX8_fillSpaces_404 rfl rfl ?_
      refine g_getR fdX8_57 dX8_fillSpaces_405 ?_
      refine g_getR fdX8_155 dX8_fillSpaces_408 ?_
      refine g_iload_n 1 1 dX8_fillSpaces_411 rfl rfl ?_
      refine g_iconst (v := 1) dX8_fillSpaces_412 (by decide) ?_
      refine g_iadd dX8_fillSpaces_413 ?_
      refine g_callV (fc := fun sς => Row_at sς (gR σ1 (gR σ1 x0 7) 9) (x1 + (1 : Int32))) (ci := 3) (as := [iv (x1 + (1 : Int32))]) rfl rfl rfl q1409 q1410 mdX8_174 (ctX3_at (gR σ1 (gR σ1 x0 7) 9) (x1 + (1 : Int32))) rfl (Nat.le_of_ble_eq_true rfl) (Nat.le_of_ble_eq_true rfl) (Nat.le_of_ble_eq_true rfl) pu_I dX8_fillSpaces_414 (fun r7 σ6 => ?_)
      refine g_callV (fc := fun sς => Row_add sς (gR σ1 (gR σ1 x0 4) 5) r7) (ci := 3) (as := [iv r7]) rfl rfl rfl q1405 q1406 mdX8_248 (ctX3_add (gR σ1 (gR σ1 x0 4) 5) r7) rfl (Nat.le_of_ble_eq_true rfl) (Nat.le_of_ble_eq_true rfl) (Nat.le_of_ble_eq_true rfl) pu_V dX8_fillSpaces_417 (fun _ σ8 => ?_)
      refine g_iincB (w := 8) 1 dX8_fillSpaces_420 rfl (by decide) (by decide) (fun _ => rfl) (fun y9 => ?_)
      refine g_goto 383 dX8_fillSpaces_423 (by decide) ?_
      refine G.sub [1, 0] rfl ?_
      exact gX8_fillSpaces_p383 n _ _ _
def V.Ldr_fillSpaces_p317  : Nat → HS → Nat → Int32 → Option (Unit × HS)
  | 0, _, _, _ => none
  | n + 1, σ, x0, x1 =>
    ck (tg σ x0 = 9) <|
    ck (tg σ (gR σ x0 7) = 3) <|
    ck (tg σ (gR σ (gR σ x0 7) 7) = 4) <| cl (Row_size σ (gR σ (gR σ x0 7) 7) ) fun r2 σ1 =>
    if r2 ≤ x1 then (
      Ldr_fillSpaces_p383 FU σ1 x0 (0 : Int32))
    else (
      ck (tg σ1 x0 = 9) <|
      ck (tg σ1 (gR σ1 x0 4) = 11) <|
      ck (tg σ1 x0 = 9) <|
      ck (tg σ1 (gR σ1 x0 7) = 3) <|
      ck (tg σ1 (gR σ1 (gR σ1 x0 7) 7) = 4) <| cl (Row_at σ1 (gR σ1 (gR σ1 x0 7) 7) x1) fun r4 σ3 =>
      ck (tg σ3 (gR σ1 (gR σ1 x0 4) 3) = 4) <| cl (Row_add σ3 (gR σ1 (gR σ1 x0 4) 3) r4) fun _ σ5 =>
      ck (tg σ5 x0 = 9) <|
      ck (tg σ5 (gR σ5 x0 4) = 11) <|
      ck (tg σ5 x0 = 9) <|
      ck (tg σ5 (gR σ5 x0 7) = 3) <|
      ck (tg σ5 (gR σ5 (gR σ5 x0 7) 7) = 4) <| cl (Row_at σ5 (gR σ5 (gR σ5 x0 7) 7) (x1 + (1 : Int32))) fun r7 σ6 =>
      ck (tg σ6 (gR σ5 (gR σ5 x0 4) 4) = 4) <| cl (Row_add σ6 (gR σ5 (gR σ5 x0 4) 4) r7) fun _ σ8 =>
      bn (x1 + (4 : Int32)) fun y9 =>
      Ldr_fillSpaces_p317 n σ8 x0 y9)
theorem V.gX8_fillSpaces_p317 {X : CX}  : ∀ (n : Nat) (σ : HS) (x0 : Nat) (x1 : Int32), G X RX8 "fillSpaces" cX8_fillSpaces 3 none 7 156 enV 317 [(0, av x0), (1, iv x1)] [] σ (Ldr_fillSpaces_p317 n σ x0 x1)
  | 0, σ, x0, x1 => by rw [Ldr_fillSpaces_p317]; exact G.nul
  | n + 1, σ, x0, x1 => by
    rw [Ldr_fillSpaces_p317]
    refine g_iload_n 1 1 dX8_fillSpaces_317 rfl rfl ?_
    refine g_aload_n 0 0 dX8_fillSpaces_318 rfl rfl ?_
    refine g_getR fdX8_57 dX8_fillSpaces_319 ?_
    refine g_getR fdX8_149 dX8_fillSpaces_322 ?_
    refine g_callV (fc := fun sς => Row_size sς (gR σ (gR σ x0 7) 7) ) (ci := 3) (as := []) rfl rfl rfl q1421 q1422 mdX8_100 (ctX3_size (gR σ (gR σ x0 7) 7) ) rfl (Nat.le_of_ble_eq_true rfl) (Nat.le_of_ble_eq_true rfl) (Nat.le_of_ble_eq_true rfl) pu_I dX8_fillSpaces_325 (fun r2 σ1 => ?_)
    refine g_icmp_ge 381 dX8_fillSpaces_328 (by decide) ?_ ?_
    · refine g_iconst (v := 0) dX8_fillSpaces_381 (by decide) ?_
      refine g_istore_n 1 dX8_fillSpaces_382 rfl (by decide) rfl ?_
      refine G.sub [1, 0] rfl ?_
      exact gX8_fillSpaces_p383 FU _ _ _
    · refine g_aload_n 0 0 dX8_fillSpaces_331 rfl rfl ?_
      refine g_getR fdX8_19 dX8_fillSpaces_332 ?_
      refine g_getR fdX8_241 dX8_fillSpaces_335 ?_
      refine g_aload_n 0 0 dX8_fillSpaces_338 rfl rfl ?_
      refine g_getR fdX8_57 dX8_fillSpaces_339 ?_
      refine g_getR fdX8_149 dX8_fillSpaces_342 ?_
      refine g_iload_n 1 1 dX8_fillSpaces_345 rfl rfl ?_
      refine g_callV (fc := fun sς => Row_at sς (gR σ1 (gR σ1 x0 7) 7) x1) (ci := 3) (as := [iv x1]) rfl rfl rfl q1409 q1410 mdX8_174 (ctX3_at (gR σ1 (gR σ1 x0 7) 7) x1) rfl (Nat.le_of_ble_eq_true rfl) (Nat.le_of_ble_eq_true rfl) (Nat.le_of_ble_eq_true rfl) pu_I dX8_fillSpaces_346 (fun r4 σ3 => ?_)
      refine g_callV (fc := fun sς => Row_add sς (gR σ1 (gR σ1 x0 4) 3) r4) (ci := 3) (as := [iv r4]) rfl rfl rfl q1405 q1406 mdX8_248 (ctX3_add (gR σ1 (gR σ1 x0 4) 3) r4) rfl (Nat.le_of_ble_eq_true rfl) (Nat.le_of_ble_eq_true rfl) (Nat.le_of_ble_eq_true rfl) pu_V dX8_fillSpaces_349 (fun _ σ5 => ?_)
      refine g_aload_n 0 0 dX8_fillSpaces_352 rfl rfl ?_
      refine g_getR fdX8_19 dX8_fillSpaces_353 ?_
      refine g_getR fdX8_242 dX8_fillSpaces_356 ?_
      refine g_aload_n 0 0 dX8_fillSpaces_359 rfl rfl ?_
      refine g_getR fdX8_57 dX8_fillSpaces_360 ?_
      refine g_getR fdX8_149 dX8_fillSpaces_363 ?_
      refine g_iload_n 1 1 dX8_fillSpaces_366 rfl rfl ?_
      refine g_iconst (v := 1) dX8_fillSpaces_367 (by decide) ?_
      refine g_iadd dX8_fillSpaces_368 ?_
      refine g_callV (fc := fun sς => Row_at sς (gR σ5 (gR σ5 x0 7) 7) (x1 + (1 : Int32))) (ci := 3) (as := [iv (x1 + (1 : Int32))]) rfl rfl rfl q1409 q1410 mdX8_174 (ctX3_at (gR σ5 (gR σ5 x0 7) 7) (x1 + (1 : Int32))) rfl (Nat.le_of_ble_eq_true rfl) (Nat.le_of_ble_eq_true rfl) (Nat.le_of_ble_eq_true rfl) pu_I dX8_fillSpaces_369 (fun r7 σ6 => ?_)
      refine g_callV (fc := fun sς => Row_add sς (gR σ5 (gR σ5 x0 4) 4) r7) (ci := 3) (as := [iv r7]) rfl rfl rfl q1405 q1406 mdX8_248 (ctX3_add (gR σ5 (gR σ5 x0 4) 4) r7) rfl (Nat.le_of_ble_eq_true rfl) (Nat.le_of_ble_eq_true rfl) (Nat.le_of_ble_eq_true rfl) pu_V dX8_fillSpaces_372 (fun _ σ8 => ?_)
      refine g_iincB (w := 4) 1 dX8_fillSpaces_375 rfl (by decide) (by decide) (fun _ => rfl) (fun y9 => ?_)
      refine g_goto 317 dX8_fillSpaces_378 (by decide) ?_
      refine G.sub [1, 0] rfl ?_
      exact gX8_fillSpaces_p317 n _ _ _
def V.Ldr_fillSpaces_p251  : Nat → HS → Nat → Int32 → Option (Unit × HS)
  | 0, _, _, _ => none
  | n + 1, σ, x0, x1 =>
    ck (tg σ x0 = 9) <|
    ck (tg σ (gR σ x0 7) = 3) <|
    ck (tg σ (gR σ (gR σ x0 7) 5) = 4) <| cl (Row_size σ (gR σ (gR σ x0 7) 5) ) fun r2 σ1 =>
    if r2 ≤ x1 then (
      ck (tg σ1 x0 = 9) <|
      bn (gR σ1 x0 4) fun y3 =>
      ck (tg σ1 y3 = 11) <|
      ck (tg σ1 x0 = 9) <|
      ck (tg σ1 (gR σ1 x0 7) = 3) <|
      cl (Ldr_count σ1 (gR σ1 (gR σ1 x0 7) 6) (4 : Int32)) fun r5 σ4 =>
      ck (tg σ4 y3 = 11) <| bn (sI σ4 y3 6 ((gI σ1 y3 6) + r5)) fun σ6 =>
      Ldr_fillSpaces_p317 FU σ6 x0 (0 : Int32))
    else (
      ck (tg σ1 x0 = 9) <|
      ck (tg σ1 (gR σ1 x0 4) = 11) <|
      ck (tg σ1 x0 = 9) <|
      ck (tg σ1 (gR σ1 x0 7) = 3) <|
      ck (tg σ1 (gR σ1 (gR σ1 x0 7) 5) = 4) <| cl (Row_at σ1 (gR σ1 (gR σ1 x0 7) 5) x1) fun r8 σ7 =>
      ck (tg σ7 (gR σ1 (gR σ1 x0 4) 2) = 4) <| cl (Row_add σ7 (gR σ1 (gR σ1 x0 4) 2) r8) fun _ σ9 =>
      bn (x1 + (4 : Int32)) fun y10 =>
      Ldr_fillSpaces_p251 n σ9 x0 y10)
theorem V.gX8_fillSpaces_p251 {X : CX}  : ∀ (n : Nat) (σ : HS) (x0 : Nat) (x1 : Int32), G X RX8 "fillSpaces" cX8_fillSpaces 3 none 7 156 enV 251 [(0, av x0), (1, iv x1)] [] σ (Ldr_fillSpaces_p251 n σ x0 x1)
  | 0, σ, x0, x1 => by rw [Ldr_fillSpaces_p251]; exact G.nul
  | n + 1, σ, x0, x1 => by
    rw [Ldr_fillSpaces_p251]
    refine g_iload_n 1 1 dX8_fillSpaces_251 rfl rfl ?_
    refine g_aload_n 0 0 dX8_fillSpaces_252 rfl rfl ?_
    refine g_getR fdX8_57 dX8_fillSpaces_253 ?_
    refine g_getR fdX8_143 dX8_fillSpaces_256 ?_
    refine g_callV (fc := fun sς => Row_size sς (gR σ (gR σ x0 7) 5) ) (ci := 3) (as := []) rfl rfl rfl q1421 q1422 mdX8_100 (ctX3_size (gR σ (gR σ x0 7) 5) ) rfl (Nat.le_of_ble_eq_true rfl) (Nat.le_of_ble_eq_true rfl) (Nat.le_of_ble_eq_true rfl) pu_I dX8_fillSpaces_259 (fun r2 σ1 => ?_)
    refine g_icmp_ge 292 dX8_fillSpaces_262 (by decide) ?_ ?_
    · refine g_aload_n 0 0 dX8_fillSpaces_292 rfl rfl ?_
      refine g_getR fdX8_19 dX8_fillSpaces_293 ?_
      refine g_nmA (fun y3 => ?_)
      refine g_dup dX8_fillSpaces_296 rfl ?_
      refine g_getI fdX8_246 dX8_fillSpaces_297 ?_
      refine g_aload_n 0 0 dX8_fillSpaces_300 rfl rfl ?_
      refine g_getR fdX8_57 dX8_fillSpaces_301 ?_
      refine g_getR fdX8_146 dX8_fillSpaces_304 ?_
      refine g_iconst (v := 4) dX8_fillSpaces_307 (by decide) ?_
      refine g_callS (fc := fun sς => Ldr_count sς (gR σ1 (gR σ1 x0 7) 6) (4 : Int32)) (as := [av (gR σ1 (gR σ1 x0 7) 6), iv (4 : Int32)]) q1598 mdX8_139 (ctX8_count (gR σ1 (gR σ1 x0 7) 6) (4 : Int32)) rfl (Nat.le_of_ble_eq_true rfl) (Nat.le_of_ble_eq_true rfl) (Nat.le_of_ble_eq_true rfl) pu_I dX8_fillSpaces_308 (fun r5 σ4 => ?_)
      refine g_iadd dX8_fillSpaces_311 ?_
      refine g_putI fpX8_246 dX8_fillSpaces_312 (fun σ6 => ?_)
      refine g_iconst (v := 0) dX8_fillSpaces_315 (by decide) ?_
      refine g_istore_n 1 dX8_fillSpaces_316 rfl (by decide) rfl ?_
      refine G.sub [1, 0] rfl ?_
      exact gX8_fillSpaces_p317 FU _ _ _
    · refine g_aload_n 0 0 dX8_fillSpaces_265 rfl rfl ?_
      refine g_getR fdX8_19 dX8_fillSpaces_266 ?_
      refine g_getR fdX8_240 dX8_fillSpaces_269 ?_
      refine g_aload_n 0 0 dX8_fillSpaces_272 rfl rfl ?_
      refine g_getR fdX8_57 dX8_fillSpaces_273 ?_
      refine g_getR fdX8_143 dX8_fillSpaces_276 ?_
      refine g_iload_n 1 1 dX8_fillSpaces_279 rfl rfl ?_
      refine g_callV (fc := fun sς => Row_at sς (gR σ1 (gR σ1 x0 7) 5) x1) (ci := 3) (as := [iv x1]) rfl rfl rfl q1409 q1410 mdX8_174 (ctX3_at (gR σ1 (gR σ1 x0 7) 5) x1) rfl (Nat.le_of_ble_eq_true rfl) (Nat.le_of_ble_eq_true rfl) (Nat.le_of_ble_eq_true rfl) pu_I dX8_fillSpaces_280 (fun r8 σ7 => ?_)
      refine g_callV (fc := fun sς => Row_add sς (gR σ1 (gR σ1 x0 4) 2) r8) (ci := 3) (as := [iv r8]) rfl rfl rfl q1405 q1406 mdX8_248 (ctX3_add (gR σ1 (gR σ1 x0 4) 2) r8) rfl (Nat.le_of_ble_eq_true rfl) (Nat.le_of_ble_eq_true rfl) (Nat.le_of_ble_eq_true rfl) pu_V dX8_fillSpaces_283 (fun _ σ9 => ?_)
      refine g_iincB (w := 4) 1 dX8_fillSpaces_286 rfl (by decide) (by decide) (fun _ => rfl) (fun y10 => ?_)
      refine g_goto 251 dX8_fillSpaces_289 (by decide) ?_
      refine G.sub [1, 0] rfl ?_
      exact gX8_fillSpaces_p251 n _ _ _
def V.Ldr_fillSpaces_p208  : Nat → HS → Nat → Int32 → Option (Unit × HS)
  | 0, _, _, _ => none
  | n + 1, σ, x0, x1 =>
    ck (tg σ x0 = 9) <|
    ck (tg σ (gR σ x0 7) = 3) <|
    ck (tg σ (gR σ (gR σ x0 7) 4) = 4) <| cl (Row_size σ (gR σ (gR σ x0 7) 4) ) fun r2 σ1 =>
    if r2 ≤ x1 then (
      Ldr_fillSpaces_p251 FU σ1 x0 (0 : Int32))
    else (
      ck (tg σ1 x0 = 9) <|
      ck (tg σ1 (gR σ1 x0 4) = 11) <|
      ck (tg σ1 x0 = 9) <|
      ck (tg σ1 (gR σ1 x0 7) = 3) <|
      ck (tg σ1 (gR σ1 (gR σ1 x0 7) 4) = 4) <| cl (Row_at σ1 (gR σ1 (gR σ1 x0 7) 4) x1) fun r4 σ3 =>
      ck (tg σ3 (gR σ1 (gR σ1 x0 4) 0) = 4) <| cl (Row_add σ3 (gR σ1 (gR σ1 x0 4) 0) r4) fun _ σ5 =>
      bn (x1 + (1 : Int32)) fun y6 =>
      Ldr_fillSpaces_p208 n σ5 x0 y6)
theorem V.gX8_fillSpaces_p208 {X : CX}  : ∀ (n : Nat) (σ : HS) (x0 : Nat) (x1 : Int32), G X RX8 "fillSpaces" cX8_fillSpaces 3 none 7 156 enV 208 [(0, av x0), (1, iv x1)] [] σ (Ldr_fillSpaces_p208 n σ x0 x1)
  | 0, σ, x0, x1 => by rw [Ldr_fillSpaces_p208]; exact G.nul
  | n + 1, σ, x0, x1 => by
    rw [Ldr_fillSpaces_p208]
    refine g_iload_n 1 1 dX8_fillSpaces_208 rfl rfl ?_
    refine g_aload_n 0 0 dX8_fillSpaces_209 rfl rfl ?_
    refine g_getR fdX8_57 dX8_fillSpaces_210 ?_
    refine g_getR fdX8_96 dX8_fillSpaces_213 ?_
    refine g_callV (fc := fun sς => Row_size sς (gR σ (gR σ x0 7) 4) ) (ci := 3) (as := []) rfl rfl rfl q1421 q1422 mdX8_100 (ctX3_size (gR σ (gR σ x0 7) 4) ) rfl (Nat.le_of_ble_eq_true rfl) (Nat.le_of_ble_eq_true rfl) (Nat.le_of_ble_eq_true rfl) pu_I dX8_fillSpaces_216 (fun r2 σ1 => ?_)
    refine g_icmp_ge 249 dX8_fillSpaces_219 (by decide) ?_ ?_
    · refine g_iconst (v := 0) dX8_fillSpaces_249 (by decide) ?_
      refine g_istore_n 1 dX8_fillSpaces_250 rfl (by decide) rfl ?_
      refine G.sub [1, 0] rfl ?_
      exact gX8_fillSpaces_p251 FU _ _ _
    · refine g_aload_n 0 0 dX8_fillSpaces_222 rfl rfl ?_
      refine g_getR fdX8_19 dX8_fillSpaces_223 ?_
      refine g_getR fdX8_233 dX8_fillSpaces_226 ?_
      refine g_aload_n 0 0 dX8_fillSpaces_229 rfl rfl ?_
      refine g_getR fdX8_57 dX8_fillSpaces_230 ?_
      refine g_getR fdX8_96 dX8_fillSpaces_233 ?_
      refine g_iload_n 1 1 dX8_fillSpaces_236 rfl rfl ?_
      refine g_callV (fc := fun sς => Row_at sς (gR σ1 (gR σ1 x0 7) 4) x1) (ci := 3) (as := [iv x1]) rfl rfl rfl q1409 q1410 mdX8_174 (ctX3_at (gR σ1 (gR σ1 x0 7) 4) x1) rfl (Nat.le_of_ble_eq_true rfl) (Nat.le_of_ble_eq_true rfl) (Nat.le_of_ble_eq_true rfl) pu_I dX8_fillSpaces_237 (fun r4 σ3 => ?_)
      refine g_callV (fc := fun sς => Row_add sς (gR σ1 (gR σ1 x0 4) 0) r4) (ci := 3) (as := [iv r4]) rfl rfl rfl q1405 q1406 mdX8_248 (ctX3_add (gR σ1 (gR σ1 x0 4) 0) r4) rfl (Nat.le_of_ble_eq_true rfl) (Nat.le_of_ble_eq_true rfl) (Nat.le_of_ble_eq_true rfl) pu_V dX8_fillSpaces_240 (fun _ σ5 => ?_)
      refine g_iincB (w := 1) 1 dX8_fillSpaces_243 rfl (by decide) (by decide) (fun _ => rfl) (fun y6 => ?_)
      refine g_goto 208 dX8_fillSpaces_246 (by decide) ?_
      refine G.sub [1, 0] rfl ?_
      exact gX8_fillSpaces_p208 n _ _ _
def V.Ldr_fillSpaces_p186 (rec76 : HS → Nat → Int32 → Option (Unit × HS)) (σ : HS) (x0 : Nat) (x1 : Int32) : Option (Unit × HS) :=
  bn (x1 + (1 : Int32)) fun y1 =>
  rec76 σ x0 y1
theorem V.gX8_fillSpaces_p186 {X : CX} (rec76 : HS → Nat → Int32 → Option (Unit × HS)) (hrec76 : ∀ (σ : HS) (x0 : Nat) (x1 : Int32), G X RX8 "fillSpaces" cX8_fillSpaces 3 none 7 156 enV 76 [(0, av x0), (1, iv x1)] [] σ (rec76 σ x0 x1)) (σ : HS) (x0 : Nat) (x1 : Int32) : G X RX8 "fillSpaces" cX8_fillSpaces 3 none 7 156 enV 186 [(0, av x0), (1, iv x1)] [] σ (Ldr_fillSpaces_p186 rec76 σ x0 x1) := by
  unfold Ldr_fillSpaces_p186
  refine g_iincB (w := 1) 1 dX8_fillSpaces_186 rfl (by decide) (by decide) (fun _ => rfl) (fun y1 => ?_)
  refine g_goto 76 dX8_fillSpaces_189 (by decide) ?_
  refine G.sub [1, 0] rfl ?_
  exact hrec76 _ _ _
def V.Ldr_fillSpaces_p149 (rec76 : HS → Nat → Int32 → Option (Unit × HS)) (σ : HS) (x0 : Nat) (x1 : Int32) (x2 : Int32) : Option (Unit × HS) :=
  if x2 = (3 : Int32) then (
    ck (tg σ x0 = 9) <|
    ck (tg σ (gR σ x0 4) = 11) <|
    ck (tg σ x0 = 9) <| cl (Ldr_importCell σ x0 x1 (0 : Int32)) fun r2 σ1 =>
    ck (tg σ1 (gR σ (gR σ x0 4) 3) = 4) <| cl (Row_add σ1 (gR σ (gR σ x0 4) 3) r2) fun _ σ3 =>
    ck (tg σ3 x0 = 9) <|
    ck (tg σ3 (gR σ3 x0 4) = 11) <|
    ck (tg σ3 x0 = 9) <| cl (Ldr_importCell σ3 x0 x1 (1 : Int32)) fun r5 σ4 =>
    ck (tg σ4 (gR σ3 (gR σ3 x0 4) 4) = 4) <| cl (Row_add σ4 (gR σ3 (gR σ3 x0 4) 4) r5) fun _ σ6 =>
    Ldr_fillSpaces_p186 rec76 σ6 x0 x1)
  else (
    Ldr_fillSpaces_p186 rec76 σ x0 x1)
theorem V.gX8_fillSpaces_p149 {X : CX} (rec76 : HS → Nat → Int32 → Option (Unit × HS)) (hrec76 : ∀ (σ : HS) (x0 : Nat) (x1 : Int32), G X RX8 "fillSpaces" cX8_fillSpaces 3 none 7 156 enV 76 [(0, av x0), (1, iv x1)] [] σ (rec76 σ x0 x1)) (σ : HS) (x0 : Nat) (x1 : Int32) (x2 : Int32) : G X RX8 "fillSpaces" cX8_fillSpaces 3 none 7 156 enV 149 [(0, av x0), (1, iv x1), (2, iv x2)] [] σ (Ldr_fillSpaces_p149 rec76 σ x0 x1 x2) := by
  unfold Ldr_fillSpaces_p149
  refine g_iload_n 2 2 dX8_fillSpaces_149 rfl rfl ?_
  refine g_iconst (v := 3) dX8_fillSpaces_150 (by decide) ?_
  refine g_icmp_ne 186 dX8_fillSpaces_151 (by decide) ?_ ?_
  · refine G.sub [0, 1] rfl ?_
    exact gX8_fillSpaces_p186 rec76 hrec76 _ _ _
  · refine g_aload_n 0 0 dX8_fillSpaces_154 rfl rfl ?_
    refine g_getR fdX8_19 dX8_fillSpaces_155 ?_
    refine g_getR fdX8_241 dX8_fillSpaces_158 ?_
    refine g_aload_n 0 0 dX8_fillSpaces_161 rfl rfl ?_
    refine g_iload_n 1 1 dX8_fillSpaces_162 rfl rfl ?_
    refine g_iconst (v := 0) dX8_fillSpaces_163 (by decide) ?_
    refine g_callV (fc := fun sς => Ldr_importCell sς x0 x1 (0 : Int32)) (ci := 8) (as := [iv x1, iv (0 : Int32)]) rfl rfl rfl q1645 qs51 mdX8_197 (ctX8_importCell x0 x1 (0 : Int32)) rfl (Nat.le_of_ble_eq_true rfl) (Nat.le_of_ble_eq_true rfl) (Nat.le_of_ble_eq_true rfl) pu_I dX8_fillSpaces_164 (fun r2 σ1 => ?_)
    refine g_callV (fc := fun sς => Row_add sς (gR σ (gR σ x0 4) 3) r2) (ci := 3) (as := [iv r2]) rfl rfl rfl q1405 q1406 mdX8_248 (ctX3_add (gR σ (gR σ x0 4) 3) r2) rfl (Nat.le_of_ble_eq_true rfl) (Nat.le_of_ble_eq_true rfl) (Nat.le_of_ble_eq_true rfl) pu_V dX8_fillSpaces_167 (fun _ σ3 => ?_)
    refine g_aload_n 0 0 dX8_fillSpaces_170 rfl rfl ?_
    refine g_getR fdX8_19 dX8_fillSpaces_171 ?_
    refine g_getR fdX8_242 dX8_fillSpaces_174 ?_
    refine g_aload_n 0 0 dX8_fillSpaces_177 rfl rfl ?_
    refine g_iload_n 1 1 dX8_fillSpaces_178 rfl rfl ?_
    refine g_iconst (v := 1) dX8_fillSpaces_179 (by decide) ?_
    refine g_callV (fc := fun sς => Ldr_importCell sς x0 x1 (1 : Int32)) (ci := 8) (as := [iv x1, iv (1 : Int32)]) rfl rfl rfl q1645 qs51 mdX8_197 (ctX8_importCell x0 x1 (1 : Int32)) rfl (Nat.le_of_ble_eq_true rfl) (Nat.le_of_ble_eq_true rfl) (Nat.le_of_ble_eq_true rfl) pu_I dX8_fillSpaces_180 (fun r5 σ4 => ?_)
    refine g_callV (fc := fun sς => Row_add sς (gR σ3 (gR σ3 x0 4) 4) r5) (ci := 3) (as := [iv r5]) rfl rfl rfl q1405 q1406 mdX8_248 (ctX3_add (gR σ3 (gR σ3 x0 4) 4) r5) rfl (Nat.le_of_ble_eq_true rfl) (Nat.le_of_ble_eq_true rfl) (Nat.le_of_ble_eq_true rfl) pu_V dX8_fillSpaces_183 (fun _ σ6 => ?_)
    refine G.sub [0, 1] rfl ?_
    exact gX8_fillSpaces_p186 rec76 hrec76 _ _ _
def V.Ldr_fillSpaces_p131 (rec76 : HS → Nat → Int32 → Option (Unit × HS)) (σ : HS) (x0 : Nat) (x1 : Int32) (x2 : Int32) : Option (Unit × HS) :=
  if x2 = (2 : Int32) then (
    ck (tg σ x0 = 9) <|
    bn (gR σ x0 4) fun y1 =>
    ck (tg σ y1 = 11) <|
    ck (tg σ y1 = 11) <| bn (sI σ y1 6 ((gI σ y1 6) + (1 : Int32))) fun σ2 =>
    Ldr_fillSpaces_p149 rec76 σ2 x0 x1 x2)
  else (
    Ldr_fillSpaces_p149 rec76 σ x0 x1 x2)
theorem V.gX8_fillSpaces_p131 {X : CX} (rec76 : HS → Nat → Int32 → Option (Unit × HS)) (hrec76 : ∀ (σ : HS) (x0 : Nat) (x1 : Int32), G X RX8 "fillSpaces" cX8_fillSpaces 3 none 7 156 enV 76 [(0, av x0), (1, iv x1)] [] σ (rec76 σ x0 x1)) (σ : HS) (x0 : Nat) (x1 : Int32) (x2 : Int32) : G X RX8 "fillSpaces" cX8_fillSpaces 3 none 7 156 enV 131 [(0, av x0), (1, iv x1), (2, iv x2)] [] σ (Ldr_fillSpaces_p131 rec76 σ x0 x1 x2) := by
  unfold Ldr_fillSpaces_p131
  refine g_iload_n 2 2 dX8_fillSpaces_131 rfl rfl ?_
  refine g_iconst (v := 2) dX8_fillSpaces_132 (by decide) ?_
  refine g_icmp_ne 149 dX8_fillSpaces_133 (by decide) ?_ ?_
  · exact gX8_fillSpaces_p149 rec76 hrec76 _ _ _ _
  · refine g_aload_n 0 0 dX8_fillSpaces_136 rfl rfl ?_
    refine g_getR fdX8_19 dX8_fillSpaces_137 ?_
    refine g_nmA (fun y1 => ?_)
    refine g_dup dX8_fillSpaces_140 rfl ?_
    refine g_getI fdX8_246 dX8_fillSpaces_141 ?_
    refine g_iconst (v := 1) dX8_fillSpaces_144 (by decide) ?_
    refine g_iadd dX8_fillSpaces_145 ?_
    refine g_putI fpX8_246 dX8_fillSpaces_146 (fun σ2 => ?_)
    exact gX8_fillSpaces_p149 rec76 hrec76 _ _ _ _
def V.Ldr_fillSpaces_p110 (rec76 : HS → Nat → Int32 → Option (Unit × HS)) (σ : HS) (x0 : Nat) (x1 : Int32) (x2 : Int32) : Option (Unit × HS) :=
  if x2 = (1 : Int32) then (
    ck (tg σ x0 = 9) <|
    ck (tg σ (gR σ x0 4) = 11) <|
    ck (tg σ x0 = 9) <| cl (Ldr_importCell σ x0 x1 (0 : Int32)) fun r2 σ1 =>
    ck (tg σ1 (gR σ (gR σ x0 4) 2) = 4) <| cl (Row_add σ1 (gR σ (gR σ x0 4) 2) r2) fun _ σ3 =>
    Ldr_fillSpaces_p131 rec76 σ3 x0 x1 x2)
  else (
    Ldr_fillSpaces_p131 rec76 σ x0 x1 x2)
theorem V.gX8_fillSpaces_p110 {X : CX} (rec76 : HS → Nat → Int32 → Option (Unit × HS)) (hrec76 : ∀ (σ : HS) (x0 : Nat) (x1 : Int32), G X RX8 "fillSpaces" cX8_fillSpaces 3 none 7 156 enV 76 [(0, av x0), (1, iv x1)] [] σ (rec76 σ x0 x1)) (σ : HS) (x0 : Nat) (x1 : Int32) (x2 : Int32) : G X RX8 "fillSpaces" cX8_fillSpaces 3 none 7 156 enV 110 [(0, av x0), (1, iv x1), (2, iv x2)] [] σ (Ldr_fillSpaces_p110 rec76 σ x0 x1 x2) := by
  unfold Ldr_fillSpaces_p110
  refine g_iload_n 2 2 dX8_fillSpaces_110 rfl rfl ?_
  refine g_iconst (v := 1) dX8_fillSpaces_111 (by decide) ?_
  refine g_icmp_ne 131 dX8_fillSpaces_112 (by decide) ?_ ?_
  · exact gX8_fillSpaces_p131 rec76 hrec76 _ _ _ _
  · refine g_aload_n 0 0 dX8_fillSpaces_115 rfl rfl ?_
    refine g_getR fdX8_19 dX8_fillSpaces_116 ?_
    refine g_getR fdX8_240 dX8_fillSpaces_119 ?_
    refine g_aload_n 0 0 dX8_fillSpaces_122 rfl rfl ?_
    refine g_iload_n 1 1 dX8_fillSpaces_123 rfl rfl ?_
    refine g_iconst (v := 0) dX8_fillSpaces_124 (by decide) ?_
    refine g_callV (fc := fun sς => Ldr_importCell sς x0 x1 (0 : Int32)) (ci := 8) (as := [iv x1, iv (0 : Int32)]) rfl rfl rfl q1645 qs51 mdX8_197 (ctX8_importCell x0 x1 (0 : Int32)) rfl (Nat.le_of_ble_eq_true rfl) (Nat.le_of_ble_eq_true rfl) (Nat.le_of_ble_eq_true rfl) pu_I dX8_fillSpaces_125 (fun r2 σ1 => ?_)
    refine g_callV (fc := fun sς => Row_add sς (gR σ (gR σ x0 4) 2) r2) (ci := 3) (as := [iv r2]) rfl rfl rfl q1405 q1406 mdX8_248 (ctX3_add (gR σ (gR σ x0 4) 2) r2) rfl (Nat.le_of_ble_eq_true rfl) (Nat.le_of_ble_eq_true rfl) (Nat.le_of_ble_eq_true rfl) pu_V dX8_fillSpaces_128 (fun _ σ3 => ?_)
    exact gX8_fillSpaces_p131 rec76 hrec76 _ _ _ _
def V.Ldr_fillSpaces_p76  : Nat → HS → Nat → Int32 → Option (Unit × HS)
  | 0, _, _, _ => none
  | n + 1, σ, x0, x1 =>
    ck (tg σ x0 = 9) <| cl (Ldr_importCount σ x0 ) fun r2 σ1 =>
    if r2 ≤ x1 then (
      ck (tg σ1 x0 = 9) <|
      ck (tg σ1 (gR σ1 x0 4) = 11) <|
      ck (tg σ1 (gR σ1 (gR σ1 x0 4) 3) = 4) <| cl (Row_size σ1 (gR σ1 (gR σ1 x0 4) 3) ) fun r4 σ3 =>
      ck (tg σ3 x0 = 9) <| bn (sI σ3 x0 8 r4) fun σ5 =>
      Ldr_fillSpaces_p208 FU σ5 x0 (0 : Int32))
    else (
      ck (tg σ1 x0 = 9) <| cl (Ldr_kindOf σ1 x0 x1) fun r7 σ6 =>
      if r7 = 0 then (
        ck (tg σ6 x0 = 9) <|
        ck (tg σ6 (gR σ6 x0 4) = 11) <|
        ck (tg σ6 x0 = 9) <| cl (Ldr_importCell σ6 x0 x1 (0 : Int32)) fun r9 σ8 =>
        ck (tg σ8 (gR σ6 (gR σ6 x0 4) 0) = 4) <| cl (Row_add σ8 (gR σ6 (gR σ6 x0 4) 0) r9) fun _ σ10 =>
        Ldr_fillSpaces_p110 (Ldr_fillSpaces_p76 n) σ10 x0 x1 r7)
      else (
        Ldr_fillSpaces_p110 (Ldr_fillSpaces_p76 n) σ6 x0 x1 r7))
theorem V.gX8_fillSpaces_p76 {X : CX}  : ∀ (n : Nat) (σ : HS) (x0 : Nat) (x1 : Int32), G X RX8 "fillSpaces" cX8_fillSpaces 3 none 7 156 enV 76 [(0, av x0), (1, iv x1)] [] σ (Ldr_fillSpaces_p76 n σ x0 x1)
  | 0, σ, x0, x1 => by rw [Ldr_fillSpaces_p76]; exact G.nul
  | n + 1, σ, x0, x1 => by
    rw [Ldr_fillSpaces_p76]
    refine g_iload_n 1 1 dX8_fillSpaces_76 rfl rfl ?_
    refine g_aload_n 0 0 dX8_fillSpaces_77 rfl rfl ?_
    refine g_callV (fc := fun sς => Ldr_importCount sς x0 ) (ci := 8) (as := []) rfl rfl rfl q1637 qs49 mdX8_191 (ctX8_importCount x0 ) rfl (Nat.le_of_ble_eq_true rfl) (Nat.le_of_ble_eq_true rfl) (Nat.le_of_ble_eq_true rfl) pu_I dX8_fillSpaces_78 (fun r2 σ1 => ?_)
    refine g_icmp_ge 192 dX8_fillSpaces_81 (by decide) ?_ ?_
    · refine g_aload_n 0 0 dX8_fillSpaces_192 rfl rfl ?_
      refine g_aload_n 0 0 dX8_fillSpaces_193 rfl rfl ?_
      refine g_getR fdX8_19 dX8_fillSpaces_194 ?_
      refine g_getR fdX8_241 dX8_fillSpaces_197 ?_
      refine g_callV (fc := fun sς => Row_size sς (gR σ1 (gR σ1 x0 4) 3) ) (ci := 3) (as := []) rfl rfl rfl q1421 q1422 mdX8_100 (ctX3_size (gR σ1 (gR σ1 x0 4) 3) ) rfl (Nat.le_of_ble_eq_true rfl) (Nat.le_of_ble_eq_true rfl) (Nat.le_of_ble_eq_true rfl) pu_I dX8_fillSpaces_200 (fun r4 σ3 => ?_)
      refine g_putI fpX8_251 dX8_fillSpaces_203 (fun σ5 => ?_)
      refine g_iconst (v := 0) dX8_fillSpaces_206 (by decide) ?_
      refine g_istore_n 1 dX8_fillSpaces_207 rfl (by decide) rfl ?_
      refine G.sub [1, 0] rfl ?_
      exact gX8_fillSpaces_p208 FU _ _ _
    · refine g_aload_n 0 0 dX8_fillSpaces_84 rfl rfl ?_
      refine g_iload_n 1 1 dX8_fillSpaces_85 rfl rfl ?_
      refine g_callV (fc := fun sς => Ldr_kindOf sς x0 x1) (ci := 8) (as := [iv x1]) rfl rfl rfl q1641 qs50 mdX8_194 (ctX8_kindOf x0 x1) rfl (Nat.le_of_ble_eq_true rfl) (Nat.le_of_ble_eq_true rfl) (Nat.le_of_ble_eq_true rfl) pu_I dX8_fillSpaces_86 (fun r7 σ6 => ?_)
      refine g_istore_n 2 dX8_fillSpaces_89 rfl (by decide) rfl ?_
      refine g_iload_n 2 0 dX8_fillSpaces_90 rfl rfl ?_
      refine g_if_ne 110 dX8_fillSpaces_91 (by decide) ?_ ?_
      · refine G.sub [1, 2, 0] rfl ?_
        exact gX8_fillSpaces_p110 (Ldr_fillSpaces_p76 n) (gX8_fillSpaces_p76 n) _ _ _ _
      · refine g_aload_n 0 1 dX8_fillSpaces_94 rfl rfl ?_
        refine g_getR fdX8_19 dX8_fillSpaces_95 ?_
        refine g_getR fdX8_233 dX8_fillSpaces_98 ?_
        refine g_aload_n 0 1 dX8_fillSpaces_101 rfl rfl ?_
        refine g_iload_n 1 2 dX8_fillSpaces_102 rfl rfl ?_
        refine g_iconst (v := 0) dX8_fillSpaces_103 (by decide) ?_
        refine g_callV (fc := fun sς => Ldr_importCell sς x0 x1 (0 : Int32)) (ci := 8) (as := [iv x1, iv (0 : Int32)]) rfl rfl rfl q1645 qs51 mdX8_197 (ctX8_importCell x0 x1 (0 : Int32)) rfl (Nat.le_of_ble_eq_true rfl) (Nat.le_of_ble_eq_true rfl) (Nat.le_of_ble_eq_true rfl) pu_I dX8_fillSpaces_104 (fun r9 σ8 => ?_)
        refine g_callV (fc := fun sς => Row_add sς (gR σ6 (gR σ6 x0 4) 0) r9) (ci := 3) (as := [iv r9]) rfl rfl rfl q1405 q1406 mdX8_248 (ctX3_add (gR σ6 (gR σ6 x0 4) 0) r9) rfl (Nat.le_of_ble_eq_true rfl) (Nat.le_of_ble_eq_true rfl) (Nat.le_of_ble_eq_true rfl) pu_V dX8_fillSpaces_107 (fun _ σ10 => ?_)
        refine G.sub [1, 2, 0] rfl ?_
        exact gX8_fillSpaces_p110 (Ldr_fillSpaces_p76 n) (gX8_fillSpaces_p76 n) _ _ _ _
def V.Ldr_fillSpaces (σ : HS) (x0 : Nat) : Option (Unit × HS) :=
  ck (tg σ x0 = 9) <|
  ck (tg σ (gR σ x0 4) = 11) <|
  ck (tg σ (gR σ (gR σ x0 4) 0) = 4) <| cl (Row_cut σ (gR σ (gR σ x0 4) 0) (0 : Int32)) fun _ σ1 =>
  ck (tg σ1 x0 = 9) <|
  ck (tg σ1 (gR σ1 x0 4) = 11) <|
  ck (tg σ1 (gR σ1 (gR σ1 x0 4) 1) = 4) <| cl (Row_cut σ1 (gR σ1 (gR σ1 x0 4) 1) (0 : Int32)) fun _ σ2 =>
  ck (tg σ2 x0 = 9) <|
  ck (tg σ2 (gR σ2 x0 4) = 11) <|
  ck (tg σ2 (gR σ2 (gR σ2 x0 4) 2) = 4) <| cl (Row_cut σ2 (gR σ2 (gR σ2 x0 4) 2) (0 : Int32)) fun _ σ3 =>
  ck (tg σ3 x0 = 9) <|
  ck (tg σ3 (gR σ3 x0 4) = 11) <|
  ck (tg σ3 (gR σ3 (gR σ3 x0 4) 3) = 4) <| cl (Row_cut σ3 (gR σ3 (gR σ3 x0 4) 3) (0 : Int32)) fun _ σ4 =>
  ck (tg σ4 x0 = 9) <|
  ck (tg σ4 (gR σ4 x0 4) = 11) <|
  ck (tg σ4 (gR σ4 (gR σ4 x0 4) 4) = 4) <| cl (Row_cut σ4 (gR σ4 (gR σ4 x0 4) 4) (0 : Int32)) fun _ σ5 =>
  ck (tg σ5 x0 = 9) <|
  ck (tg σ5 (gR σ5 x0 4) = 11) <|
  ck (tg σ5 (gR σ5 (gR σ5 x0 4) 5) = 4) <| cl (Row_cut σ5 (gR σ5 (gR σ5 x0 4) 5) (0 : Int32)) fun _ σ6 =>
  ck (tg σ6 x0 = 9) <|
  ck (tg σ6 (gR σ6 x0 4) = 11) <| bn (sI σ6 (gR σ6 x0 4) 6 (0 : Int32)) fun σ7 =>
  Ldr_fillSpaces_p76 FU σ7 x0 (0 : Int32)
theorem V.ctX8_fillSpaces (x0 : Nat) : Ct yX8_fillSpaces  cX8_fillSpaces 3 none 7 156 eV [av x0] (fun σ => Ldr_fillSpaces σ x0) := by
  refine Ct.of (own := RX8) (nm := "fillSpaces") (desc := "()V") rfl (by decide) (Nat.le_of_ble_eq_true rfl) (by decide) (fun X σ => ?_)
  show G X RX8 "fillSpaces" cX8_fillSpaces 3 none 7 156 enV 0 [(0, av x0)] [] σ (Ldr_fillSpaces σ x0)
  unfold Ldr_fillSpaces
  refine g_aload_n 0 0 dX8_fillSpaces_0 rfl rfl ?_
  refine g_getR fdX8_19 dX8_fillSpaces_1 ?_
  refine g_getR fdX8_233 dX8_fillSpaces_4 ?_
  refine g_iconst (v := 0) dX8_fillSpaces_7 (by decide) ?_
  refine g_callV (fc := fun sς => Row_cut sς (gR σ (gR σ x0 4) 0) (0 : Int32)) (ci := 3) (as := [iv (0 : Int32)]) rfl rfl rfl q1281 q1282 mdX8_234 (ctX3_cut (gR σ (gR σ x0 4) 0) (0 : Int32)) rfl (Nat.le_of_ble_eq_true rfl) (Nat.le_of_ble_eq_true rfl) (Nat.le_of_ble_eq_true rfl) pu_V dX8_fillSpaces_8 (fun _ σ1 => ?_)
  refine g_aload_n 0 0 dX8_fillSpaces_11 rfl rfl ?_
  refine g_getR fdX8_19 dX8_fillSpaces_12 ?_
  refine g_getR fdX8_237 dX8_fillSpaces_15 ?_
  refine g_iconst (v := 0) dX8_fillSpaces_18 (by decide) ?_
  refine g_callV (fc := fun sς => Row_cut sς (gR σ1 (gR σ1 x0 4) 1) (0 : Int32)) (ci := 3) (as := [iv (0 : Int32)]) rfl rfl rfl q1281 q1282 mdX8_234 (ctX3_cut (gR σ1 (gR σ1 x0 4) 1) (0 : Int32)) rfl (Nat.le_of_ble_eq_true rfl) (Nat.le_of_ble_eq_true rfl) (Nat.le_of_ble_eq_true rfl) pu_V dX8_fillSpaces_19 (fun _ σ2 => ?_)
  refine g_aload_n 0 0 dX8_fillSpaces_22 rfl rfl ?_
  refine g_getR fdX8_19 dX8_fillSpaces_23 ?_
  refine g_getR fdX8_240 dX8_fillSpaces_26 ?_
  refine g_iconst (v := 0) dX8_fillSpaces_29 (by decide) ?_
  refine g_callV (fc := fun sς => Row_cut sς (gR σ2 (gR σ2 x0 4) 2) (0 : Int32)) (ci := 3) (as := [iv (0 : Int32)]) rfl rfl rfl q1281 q1282 mdX8_234 (ctX3_cut (gR σ2 (gR σ2 x0 4) 2) (0 : Int32)) rfl (Nat.le_of_ble_eq_true rfl) (Nat.le_of_ble_eq_true rfl) (Nat.le_of_ble_eq_true rfl) pu_V dX8_fillSpaces_30 (fun _ σ3 => ?_)
  refine g_aload_n 0 0 dX8_fillSpaces_33 rfl rfl ?_
  refine g_getR fdX8_19 dX8_fillSpaces_34 ?_
  refine g_getR fdX8_241 dX8_fillSpaces_37 ?_
  refine g_iconst (v := 0) dX8_fillSpaces_40 (by decide) ?_
  refine g_callV (fc := fun sς => Row_cut sς (gR σ3 (gR σ3 x0 4) 3) (0 : Int32)) (ci := 3) (as := [iv (0 : Int32)]) rfl rfl rfl q1281 q1282 mdX8_234 (ctX3_cut (gR σ3 (gR σ3 x0 4) 3) (0 : Int32)) rfl (Nat.le_of_ble_eq_true rfl) (Nat.le_of_ble_eq_true rfl) (Nat.le_of_ble_eq_true rfl) pu_V dX8_fillSpaces_41 (fun _ σ4 => ?_)
  refine g_aload_n 0 0 dX8_fillSpaces_44 rfl rfl ?_
  refine g_getR fdX8_19 dX8_fillSpaces_45 ?_
  refine g_getR fdX8_242 dX8_fillSpaces_48 ?_
  refine g_iconst (v := 0) dX8_fillSpaces_51 (by decide) ?_
  refine g_callV (fc := fun sς => Row_cut sς (gR σ4 (gR σ4 x0 4) 4) (0 : Int32)) (ci := 3) (as := [iv (0 : Int32)]) rfl rfl rfl q1281 q1282 mdX8_234 (ctX3_cut (gR σ4 (gR σ4 x0 4) 4) (0 : Int32)) rfl (Nat.le_of_ble_eq_true rfl) (Nat.le_of_ble_eq_true rfl) (Nat.le_of_ble_eq_true rfl) pu_V dX8_fillSpaces_52 (fun _ σ5 => ?_)
  refine g_aload_n 0 0 dX8_fillSpaces_55 rfl rfl ?_
  refine g_getR fdX8_19 dX8_fillSpaces_56 ?_
  refine g_getR fdX8_245 dX8_fillSpaces_59 ?_
  refine g_iconst (v := 0) dX8_fillSpaces_62 (by decide) ?_
  refine g_callV (fc := fun sς => Row_cut sς (gR σ5 (gR σ5 x0 4) 5) (0 : Int32)) (ci := 3) (as := [iv (0 : Int32)]) rfl rfl rfl q1281 q1282 mdX8_234 (ctX3_cut (gR σ5 (gR σ5 x0 4) 5) (0 : Int32)) rfl (Nat.le_of_ble_eq_true rfl) (Nat.le_of_ble_eq_true rfl) (Nat.le_of_ble_eq_true rfl) pu_V dX8_fillSpaces_63 (fun _ σ6 => ?_)
  refine g_aload_n 0 0 dX8_fillSpaces_66 rfl rfl ?_
  refine g_getR fdX8_19 dX8_fillSpaces_67 ?_
  refine g_iconst (v := 0) dX8_fillSpaces_70 (by decide) ?_
  refine g_putI fpX8_246 dX8_fillSpaces_71 (fun σ7 => ?_)
  refine g_iconst (v := 0) dX8_fillSpaces_74 (by decide) ?_
  refine g_istore_n 1 dX8_fillSpaces_75 rfl (by decide) rfl ?_
  refine G.sub [1, 0] rfl ?_
  exact gX8_fillSpaces_p76 FU _ _ _
theorem V.dX8_isConstant_0 : decode cX8_isConstant 0 = .ok (.aload_n 0, 1) := by decide +kernel
theorem V.dX8_isConstant_1 : decode cX8_isConstant 1 = .ok (.getfield 35, 3) := by decide +kernel
theorem V.dX8_isConstant_4 : decode cX8_isConstant 4 = .ok (.getfield 185, 3) := by decide +kernel
theorem V.dX8_isConstant_7 : decode cX8_isConstant 7 = .ok (.istore_n 1, 1) := by decide +kernel
theorem V.dX8_isConstant_8 : decode cX8_isConstant 8 = .ok (.iload_n 1, 1) := by decide +kernel
theorem V.dX8_isConstant_9 : decode cX8_isConstant 9 = .ok (.bipush 35, 2) := by decide +kernel
theorem V.dX8_isConstant_11 : decode cX8_isConstant 11 = .ok (.if_icmp .ne 48, 3) := by decide +kernel
theorem V.dX8_isConstant_14 : decode cX8_isConstant 14 = .ok (.aload_n 0, 1) := by decide +kernel
theorem V.dX8_isConstant_15 : decode cX8_isConstant 15 = .ok (.getfield 35, 3) := by decide +kernel
theorem V.dX8_isConstant_18 : decode cX8_isConstant 18 = .ok (.getfield 262, 3) := by decide +kernel
theorem V.dX8_isConstant_21 : decode cX8_isConstant 21 = .ok (.invokestatic 176, 3) := by decide +kernel
theorem V.dX8_isConstant_24 : decode cX8_isConstant 24 = .ok (.aload_n 0, 1) := by decide +kernel
theorem V.dX8_isConstant_25 : decode cX8_isConstant 25 = .ok (.getfield 251, 3) := by decide +kernel
theorem V.dX8_isConstant_28 : decode cX8_isConstant 28 = .ok (.i2l, 1) := by decide +kernel
theorem V.dX8_isConstant_29 : decode cX8_isConstant 29 = .ok (.lcmp, 1) := by decide +kernel
theorem V.dX8_isConstant_30 : decode cX8_isConstant 30 = .ok (.ifCond .ge 27, 3) := by decide +kernel
theorem V.dX8_isConstant_33 : decode cX8_isConstant 33 = .ok (.aload_n 0, 1) := by decide +kernel
theorem V.dX8_isConstant_34 : decode cX8_isConstant 34 = .ok (.getfield 19, 3) := by decide +kernel
theorem V.dX8_isConstant_37 : decode cX8_isConstant 37 = .ok (.getfield 242, 3) := by decide +kernel
theorem V.dX8_isConstant_40 : decode cX8_isConstant 40 = .ok (.aload_n 0, 1) := by decide +kernel
theorem V.dX8_isConstant_41 : decode cX8_isConstant 41 = .ok (.getfield 35, 3) := by decide +kernel
theorem V.dX8_isConstant_44 : decode cX8_isConstant 44 = .ok (.getfield 262, 3) := by decide +kernel
theorem V.dX8_isConstant_47 : decode cX8_isConstant 47 = .ok (.invokevirtual 174, 3) := by decide +kernel
theorem V.dX8_isConstant_50 : decode cX8_isConstant 50 = .ok (.ifCond .ne 7, 3) := by decide +kernel
theorem V.dX8_isConstant_53 : decode cX8_isConstant 53 = .ok (.iconst 1, 1) := by decide +kernel
theorem V.dX8_isConstant_54 : decode cX8_isConstant 54 = .ok (.goto 4, 3) := by decide +kernel
theorem V.dX8_isConstant_57 : decode cX8_isConstant 57 = .ok (.iconst 0, 1) := by decide +kernel
theorem V.dX8_isConstant_58 : decode cX8_isConstant 58 = .ok (.ireturn, 1) := by decide +kernel
theorem V.dX8_isConstant_59 : decode cX8_isConstant 59 = .ok (.iload_n 1, 1) := by decide +kernel
theorem V.dX8_isConstant_60 : decode cX8_isConstant 60 = .ok (.bipush 11, 2) := by decide +kernel
theorem V.dX8_isConstant_62 : decode cX8_isConstant 62 = .ok (.if_icmp .eq 29, 3) := by decide +kernel
theorem V.dX8_isConstant_65 : decode cX8_isConstant 65 = .ok (.iload_n 1, 1) := by decide +kernel
theorem V.dX8_isConstant_66 : decode cX8_isConstant 66 = .ok (.bipush 64, 2) := by decide +kernel
theorem V.dX8_isConstant_68 : decode cX8_isConstant 68 = .ok (.if_icmp .le 9, 3) := by decide +kernel
theorem V.dX8_isConstant_71 : decode cX8_isConstant 71 = .ok (.iload_n 1, 1) := by decide +kernel
theorem V.dX8_isConstant_72 : decode cX8_isConstant 72 = .ok (.bipush 69, 2) := by decide +kernel
theorem V.dX8_isConstant_74 : decode cX8_isConstant 74 = .ok (.if_icmp .lt 17, 3) := by decide +kernel
theorem V.dX8_isConstant_77 : decode cX8_isConstant 77 = .ok (.iload_n 1, 1) := by decide +kernel
theorem V.dX8_isConstant_78 : decode cX8_isConstant 78 = .ok (.sipush 208, 3) := by decide +kernel
theorem V.dX8_isConstant_81 : decode cX8_isConstant 81 = .ok (.if_icmp .eq 10, 3) := by decide +kernel
theorem V.dX8_isConstant_84 : decode cX8_isConstant 84 = .ok (.iload_n 1, 1) := by decide +kernel
theorem V.dX8_isConstant_85 : decode cX8_isConstant 85 = .ok (.sipush 210, 3) := by decide +kernel
theorem V.dX8_isConstant_88 : decode cX8_isConstant 88 = .ok (.if_icmp .ne 7, 3) := by decide +kernel
theorem V.dX8_isConstant_91 : decode cX8_isConstant 91 = .ok (.iconst 1, 1) := by decide +kernel
theorem V.dX8_isConstant_92 : decode cX8_isConstant 92 = .ok (.goto 4, 3) := by decide +kernel
theorem V.dX8_isConstant_95 : decode cX8_isConstant 95 = .ok (.iconst 0, 1) := by decide +kernel
theorem V.dX8_isConstant_96 : decode cX8_isConstant 96 = .ok (.ireturn, 1) := by decide +kernel
theorem V.fdX8_251 : FD RX8 251 8 8 0 := ⟨(RX8, TX8, 9), tyX8, rfl, rfl, in_X8, by decide, Or.inl q922, rfl⟩
/-! ModuleEngine$Loader.isConstant()Z -/
def V.Ldr_isConstant_p91  (σ : HS)  : Option (Int32 × HS) :=
  some ((1 : Int32), σ)
theorem V.gX8_isConstant_p91 {X : CX}  (σ : HS)  : G X RX8 "isConstant" cX8_isConstant 2 (some .boolean) 1 21 enI 91 [] [] σ (Ldr_isConstant_p91 σ ) := by
  unfold Ldr_isConstant_p91
  refine g_iconst (v := 1) dX8_isConstant_91 (by decide) ?_
  refine g_goto 96 dX8_isConstant_92 (by decide) ?_
  exact g_zreturn rfl (by decide +kernel) dX8_isConstant_96
def V.Ldr_isConstant_p77  (σ : HS) (x1 : Int32) : Option (Int32 × HS) :=
  if x1 = (208 : Int32) then (
    Ldr_isConstant_p91 σ)
  else (
    if x1 = (210 : Int32) then (
      Ldr_isConstant_p91 σ)
    else (
      some ((0 : Int32), σ)))
theorem V.gX8_isConstant_p77 {X : CX}  (σ : HS) (x1 : Int32) : G X RX8 "isConstant" cX8_isConstant 2 (some .boolean) 1 21 enI 77 [(1, iv x1)] [] σ (Ldr_isConstant_p77 σ x1) := by
  unfold Ldr_isConstant_p77
  refine g_iload_n 1 0 dX8_isConstant_77 rfl rfl ?_
  refine g_sipush (v := 208) dX8_isConstant_78 (by decide) ?_
  refine g_icmp_eq 91 dX8_isConstant_81 (by decide) ?_ ?_
  · refine G.sub [] rfl ?_
    exact gX8_isConstant_p91 _
  · refine g_iload_n 1 0 dX8_isConstant_84 rfl rfl ?_
    refine g_sipush (v := 210) dX8_isConstant_85 (by decide) ?_
    refine g_icmp_ne 95 dX8_isConstant_88 (by decide) ?_ ?_
    · refine g_iconst (v := 0) dX8_isConstant_95 (by decide) ?_
      exact g_zreturn rfl (by decide +kernel) dX8_isConstant_96
    · refine G.sub [] rfl ?_
      exact gX8_isConstant_p91 _
def V.Ldr_isConstant (σ : HS) (x0 : Nat) : Option (Int32 × HS) :=
  ck (tg σ x0 = 9) <|
  ck (tg σ (gR σ x0 6) = 13) <|
  bn (gI σ (gR σ x0 6) 3) fun y1 =>
  if y1 = (35 : Int32) then (
    ck (tg σ x0 = 9) <|
    ck (tg σ (gR σ x0 6) = 13) <|
    cl (Mod_wide σ (gI σ (gR σ x0 6) 4)) fun r3 σ2 =>
    ck (tg σ2 x0 = 9) <|
    if ((gI σ2 x0 8).toInt64) ≤ r3 then (
      some ((0 : Int32), σ2))
    else (
      ck (tg σ2 x0 = 9) <|
      ck (tg σ2 (gR σ2 x0 4) = 11) <|
      ck (tg σ2 x0 = 9) <|
      ck (tg σ2 (gR σ2 x0 6) = 13) <|
      ck (tg σ2 (gR σ2 (gR σ2 x0 4) 4) = 4) <| cl (Row_at σ2 (gR σ2 (gR σ2 x0 4) 4) (gI σ2 (gR σ2 x0 6) 4)) fun r5 σ4 =>
      if r5 = 0 then (
        some ((1 : Int32), σ4))
      else (
        some ((0 : Int32), σ4))))
  else (
    if y1 = (11 : Int32) then (
      Ldr_isConstant_p91 σ)
    else (
      if y1 ≤ (64 : Int32) then (
        Ldr_isConstant_p77 σ y1)
      else (
        if y1 < (69 : Int32) then (
          Ldr_isConstant_p91 σ)
        else (
          Ldr_isConstant_p77 σ y1))))
theorem V.ctX8_isConstant (x0 : Nat) : Ct yX8_isConstant  cX8_isConstant 2 (some .boolean) 1 21 eI [av x0] (fun σ => Ldr_isConstant σ x0) := by
  refine Ct.of (own := RX8) (nm := "isConstant") (desc := "()Z") rfl (by decide) (Nat.le_of_ble_eq_true rfl) (by decide) (fun X σ => ?_)
  show G X RX8 "isConstant" cX8_isConstant 2 (some .boolean) 1 21 enI 0 [(0, av x0)] [] σ (Ldr_isConstant σ x0)
  unfold Ldr_isConstant
  refine g_aload_n 0 0 dX8_isConstant_0 rfl rfl ?_
  refine g_getR fdX8_35 dX8_isConstant_1 ?_
  refine g_getI fdX8_185 dX8_isConstant_4 ?_
  refine g_nmI (fun y1 => ?_)
  refine g_istore_n 1 dX8_isConstant_7 rfl (by decide) rfl ?_
  refine g_iload_n 1 0 dX8_isConstant_8 rfl rfl ?_
  refine g_bipush (v := 35) dX8_isConstant_9 (by decide) ?_
  refine g_icmp_ne 59 dX8_isConstant_11 (by decide) ?_ ?_
  · refine g_iload_n 1 0 dX8_isConstant_59 rfl rfl ?_
    refine g_bipush (v := 11) dX8_isConstant_60 (by decide) ?_
    refine g_icmp_eq 91 dX8_isConstant_62 (by decide) ?_ ?_
    · refine G.sub [] rfl ?_
      exact gX8_isConstant_p91 _
    · refine g_iload_n 1 0 dX8_isConstant_65 rfl rfl ?_
      refine g_bipush (v := 64) dX8_isConstant_66 (by decide) ?_
      refine g_icmp_le 77 dX8_isConstant_68 (by decide) ?_ ?_
      · refine G.sub [0] rfl ?_
        exact gX8_isConstant_p77 _ _
      · refine g_iload_n 1 0 dX8_isConstant_71 rfl rfl ?_
        refine g_bipush (v := 69) dX8_isConstant_72 (by decide) ?_
        refine g_icmp_lt 91 dX8_isConstant_74 (by decide) ?_ ?_
        · refine G.sub [] rfl ?_
          exact gX8_isConstant_p91 _
        · refine G.sub [0] rfl ?_
          exact gX8_isConstant_p77 _ _
  · refine g_aload_n 0 1 dX8_isConstant_14 rfl rfl ?_
    refine g_getR fdX8_35 dX8_isConstant_15 ?_
    refine g_getI fdX8_262 dX8_isConstant_18 ?_
    refine g_callS (fc := fun sς => Mod_wide sς (gI σ (gR σ x0 6) 4)) (as := [iv (gI σ (gR σ x0 6) 4)]) q1376 mdX8_176 (ctX2_wide (gI σ (gR σ x0 6) 4)) rfl (Nat.le_of_ble_eq_true rfl) (Nat.le_of_ble_eq_true rfl) (Nat.le_of_ble_eq_true rfl) pu_J dX8_isConstant_21 (fun r3 σ2 => ?_)
    refine g_aload_n 0 1 dX8_isConstant_24 rfl rfl ?_
    refine g_getI fdX8_251 dX8_isConstant_25 ?_
    refine g_i2l dX8_isConstant_28 ?_
    refine g_lcmp_ge 57 dX8_isConstant_29 dX8_isConstant_30 (by decide) ?_ ?_
    · refine g_iconst (v := 0) dX8_isConstant_57 (by decide) ?_
      exact g_zreturn rfl (by decide +kernel) dX8_isConstant_58
    · refine g_aload_n 0 1 dX8_isConstant_33 rfl rfl ?_
      refine g_getR fdX8_19 dX8_isConstant_34 ?_
      refine g_getR fdX8_242 dX8_isConstant_37 ?_
      refine g_aload_n 0 1 dX8_isConstant_40 rfl rfl ?_
      refine g_getR fdX8_35 dX8_isConstant_41 ?_
      refine g_getI fdX8_262 dX8_isConstant_44 ?_
      refine g_callV (fc := fun sς => Row_at sς (gR σ2 (gR σ2 x0 4) 4) (gI σ2 (gR σ2 x0 6) 4)) (ci := 3) (as := [iv (gI σ2 (gR σ2 x0 6) 4)]) rfl rfl rfl q1409 q1410 mdX8_174 (ctX3_at (gR σ2 (gR σ2 x0 4) 4) (gI σ2 (gR σ2 x0 6) 4)) rfl (Nat.le_of_ble_eq_true rfl) (Nat.le_of_ble_eq_true rfl) (Nat.le_of_ble_eq_true rfl) pu_I dX8_isConstant_47 (fun r5 σ4 => ?_)
      refine g_if_ne 57 dX8_isConstant_50 (by decide) ?_ ?_
      · refine g_iconst (v := 0) dX8_isConstant_57 (by decide) ?_
        exact g_zreturn rfl (by decide +kernel) dX8_isConstant_58
      · refine g_iconst (v := 1) dX8_isConstant_53 (by decide) ?_
        refine g_goto 58 dX8_isConstant_54 (by decide) ?_
        exact g_zreturn rfl (by decide +kernel) dX8_isConstant_58
theorem V.dX8_valueOf_0 : decode cX8_valueOf 0 = .ok (.aload_n 0, 1) := by decide +kernel
theorem V.dX8_valueOf_1 : decode cX8_valueOf 1 = .ok (.getfield 35, 3) := by decide +kernel
theorem V.dX8_valueOf_4 : decode cX8_valueOf 4 = .ok (.getfield 185, 3) := by decide +kernel
theorem V.dX8_valueOf_7 : decode cX8_valueOf 7 = .ok (.istore_n 1, 1) := by decide +kernel
theorem V.dX8_valueOf_8 : decode cX8_valueOf 8 = .ok (.iload_n 1, 1) := by decide +kernel
theorem V.dX8_valueOf_9 : decode cX8_valueOf 9 = .ok (.bipush 35, 2) := by decide +kernel
theorem V.dX8_valueOf_11 : decode cX8_valueOf 11 = .ok (.if_icmp .ne 23, 3) := by decide +kernel
theorem V.dX8_valueOf_14 : decode cX8_valueOf 14 = .ok (.aload_n 0, 1) := by decide +kernel
theorem V.dX8_valueOf_15 : decode cX8_valueOf 15 = .ok (.getfield 19, 3) := by decide +kernel
theorem V.dX8_valueOf_18 : decode cX8_valueOf 18 = .ok (.getfield 241, 3) := by decide +kernel
theorem V.dX8_valueOf_21 : decode cX8_valueOf 21 = .ok (.aload_n 0, 1) := by decide +kernel
theorem V.dX8_valueOf_22 : decode cX8_valueOf 22 = .ok (.getfield 35, 3) := by decide +kernel
theorem V.dX8_valueOf_25 : decode cX8_valueOf 25 = .ok (.getfield 262, 3) := by decide +kernel
theorem V.dX8_valueOf_28 : decode cX8_valueOf 28 = .ok (.invokevirtual 174, 3) := by decide +kernel
theorem V.dX8_valueOf_31 : decode cX8_valueOf 31 = .ok (.goto 37, 3) := by decide +kernel
theorem V.dX8_valueOf_34 : decode cX8_valueOf 34 = .ok (.iload_n 1, 1) := by decide +kernel
theorem V.dX8_valueOf_35 : decode cX8_valueOf 35 = .ok (.sipush 208, 3) := by decide +kernel
theorem V.dX8_valueOf_38 : decode cX8_valueOf 38 = .ok (.if_icmp .ne 13, 3) := by decide +kernel
theorem V.dX8_valueOf_41 : decode cX8_valueOf 41 = .ok (.aload_n 0, 1) := by decide +kernel
theorem V.dX8_valueOf_42 : decode cX8_valueOf 42 = .ok (.getfield 35, 3) := by decide +kernel
theorem V.dX8_valueOf_45 : decode cX8_valueOf 45 = .ok (.getfield 262, 3) := by decide +kernel
theorem V.dX8_valueOf_48 : decode cX8_valueOf 48 = .ok (.goto 20, 3) := by decide +kernel
theorem V.dX8_valueOf_51 : decode cX8_valueOf 51 = .ok (.iload_n 1, 1) := by decide +kernel
theorem V.dX8_valueOf_52 : decode cX8_valueOf 52 = .ok (.sipush 210, 3) := by decide +kernel
theorem V.dX8_valueOf_55 : decode cX8_valueOf 55 = .ok (.if_icmp .ne 8, 3) := by decide +kernel
theorem V.dX8_valueOf_58 : decode cX8_valueOf 58 = .ok (.bipush 112, 2) := by decide +kernel
theorem V.dX8_valueOf_60 : decode cX8_valueOf 60 = .ok (.goto 8, 3) := by decide +kernel
theorem V.dX8_valueOf_63 : decode cX8_valueOf 63 = .ok (.sipush 192, 3) := by decide +kernel
theorem V.dX8_valueOf_66 : decode cX8_valueOf 66 = .ok (.iload_n 1, 1) := by decide +kernel
theorem V.dX8_valueOf_67 : decode cX8_valueOf 67 = .ok (.isub, 1) := by decide +kernel
theorem V.dX8_valueOf_68 : decode cX8_valueOf 68 = .ok (.ireturn, 1) := by decide +kernel
/-! ModuleEngine$Loader.valueOf()I -/
def V.Ldr_valueOf (σ : HS) (x0 : Nat) : Option (Int32 × HS) :=
  ck (tg σ x0 = 9) <|
  ck (tg σ (gR σ x0 6) = 13) <|
  bn (gI σ (gR σ x0 6) 3) fun y1 =>
  if y1 = (35 : Int32) then (
    ck (tg σ x0 = 9) <|
    ck (tg σ (gR σ x0 4) = 11) <|
    ck (tg σ x0 = 9) <|
    ck (tg σ (gR σ x0 6) = 13) <|
    ck (tg σ (gR σ (gR σ x0 4) 3) = 4) <| cl (Row_at σ (gR σ (gR σ x0 4) 3) (gI σ (gR σ x0 6) 4)) fun r3 σ2 =>
    some (r3, σ2))
  else (
    if y1 = (208 : Int32) then (
      ck (tg σ x0 = 9) <|
      ck (tg σ (gR σ x0 6) = 13) <|
      some (gI σ (gR σ x0 6) 4, σ))
    else (
      if y1 = (210 : Int32) then (
        some ((112 : Int32), σ))
      else (
        some ((192 : Int32) - y1, σ))))
theorem V.ctX8_valueOf (x0 : Nat) : Ct yX8_valueOf  cX8_valueOf 2 (some .int) 1 21 eI [av x0] (fun σ => Ldr_valueOf σ x0) := by
  refine Ct.of (own := RX8) (nm := "valueOf") (desc := "()I") rfl (by decide) (Nat.le_of_ble_eq_true rfl) (by decide) (fun X σ => ?_)
  show G X RX8 "valueOf" cX8_valueOf 2 (some .int) 1 21 enI 0 [(0, av x0)] [] σ (Ldr_valueOf σ x0)
  unfold Ldr_valueOf
  refine g_aload_n 0 0 dX8_valueOf_0 rfl rfl ?_
  refine g_getR fdX8_35 dX8_valueOf_1 ?_
  refine g_getI fdX8_185 dX8_valueOf_4 ?_
  refine g_nmI (fun y1 => ?_)
  refine g_istore_n 1 dX8_valueOf_7 rfl (by decide) rfl ?_
  refine g_iload_n 1 0 dX8_valueOf_8 rfl rfl ?_
  refine g_bipush (v := 35) dX8_valueOf_9 (by decide) ?_
  refine g_icmp_ne 34 dX8_valueOf_11 (by decide) ?_ ?_
  · refine g_iload_n 1 0 dX8_valueOf_34 rfl rfl ?_
    refine g_sipush (v := 208) dX8_valueOf_35 (by decide) ?_
    refine g_icmp_ne 51 dX8_valueOf_38 (by decide) ?_ ?_
    · refine g_iload_n 1 0 dX8_valueOf_51 rfl rfl ?_
      refine g_sipush (v := 210) dX8_valueOf_52 (by decide) ?_
      refine g_icmp_ne 63 dX8_valueOf_55 (by decide) ?_ ?_
      · refine g_sipush (v := 192) dX8_valueOf_63 (by decide) ?_
        refine g_iload_n 1 0 dX8_valueOf_66 rfl rfl ?_
        refine g_isub dX8_valueOf_67 ?_
        exact g_ireturn rfl dX8_valueOf_68
      · refine g_bipush (v := 112) dX8_valueOf_58 (by decide) ?_
        refine g_goto 68 dX8_valueOf_60 (by decide) ?_
        exact g_ireturn rfl dX8_valueOf_68
    · refine g_aload_n 0 1 dX8_valueOf_41 rfl rfl ?_
      refine g_getR fdX8_35 dX8_valueOf_42 ?_
      refine g_getI fdX8_262 dX8_valueOf_45 ?_
      refine g_goto 68 dX8_valueOf_48 (by decide) ?_
      exact g_ireturn rfl dX8_valueOf_68
  · refine g_aload_n 0 1 dX8_valueOf_14 rfl rfl ?_
    refine g_getR fdX8_19 dX8_valueOf_15 ?_
    refine g_getR fdX8_241 dX8_valueOf_18 ?_
    refine g_aload_n 0 1 dX8_valueOf_21 rfl rfl ?_
    refine g_getR fdX8_35 dX8_valueOf_22 ?_
    refine g_getI fdX8_262 dX8_valueOf_25 ?_
    refine g_callV (fc := fun sς => Row_at sς (gR σ (gR σ x0 4) 3) (gI σ (gR σ x0 6) 4)) (ci := 3) (as := [iv (gI σ (gR σ x0 6) 4)]) rfl rfl rfl q1409 q1410 mdX8_174 (ctX3_at (gR σ (gR σ x0 4) 3) (gI σ (gR σ x0 6) 4)) rfl (Nat.le_of_ble_eq_true rfl) (Nat.le_of_ble_eq_true rfl) (Nat.le_of_ble_eq_true rfl) pu_I dX8_valueOf_28 (fun r3 σ2 => ?_)
    refine g_goto 68 dX8_valueOf_31 (by decide) ?_
    exact g_ireturn rfl dX8_valueOf_68
theorem V.dX8_checkConstant_0 : decode cX8_checkConstant 0 = .ok (.aload_n 0, 1) := by decide +kernel
theorem V.dX8_checkConstant_1 : decode cX8_checkConstant 1 = .ok (.getfield 35, 3) := by decide +kernel
theorem V.dX8_checkConstant_4 : decode cX8_checkConstant 4 = .ok (.iload_n 1, 1) := by decide +kernel
theorem V.dX8_checkConstant_5 : decode cX8_checkConstant 5 = .ok (.invokevirtual 112, 3) := by decide +kernel
theorem V.dX8_checkConstant_8 : decode cX8_checkConstant 8 = .ok (.aload_n 0, 1) := by decide +kernel
theorem V.dX8_checkConstant_9 : decode cX8_checkConstant 9 = .ok (.getfield 35, 3) := by decide +kernel
theorem V.dX8_checkConstant_12 : decode cX8_checkConstant 12 = .ok (.getfield 118, 3) := by decide +kernel
theorem V.dX8_checkConstant_15 : decode cX8_checkConstant 15 = .ok (.iload_n 2, 1) := by decide +kernel
theorem V.dX8_checkConstant_16 : decode cX8_checkConstant 16 = .ok (.if_icmp .ge 30, 3) := by decide +kernel
theorem V.dX8_checkConstant_19 : decode cX8_checkConstant 19 = .ok (.aload_n 0, 1) := by decide +kernel
theorem V.dX8_checkConstant_20 : decode cX8_checkConstant 20 = .ok (.getfield 35, 3) := by decide +kernel
theorem V.dX8_checkConstant_23 : decode cX8_checkConstant 23 = .ok (.invokevirtual 182, 3) := by decide +kernel
theorem V.dX8_checkConstant_26 : decode cX8_checkConstant 26 = .ok (.aload_n 0, 1) := by decide +kernel
theorem V.dX8_checkConstant_27 : decode cX8_checkConstant 27 = .ok (.aload_n 0, 1) := by decide +kernel
theorem V.dX8_checkConstant_28 : decode cX8_checkConstant 28 = .ok (.invokevirtual 276, 3) := by decide +kernel
theorem V.dX8_checkConstant_31 : decode cX8_checkConstant 31 = .ok (.bipush 26, 2) := by decide +kernel
theorem V.dX8_checkConstant_33 : decode cX8_checkConstant 33 = .ok (.aload_n 0, 1) := by decide +kernel
theorem V.dX8_checkConstant_34 : decode cX8_checkConstant 34 = .ok (.getfield 35, 3) := by decide +kernel
theorem V.dX8_checkConstant_37 : decode cX8_checkConstant 37 = .ok (.getfield 279, 3) := by decide +kernel
theorem V.dX8_checkConstant_40 : decode cX8_checkConstant 40 = .ok (.invokevirtual 132, 3) := by decide +kernel
theorem V.dX8_checkConstant_43 : decode cX8_checkConstant 43 = .ok (.goto (-35), 3) := by decide +kernel
theorem V.dX8_checkConstant_46 : decode cX8_checkConstant 46 = .ok (.aload_n 0, 1) := by decide +kernel
theorem V.dX8_checkConstant_47 : decode cX8_checkConstant 47 = .ok (.getfield 35, 3) := by decide +kernel
theorem V.dX8_checkConstant_50 : decode cX8_checkConstant 50 = .ok (.iload_n 1, 1) := by decide +kernel
theorem V.dX8_checkConstant_51 : decode cX8_checkConstant 51 = .ok (.invokevirtual 112, 3) := by decide +kernel
theorem V.dX8_checkConstant_54 : decode cX8_checkConstant 54 = .ok (.aload_n 0, 1) := by decide +kernel
theorem V.dX8_checkConstant_55 : decode cX8_checkConstant 55 = .ok (.getfield 35, 3) := by decide +kernel
theorem V.dX8_checkConstant_58 : decode cX8_checkConstant 58 = .ok (.getfield 118, 3) := by decide +kernel
theorem V.dX8_checkConstant_61 : decode cX8_checkConstant 61 = .ok (.iload_n 2, 1) := by decide +kernel
theorem V.dX8_checkConstant_62 : decode cX8_checkConstant 62 = .ok (.if_icmp .ge 69, 3) := by decide +kernel
theorem V.dX8_checkConstant_65 : decode cX8_checkConstant 65 = .ok (.aload_n 0, 1) := by decide +kernel
theorem V.dX8_checkConstant_66 : decode cX8_checkConstant 66 = .ok (.getfield 35, 3) := by decide +kernel
theorem V.dX8_checkConstant_69 : decode cX8_checkConstant 69 = .ok (.invokevirtual 182, 3) := by decide +kernel
theorem V.dX8_checkConstant_72 : decode cX8_checkConstant 72 = .ok (.aload_n 0, 1) := by decide +kernel
theorem V.dX8_checkConstant_73 : decode cX8_checkConstant 73 = .ok (.aload_n 0, 1) := by decide +kernel
theorem V.dX8_checkConstant_74 : decode cX8_checkConstant 74 = .ok (.getfield 35, 3) := by decide +kernel
theorem V.dX8_checkConstant_77 : decode cX8_checkConstant 77 = .ok (.getfield 185, 3) := by decide +kernel
theorem V.dX8_checkConstant_80 : decode cX8_checkConstant 80 = .ok (.sipush 210, 3) := by decide +kernel
theorem V.dX8_checkConstant_83 : decode cX8_checkConstant 83 = .ok (.if_icmp .ne 28, 3) := by decide +kernel
theorem V.dX8_checkConstant_86 : decode cX8_checkConstant 86 = .ok (.aload_n 0, 1) := by decide +kernel
theorem V.dX8_checkConstant_87 : decode cX8_checkConstant 87 = .ok (.getfield 35, 3) := by decide +kernel
theorem V.dX8_checkConstant_90 : decode cX8_checkConstant 90 = .ok (.getfield 262, 3) := by decide +kernel
theorem V.dX8_checkConstant_93 : decode cX8_checkConstant 93 = .ok (.invokestatic 176, 3) := by decide +kernel
theorem V.dX8_checkConstant_96 : decode cX8_checkConstant 96 = .ok (.aload_n 0, 1) := by decide +kernel
theorem V.dX8_checkConstant_97 : decode cX8_checkConstant 97 = .ok (.getfield 19, 3) := by decide +kernel
theorem V.dX8_checkConstant_100 : decode cX8_checkConstant 100 = .ok (.getfield 233, 3) := by decide +kernel
theorem V.dX8_checkConstant_103 : decode cX8_checkConstant 103 = .ok (.invokevirtual 100, 3) := by decide +kernel
theorem V.dX8_checkConstant_106 : decode cX8_checkConstant 106 = .ok (.i2l, 1) := by decide +kernel
theorem V.dX8_checkConstant_107 : decode cX8_checkConstant 107 = .ok (.lcmp, 1) := by decide +kernel
theorem V.dX8_checkConstant_108 : decode cX8_checkConstant 108 = .ok (.ifCond .ge 7, 3) := by decide +kernel
theorem V.dX8_checkConstant_111 : decode cX8_checkConstant 111 = .ok (.iconst 1, 1) := by decide +kernel
theorem V.dX8_checkConstant_112 : decode cX8_checkConstant 112 = .ok (.goto 4, 3) := by decide +kernel
theorem V.dX8_checkConstant_115 : decode cX8_checkConstant 115 = .ok (.iconst 0, 1) := by decide +kernel
theorem V.dX8_checkConstant_116 : decode cX8_checkConstant 116 = .ok (.bipush 28, 2) := by decide +kernel
theorem V.dX8_checkConstant_118 : decode cX8_checkConstant 118 = .ok (.aload_n 0, 1) := by decide +kernel
theorem V.dX8_checkConstant_119 : decode cX8_checkConstant 119 = .ok (.getfield 35, 3) := by decide +kernel
theorem V.dX8_checkConstant_122 : decode cX8_checkConstant 122 = .ok (.getfield 279, 3) := by decide +kernel
theorem V.dX8_checkConstant_125 : decode cX8_checkConstant 125 = .ok (.invokevirtual 132, 3) := by decide +kernel
theorem V.dX8_checkConstant_128 : decode cX8_checkConstant 128 = .ok (.goto (-74), 3) := by decide +kernel
theorem V.dX8_checkConstant_131 : decode cX8_checkConstant 131 = .ok (.iconst 0, 1) := by decide +kernel
theorem V.dX8_checkConstant_132 : decode cX8_checkConstant 132 = .ok (.istore 4, 2) := by decide +kernel
theorem V.dX8_checkConstant_134 : decode cX8_checkConstant 134 = .ok (.iconst 0, 1) := by decide +kernel
theorem V.dX8_checkConstant_135 : decode cX8_checkConstant 135 = .ok (.istore 5, 2) := by decide +kernel
theorem V.dX8_checkConstant_137 : decode cX8_checkConstant 137 = .ok (.aload_n 0, 1) := by decide +kernel
theorem V.dX8_checkConstant_138 : decode cX8_checkConstant 138 = .ok (.getfield 35, 3) := by decide +kernel
theorem V.dX8_checkConstant_141 : decode cX8_checkConstant 141 = .ok (.iload_n 1, 1) := by decide +kernel
theorem V.dX8_checkConstant_142 : decode cX8_checkConstant 142 = .ok (.invokevirtual 112, 3) := by decide +kernel
theorem V.dX8_checkConstant_145 : decode cX8_checkConstant 145 = .ok (.aload_n 0, 1) := by decide +kernel
theorem V.dX8_checkConstant_146 : decode cX8_checkConstant 146 = .ok (.getfield 35, 3) := by decide +kernel
theorem V.dX8_checkConstant_149 : decode cX8_checkConstant 149 = .ok (.getfield 118, 3) := by decide +kernel
theorem V.dX8_checkConstant_152 : decode cX8_checkConstant 152 = .ok (.iload_n 2, 1) := by decide +kernel
theorem V.dX8_checkConstant_153 : decode cX8_checkConstant 153 = .ok (.if_icmp .ge 67, 3) := by decide +kernel
theorem V.dX8_checkConstant_156 : decode cX8_checkConstant 156 = .ok (.aload_n 0, 1) := by decide +kernel
theorem V.dX8_checkConstant_157 : decode cX8_checkConstant 157 = .ok (.getfield 35, 3) := by decide +kernel
theorem V.dX8_checkConstant_160 : decode cX8_checkConstant 160 = .ok (.invokevirtual 182, 3) := by decide +kernel
theorem V.dX8_checkConstant_163 : decode cX8_checkConstant 163 = .ok (.aload_n 0, 1) := by decide +kernel
theorem V.dX8_checkConstant_164 : decode cX8_checkConstant 164 = .ok (.getfield 35, 3) := by decide +kernel
theorem V.dX8_checkConstant_167 : decode cX8_checkConstant 167 = .ok (.getfield 185, 3) := by decide +kernel
theorem V.dX8_checkConstant_170 : decode cX8_checkConstant 170 = .ok (.bipush 11, 2) := by decide +kernel
theorem V.dX8_checkConstant_172 : decode cX8_checkConstant 172 = .ok (.if_icmp .ne 36, 3) := by decide +kernel
theorem V.dX8_checkConstant_175 : decode cX8_checkConstant 175 = .ok (.aload_n 0, 1) := by decide +kernel
theorem V.dX8_checkConstant_176 : decode cX8_checkConstant 176 = .ok (.iload 4, 2) := by decide +kernel
theorem V.dX8_checkConstant_178 : decode cX8_checkConstant 178 = .ok (.iconst 1, 1) := by decide +kernel
theorem V.dX8_checkConstant_179 : decode cX8_checkConstant 179 = .ok (.if_icmp .ne 13, 3) := by decide +kernel
theorem V.dX8_checkConstant_182 : decode cX8_checkConstant 182 = .ok (.iload 5, 2) := by decide +kernel
theorem V.dX8_checkConstant_184 : decode cX8_checkConstant 184 = .ok (.iload_n 3, 1) := by decide +kernel
theorem V.dX8_checkConstant_185 : decode cX8_checkConstant 185 = .ok (.if_icmp .ne 7, 3) := by decide +kernel
theorem V.dX8_checkConstant_188 : decode cX8_checkConstant 188 = .ok (.iconst 1, 1) := by decide +kernel
theorem V.dX8_checkConstant_189 : decode cX8_checkConstant 189 = .ok (.goto 4, 3) := by decide +kernel
theorem V.dX8_checkConstant_192 : decode cX8_checkConstant 192 = .ok (.iconst 0, 1) := by decide +kernel
theorem V.dX8_checkConstant_193 : decode cX8_checkConstant 193 = .ok (.bipush 27, 2) := by decide +kernel
theorem V.dX8_checkConstant_195 : decode cX8_checkConstant 195 = .ok (.aload_n 0, 1) := by decide +kernel
theorem V.dX8_checkConstant_196 : decode cX8_checkConstant 196 = .ok (.getfield 35, 3) := by decide +kernel
theorem V.dX8_checkConstant_199 : decode cX8_checkConstant 199 = .ok (.getfield 279, 3) := by decide +kernel
theorem V.dX8_checkConstant_202 : decode cX8_checkConstant 202 = .ok (.invokevirtual 132, 3) := by decide +kernel
theorem V.dX8_checkConstant_205 : decode cX8_checkConstant 205 = .ok (.goto (-60), 3) := by decide +kernel
theorem V.dX8_checkConstant_208 : decode cX8_checkConstant 208 = .ok (.iinc 4 1, 3) := by decide +kernel
theorem V.dX8_checkConstant_211 : decode cX8_checkConstant 211 = .ok (.aload_n 0, 1) := by decide +kernel
theorem V.dX8_checkConstant_212 : decode cX8_checkConstant 212 = .ok (.invokevirtual 280, 3) := by decide +kernel
theorem V.dX8_checkConstant_215 : decode cX8_checkConstant 215 = .ok (.istore 5, 2) := by decide +kernel
theorem V.dX8_checkConstant_217 : decode cX8_checkConstant 217 = .ok (.goto (-72), 3) := by decide +kernel
theorem V.dX8_checkConstant_220 : decode cX8_checkConstant 220 = .ok (.return_, 1) := by decide +kernel
theorem V.mdX8_276 : MD RX8 276 yX8_isConstant cX8_isConstant 2 (some .boolean) 0 := ⟨Or.inl q1710, q368, q1713, by decide, by decide, by decide +kernel⟩
theorem V.fdX8_279 : FD RX8 279 12 2 0 := ⟨(RX12, TX12, 8), tyX12, rfl, rfl, in_X12, by decide, Or.inr ⟨_, q883⟩, rfl⟩
theorem V.mdX8_280 : MD RX8 280 yX8_valueOf cX8_valueOf 2 (some .int) 0 := ⟨Or.inl q1714, q368, q1717, by decide, by decide, by decide +kernel⟩
/-! ModuleEngine$Loader.checkConstant(III)V -/
def V.Ldr_checkConstant_p193 (rec145 : HS → Nat → Int32 → Int32 → Int32 → Int32 → Option ((Nat ⊕ Unit) × HS)) (σ : HS) (x0 : Nat) (x2 : Int32) (x3 : Int32) (x4 : Int32) (x5 : Int32) (s0 : Int32) (s1 : Nat) : Option ((Nat ⊕ Unit) × HS) :=
  ck (tg σ x0 = 9) <|
  ck (tg σ (gR σ x0 6) = 13) <|
  ck (tg σ s1 = 9) <| clT (Ldr_need σ s1 s0 (27 : Int32) (gI σ (gR σ x0 6) 2)) fun _ σ1 =>
  rec145 σ1 x0 x2 x3 x4 x5
theorem V.gX8_checkConstant_p193 {X : CX} (rec145 : HS → Nat → Int32 → Int32 → Int32 → Int32 → Option ((Nat ⊕ Unit) × HS)) (hrec145 : ∀ (σ : HS) (x0 : Nat) (x2 : Int32) (x3 : Int32) (x4 : Int32) (x5 : Int32), G X RX8 "checkConstant" cX8_checkConstant 6 none 8 130 (enX enV (cxz X)) 145 [(0, av x0), (2, iv x2), (3, iv x3), (4, iv x4), (5, iv x5)] [] σ (rec145 σ x0 x2 x3 x4 x5)) (σ : HS) (x0 : Nat) (x2 : Int32) (x3 : Int32) (x4 : Int32) (x5 : Int32) (s0 : Int32) (s1 : Nat) : G X RX8 "checkConstant" cX8_checkConstant 6 none 8 130 (enX enV (cxz X)) 193 [(0, av x0), (2, iv x2), (3, iv x3), (4, iv x4), (5, iv x5)] [iv s0, av s1] σ (Ldr_checkConstant_p193 rec145 σ x0 x2 x3 x4 x5 s0 s1) := by
  unfold Ldr_checkConstant_p193
  refine g_bipush (v := 27) dX8_checkConstant_193 (by decide) ?_
  refine g_aload_n 0 0 dX8_checkConstant_195 rfl rfl ?_
  refine g_getR fdX8_35 dX8_checkConstant_196 ?_
  refine g_getI fdX8_279 dX8_checkConstant_199 ?_
  refine g_callVT (fc := fun sς => Ldr_need sς s1 s0 (27 : Int32) (gI σ (gR σ x0 6) 2)) (ci := 8) (as := [iv s0, iv (27 : Int32), iv (gI σ (gR σ x0 6) 2)]) rfl rfl rfl q1590 qs42 q1588 mdX8_132 (ctX8_need s1 s0 (27 : Int32) (gI σ (gR σ x0 6) 2)) rfl (Nat.le_of_ble_eq_true rfl) (Nat.le_of_ble_eq_true rfl) (Nat.le_of_ble_eq_true rfl) pu_V (by decide) dX8_checkConstant_202 (fun _ σ1 => ?_)
  refine g_goto 145 dX8_checkConstant_205 (by decide) ?_
  exact hrec145 _ _ _ _ _ _
def V.Ldr_checkConstant_p192 (rec145 : HS → Nat → Int32 → Int32 → Int32 → Int32 → Option ((Nat ⊕ Unit) × HS)) (σ : HS) (x0 : Nat) (x2 : Int32) (x3 : Int32) (x4 : Int32) (x5 : Int32) (s0 : Nat) : Option ((Nat ⊕ Unit) × HS) :=
  Ldr_checkConstant_p193 rec145 σ x0 x2 x3 x4 x5 (0 : Int32) s0
theorem V.gX8_checkConstant_p192 {X : CX} (rec145 : HS → Nat → Int32 → Int32 → Int32 → Int32 → Option ((Nat ⊕ Unit) × HS)) (hrec145 : ∀ (σ : HS) (x0 : Nat) (x2 : Int32) (x3 : Int32) (x4 : Int32) (x5 : Int32), G X RX8 "checkConstant" cX8_checkConstant 6 none 8 130 (enX enV (cxz X)) 145 [(0, av x0), (2, iv x2), (3, iv x3), (4, iv x4), (5, iv x5)] [] σ (rec145 σ x0 x2 x3 x4 x5)) (σ : HS) (x0 : Nat) (x2 : Int32) (x3 : Int32) (x4 : Int32) (x5 : Int32) (s0 : Nat) : G X RX8 "checkConstant" cX8_checkConstant 6 none 8 130 (enX enV (cxz X)) 192 [(0, av x0), (2, iv x2), (3, iv x3), (4, iv x4), (5, iv x5)] [av s0] σ (Ldr_checkConstant_p192 rec145 σ x0 x2 x3 x4 x5 s0) := by
  unfold Ldr_checkConstant_p192
  refine g_iconst (v := 0) dX8_checkConstant_192 (by decide) ?_
  exact gX8_checkConstant_p193 rec145 hrec145 _ _ _ _ _ _ _ _
def V.Ldr_checkConstant_p145  : Nat → HS → Nat → Int32 → Int32 → Int32 → Int32 → Option ((Nat ⊕ Unit) × HS)
  | 0, _, _, _, _, _, _ => none
  | n + 1, σ, x0, x2, x3, x4, x5 =>
    ck (tg σ x0 = 9) <|
    ck (tg σ (gR σ x0 6) = 13) <|
    if x2 ≤ (gI σ (gR σ x0 6) 1) then (
      some (.inr (), σ))
    else (
      ck (tg σ x0 = 9) <|
      ck (tg σ (gR σ x0 6) = 13) <| cl (Wlk_next σ (gR σ x0 6) ) fun _ σ1 =>
      ck (tg σ1 x0 = 9) <|
      ck (tg σ1 (gR σ1 x0 6) = 13) <|
      if (gI σ1 (gR σ1 x0 6) 3) = (11 : Int32) then (
        if x4 = (1 : Int32) then (
          if x5 = x3 then (
            Ldr_checkConstant_p193 (Ldr_checkConstant_p145 n) σ1 x0 x2 x3 x4 x5 (1 : Int32) x0)
          else (
            Ldr_checkConstant_p192 (Ldr_checkConstant_p145 n) σ1 x0 x2 x3 x4 x5 x0))
        else (
          Ldr_checkConstant_p192 (Ldr_checkConstant_p145 n) σ1 x0 x2 x3 x4 x5 x0))
      else (
        bn (x4 + (1 : Int32)) fun y2 =>
        ck (tg σ1 x0 = 9) <| cl (Ldr_valueOf σ1 x0 ) fun r4 σ3 =>
        Ldr_checkConstant_p145 n σ3 x0 x2 x3 y2 r4))
theorem V.gX8_checkConstant_p145 {X : CX}  : ∀ (n : Nat) (σ : HS) (x0 : Nat) (x2 : Int32) (x3 : Int32) (x4 : Int32) (x5 : Int32), G X RX8 "checkConstant" cX8_checkConstant 6 none 8 130 (enX enV (cxz X)) 145 [(0, av x0), (2, iv x2), (3, iv x3), (4, iv x4), (5, iv x5)] [] σ (Ldr_checkConstant_p145 n σ x0 x2 x3 x4 x5)
  | 0, σ, x0, x2, x3, x4, x5 => by rw [Ldr_checkConstant_p145]; exact G.nul
  | n + 1, σ, x0, x2, x3, x4, x5 => by
    rw [Ldr_checkConstant_p145]
    refine g_aload_n 0 0 dX8_checkConstant_145 rfl rfl ?_
    refine g_getR fdX8_35 dX8_checkConstant_146 ?_
    refine g_getI fdX8_118 dX8_checkConstant_149 ?_
    refine g_iload_n 2 1 dX8_checkConstant_152 rfl rfl ?_
    refine g_icmp_ge 220 dX8_checkConstant_153 (by decide) ?_ ?_
    · exact g_return rfl dX8_checkConstant_220
    · refine g_aload_n 0 0 dX8_checkConstant_156 rfl rfl ?_
      refine g_getR fdX8_35 dX8_checkConstant_157 ?_
      refine g_callV (fc := fun sς => Wlk_next sς (gR σ x0 6) ) (ci := 12) (as := []) rfl rfl rfl q1609 q1610 mdX8_182 (ctX12_next (gR σ x0 6) ) rfl (Nat.le_of_ble_eq_true rfl) (Nat.le_of_ble_eq_true rfl) (Nat.le_of_ble_eq_true rfl) pu_V dX8_checkConstant_160 (fun _ σ1 => ?_)
      refine g_aload_n 0 0 dX8_checkConstant_163 rfl rfl ?_
      refine g_getR fdX8_35 dX8_checkConstant_164 ?_
      refine g_getI fdX8_185 dX8_checkConstant_167 ?_
      refine g_bipush (v := 11) dX8_checkConstant_170 (by decide) ?_
      refine g_icmp_ne 208 dX8_checkConstant_172 (by decide) ?_ ?_
      · refine g_iincB (w := 1) 3 dX8_checkConstant_208 rfl (by decide) (by decide) (fun _ => rfl) (fun y2 => ?_)
        refine g_aload_n 0 1 dX8_checkConstant_211 rfl rfl ?_
        refine g_callV (fc := fun sς => Ldr_valueOf sς x0 ) (ci := 8) (as := []) rfl rfl rfl q1716 qs67 mdX8_280 (ctX8_valueOf x0 ) rfl (Nat.le_of_ble_eq_true rfl) (Nat.le_of_ble_eq_true rfl) (Nat.le_of_ble_eq_true rfl) pu_I dX8_checkConstant_212 (fun r4 σ3 => ?_)
        refine g_istore dX8_checkConstant_215 (by decide) rfl ?_
        refine g_goto 145 dX8_checkConstant_217 (by decide) ?_
        refine G.sub [2, 3, 4, 1, 0] rfl ?_
        exact gX8_checkConstant_p145 n _ _ _ _ _ _
      · refine g_aload_n 0 0 dX8_checkConstant_175 rfl rfl ?_
        refine g_iload 3 dX8_checkConstant_176 rfl ?_
        refine g_iconst (v := 1) dX8_checkConstant_178 (by decide) ?_
        refine g_icmp_ne 192 dX8_checkConstant_179 (by decide) ?_ ?_
        · exact gX8_checkConstant_p192 (Ldr_checkConstant_p145 n) (gX8_checkConstant_p145 n) _ _ _ _ _ _ _
        · refine g_iload 4 dX8_checkConstant_182 rfl ?_
          refine g_iload_n 3 2 dX8_checkConstant_184 rfl rfl ?_
          refine g_icmp_ne 192 dX8_checkConstant_185 (by decide) ?_ ?_
          · exact gX8_checkConstant_p192 (Ldr_checkConstant_p145 n) (gX8_checkConstant_p145 n) _ _ _ _ _ _ _
          · refine g_iconst (v := 1) dX8_checkConstant_188 (by decide) ?_
            refine g_goto 193 dX8_checkConstant_189 (by decide) ?_
            exact gX8_checkConstant_p193 (Ldr_checkConstant_p145 n) (gX8_checkConstant_p145 n) _ _ _ _ _ _ _ _
def V.Ldr_checkConstant_p116 (rec54 : HS → Nat → Int32 → Int32 → Int32 → Option ((Nat ⊕ Unit) × HS)) (σ : HS) (x0 : Nat) (x1 : Int32) (x2 : Int32) (x3 : Int32) (s0 : Int32) (s1 : Nat) : Option ((Nat ⊕ Unit) × HS) :=
  ck (tg σ x0 = 9) <|
  ck (tg σ (gR σ x0 6) = 13) <|
  ck (tg σ s1 = 9) <| clT (Ldr_need σ s1 s0 (28 : Int32) (gI σ (gR σ x0 6) 2)) fun _ σ1 =>
  rec54 σ1 x0 x1 x2 x3
theorem V.gX8_checkConstant_p116 {X : CX} (rec54 : HS → Nat → Int32 → Int32 → Int32 → Option ((Nat ⊕ Unit) × HS)) (hrec54 : ∀ (σ : HS) (x0 : Nat) (x1 : Int32) (x2 : Int32) (x3 : Int32), G X RX8 "checkConstant" cX8_checkConstant 6 none 8 130 (enX enV (cxz X)) 54 [(0, av x0), (1, iv x1), (2, iv x2), (3, iv x3)] [] σ (rec54 σ x0 x1 x2 x3)) (σ : HS) (x0 : Nat) (x1 : Int32) (x2 : Int32) (x3 : Int32) (s0 : Int32) (s1 : Nat) : G X RX8 "checkConstant" cX8_checkConstant 6 none 8 130 (enX enV (cxz X)) 116 [(0, av x0), (1, iv x1), (2, iv x2), (3, iv x3)] [iv s0, av s1] σ (Ldr_checkConstant_p116 rec54 σ x0 x1 x2 x3 s0 s1) := by
  unfold Ldr_checkConstant_p116
  refine g_bipush (v := 28) dX8_checkConstant_116 (by decide) ?_
  refine g_aload_n 0 0 dX8_checkConstant_118 rfl rfl ?_
  refine g_getR fdX8_35 dX8_checkConstant_119 ?_
  refine g_getI fdX8_279 dX8_checkConstant_122 ?_
  refine g_callVT (fc := fun sς => Ldr_need sς s1 s0 (28 : Int32) (gI σ (gR σ x0 6) 2)) (ci := 8) (as := [iv s0, iv (28 : Int32), iv (gI σ (gR σ x0 6) 2)]) rfl rfl rfl q1590 qs42 q1588 mdX8_132 (ctX8_need s1 s0 (28 : Int32) (gI σ (gR σ x0 6) 2)) rfl (Nat.le_of_ble_eq_true rfl) (Nat.le_of_ble_eq_true rfl) (Nat.le_of_ble_eq_true rfl) pu_V (by decide) dX8_checkConstant_125 (fun _ σ1 => ?_)
  refine g_goto 54 dX8_checkConstant_128 (by decide) ?_
  exact hrec54 _ _ _ _ _
def V.Ldr_checkConstant_p111 (rec54 : HS → Nat → Int32 → Int32 → Int32 → Option ((Nat ⊕ Unit) × HS)) (σ : HS) (x0 : Nat) (x1 : Int32) (x2 : Int32) (x3 : Int32) (s0 : Nat) : Option ((Nat ⊕ Unit) × HS) :=
  Ldr_checkConstant_p116 rec54 σ x0 x1 x2 x3 (1 : Int32) s0
theorem V.gX8_checkConstant_p111 {X : CX} (rec54 : HS → Nat → Int32 → Int32 → Int32 → Option ((Nat ⊕ Unit) × HS)) (hrec54 : ∀ (σ : HS) (x0 : Nat) (x1 : Int32) (x2 : Int32) (x3 : Int32), G X RX8 "checkConstant" cX8_checkConstant 6 none 8 130 (enX enV (cxz X)) 54 [(0, av x0), (1, iv x1), (2, iv x2), (3, iv x3)] [] σ (rec54 σ x0 x1 x2 x3)) (σ : HS) (x0 : Nat) (x1 : Int32) (x2 : Int32) (x3 : Int32) (s0 : Nat) : G X RX8 "checkConstant" cX8_checkConstant 6 none 8 130 (enX enV (cxz X)) 111 [(0, av x0), (1, iv x1), (2, iv x2), (3, iv x3)] [av s0] σ (Ldr_checkConstant_p111 rec54 σ x0 x1 x2 x3 s0) := by
  unfold Ldr_checkConstant_p111
  refine g_iconst (v := 1) dX8_checkConstant_111 (by decide) ?_
  refine g_goto 116 dX8_checkConstant_112 (by decide) ?_
  exact gX8_checkConstant_p116 rec54 hrec54 _ _ _ _ _ _ _
def V.Ldr_checkConstant_p54  : Nat → HS → Nat → Int32 → Int32 → Int32 → Option ((Nat ⊕ Unit) × HS)
  | 0, _, _, _, _, _ => none
  | n + 1, σ, x0, x1, x2, x3 =>
    ck (tg σ x0 = 9) <|
    ck (tg σ (gR σ x0 6) = 13) <|
    if x2 ≤ (gI σ (gR σ x0 6) 1) then (
      ck (tg σ x0 = 9) <|
      ck (tg σ (gR σ x0 6) = 13) <| cl (Wlk_go σ (gR σ x0 6) x1) fun _ σ1 =>
      Ldr_checkConstant_p145 FU σ1 x0 x2 x3 (0 : Int32) (0 : Int32))
    else (
      ck (tg σ x0 = 9) <|
      ck (tg σ (gR σ x0 6) = 13) <| cl (Wlk_next σ (gR σ x0 6) ) fun _ σ2 =>
      ck (tg σ2 x0 = 9) <|
      ck (tg σ2 (gR σ2 x0 6) = 13) <|
      if (gI σ2 (gR σ2 x0 6) 3) = (210 : Int32) then (
        ck (tg σ2 x0 = 9) <|
        ck (tg σ2 (gR σ2 x0 6) = 13) <|
        cl (Mod_wide σ2 (gI σ2 (gR σ2 x0 6) 4)) fun r4 σ3 =>
        ck (tg σ3 x0 = 9) <|
        ck (tg σ3 (gR σ3 x0 4) = 11) <|
        ck (tg σ3 (gR σ3 (gR σ3 x0 4) 0) = 4) <| cl (Row_size σ3 (gR σ3 (gR σ3 x0 4) 0) ) fun r6 σ5 =>
        if r6.toInt64 ≤ r4 then (
          Ldr_checkConstant_p116 (Ldr_checkConstant_p54 n) σ5 x0 x1 x2 x3 (0 : Int32) x0)
        else (
          Ldr_checkConstant_p111 (Ldr_checkConstant_p54 n) σ5 x0 x1 x2 x3 x0))
      else (
        Ldr_checkConstant_p111 (Ldr_checkConstant_p54 n) σ2 x0 x1 x2 x3 x0))
theorem V.gX8_checkConstant_p54 {X : CX}  : ∀ (n : Nat) (σ : HS) (x0 : Nat) (x1 : Int32) (x2 : Int32) (x3 : Int32), G X RX8 "checkConstant" cX8_checkConstant 6 none 8 130 (enX enV (cxz X)) 54 [(0, av x0), (1, iv x1), (2, iv x2), (3, iv x3)] [] σ (Ldr_checkConstant_p54 n σ x0 x1 x2 x3)
  | 0, σ, x0, x1, x2, x3 => by rw [Ldr_checkConstant_p54]; exact G.nul
  | n + 1, σ, x0, x1, x2, x3 => by
    rw [Ldr_checkConstant_p54]
    refine g_aload_n 0 0 dX8_checkConstant_54 rfl rfl ?_
    refine g_getR fdX8_35 dX8_checkConstant_55 ?_
    refine g_getI fdX8_118 dX8_checkConstant_58 ?_
    refine g_iload_n 2 2 dX8_checkConstant_61 rfl rfl ?_
    refine g_icmp_ge 131 dX8_checkConstant_62 (by decide) ?_ ?_
    · refine g_iconst (v := 0) dX8_checkConstant_131 (by decide) ?_
      refine g_istore dX8_checkConstant_132 (by decide) rfl ?_
      refine g_iconst (v := 0) dX8_checkConstant_134 (by decide) ?_
      refine g_istore dX8_checkConstant_135 (by decide) rfl ?_
      refine g_aload_n 0 2 dX8_checkConstant_137 rfl rfl ?_
      refine g_getR fdX8_35 dX8_checkConstant_138 ?_
      refine g_iload_n 1 3 dX8_checkConstant_141 rfl rfl ?_
      refine g_callV (fc := fun sς => Wlk_go sς (gR σ x0 6) x1) (ci := 12) (as := [iv x1]) rfl rfl rfl q1572 q1573 mdX8_112 (ctX12_go (gR σ x0 6) x1) rfl (Nat.le_of_ble_eq_true rfl) (Nat.le_of_ble_eq_true rfl) (Nat.le_of_ble_eq_true rfl) pu_V dX8_checkConstant_142 (fun _ σ1 => ?_)
      refine G.sub [2, 4, 5, 1, 0] rfl ?_
      exact gX8_checkConstant_p145 FU _ _ _ _ _ _
    · refine g_aload_n 0 0 dX8_checkConstant_65 rfl rfl ?_
      refine g_getR fdX8_35 dX8_checkConstant_66 ?_
      refine g_callV (fc := fun sς => Wlk_next sς (gR σ x0 6) ) (ci := 12) (as := []) rfl rfl rfl q1609 q1610 mdX8_182 (ctX12_next (gR σ x0 6) ) rfl (Nat.le_of_ble_eq_true rfl) (Nat.le_of_ble_eq_true rfl) (Nat.le_of_ble_eq_true rfl) pu_V dX8_checkConstant_69 (fun _ σ2 => ?_)
      refine g_aload_n 0 0 dX8_checkConstant_72 rfl rfl ?_
      refine g_aload_n 0 0 dX8_checkConstant_73 rfl rfl ?_
      refine g_getR fdX8_35 dX8_checkConstant_74 ?_
      refine g_getI fdX8_185 dX8_checkConstant_77 ?_
      refine g_sipush (v := 210) dX8_checkConstant_80 (by decide) ?_
      refine g_icmp_ne 111 dX8_checkConstant_83 (by decide) ?_ ?_
      · exact gX8_checkConstant_p111 (Ldr_checkConstant_p54 n) (gX8_checkConstant_p54 n) _ _ _ _ _ _
      · refine g_aload_n 0 0 dX8_checkConstant_86 rfl rfl ?_
        refine g_getR fdX8_35 dX8_checkConstant_87 ?_
        refine g_getI fdX8_262 dX8_checkConstant_90 ?_
        refine g_callS (fc := fun sς => Mod_wide sς (gI σ2 (gR σ2 x0 6) 4)) (as := [iv (gI σ2 (gR σ2 x0 6) 4)]) q1376 mdX8_176 (ctX2_wide (gI σ2 (gR σ2 x0 6) 4)) rfl (Nat.le_of_ble_eq_true rfl) (Nat.le_of_ble_eq_true rfl) (Nat.le_of_ble_eq_true rfl) pu_J dX8_checkConstant_93 (fun r4 σ3 => ?_)
        refine g_aload_n 0 0 dX8_checkConstant_96 rfl rfl ?_
        refine g_getR fdX8_19 dX8_checkConstant_97 ?_
        refine g_getR fdX8_233 dX8_checkConstant_100 ?_
        refine g_callV (fc := fun sς => Row_size sς (gR σ3 (gR σ3 x0 4) 0) ) (ci := 3) (as := []) rfl rfl rfl q1421 q1422 mdX8_100 (ctX3_size (gR σ3 (gR σ3 x0 4) 0) ) rfl (Nat.le_of_ble_eq_true rfl) (Nat.le_of_ble_eq_true rfl) (Nat.le_of_ble_eq_true rfl) pu_I dX8_checkConstant_103 (fun r6 σ5 => ?_)
        refine g_i2l dX8_checkConstant_106 ?_
        refine g_lcmp_ge 115 dX8_checkConstant_107 dX8_checkConstant_108 (by decide) ?_ ?_
        · refine g_iconst (v := 0) dX8_checkConstant_115 (by decide) ?_
          exact gX8_checkConstant_p116 (Ldr_checkConstant_p54 n) (gX8_checkConstant_p54 n) _ _ _ _ _ _ _
        · exact gX8_checkConstant_p111 (Ldr_checkConstant_p54 n) (gX8_checkConstant_p54 n) _ _ _ _ _ _
def V.Ldr_checkConstant_p8  : Nat → HS → Nat → Int32 → Int32 → Int32 → Option ((Nat ⊕ Unit) × HS)
  | 0, _, _, _, _, _ => none
  | n + 1, σ, x0, x1, x2, x3 =>
    ck (tg σ x0 = 9) <|
    ck (tg σ (gR σ x0 6) = 13) <|
    if x2 ≤ (gI σ (gR σ x0 6) 1) then (
      ck (tg σ x0 = 9) <|
      ck (tg σ (gR σ x0 6) = 13) <| cl (Wlk_go σ (gR σ x0 6) x1) fun _ σ1 =>
      Ldr_checkConstant_p54 FU σ1 x0 x1 x2 x3)
    else (
      ck (tg σ x0 = 9) <|
      ck (tg σ (gR σ x0 6) = 13) <| cl (Wlk_next σ (gR σ x0 6) ) fun _ σ2 =>
      ck (tg σ2 x0 = 9) <| cl (Ldr_isConstant σ2 x0 ) fun r4 σ3 =>
      ck (tg σ3 x0 = 9) <|
      ck (tg σ3 (gR σ3 x0 6) = 13) <|
      ck (tg σ3 x0 = 9) <| clT (Ldr_need σ3 x0 r4 (26 : Int32) (gI σ3 (gR σ3 x0 6) 2)) fun _ σ5 =>
      Ldr_checkConstant_p8 n σ5 x0 x1 x2 x3)
theorem V.gX8_checkConstant_p8 {X : CX}  : ∀ (n : Nat) (σ : HS) (x0 : Nat) (x1 : Int32) (x2 : Int32) (x3 : Int32), G X RX8 "checkConstant" cX8_checkConstant 6 none 8 130 (enX enV (cxz X)) 8 [(0, av x0), (1, iv x1), (2, iv x2), (3, iv x3)] [] σ (Ldr_checkConstant_p8 n σ x0 x1 x2 x3)
  | 0, σ, x0, x1, x2, x3 => by rw [Ldr_checkConstant_p8]; exact G.nul
  | n + 1, σ, x0, x1, x2, x3 => by
    rw [Ldr_checkConstant_p8]
    refine g_aload_n 0 0 dX8_checkConstant_8 rfl rfl ?_
    refine g_getR fdX8_35 dX8_checkConstant_9 ?_
    refine g_getI fdX8_118 dX8_checkConstant_12 ?_
    refine g_iload_n 2 2 dX8_checkConstant_15 rfl rfl ?_
    refine g_icmp_ge 46 dX8_checkConstant_16 (by decide) ?_ ?_
    · refine g_aload_n 0 0 dX8_checkConstant_46 rfl rfl ?_
      refine g_getR fdX8_35 dX8_checkConstant_47 ?_
      refine g_iload_n 1 1 dX8_checkConstant_50 rfl rfl ?_
      refine g_callV (fc := fun sς => Wlk_go sς (gR σ x0 6) x1) (ci := 12) (as := [iv x1]) rfl rfl rfl q1572 q1573 mdX8_112 (ctX12_go (gR σ x0 6) x1) rfl (Nat.le_of_ble_eq_true rfl) (Nat.le_of_ble_eq_true rfl) (Nat.le_of_ble_eq_true rfl) pu_V dX8_checkConstant_51 (fun _ σ1 => ?_)
      exact gX8_checkConstant_p54 FU _ _ _ _ _
    · refine g_aload_n 0 0 dX8_checkConstant_19 rfl rfl ?_
      refine g_getR fdX8_35 dX8_checkConstant_20 ?_
      refine g_callV (fc := fun sς => Wlk_next sς (gR σ x0 6) ) (ci := 12) (as := []) rfl rfl rfl q1609 q1610 mdX8_182 (ctX12_next (gR σ x0 6) ) rfl (Nat.le_of_ble_eq_true rfl) (Nat.le_of_ble_eq_true rfl) (Nat.le_of_ble_eq_true rfl) pu_V dX8_checkConstant_23 (fun _ σ2 => ?_)
      refine g_aload_n 0 0 dX8_checkConstant_26 rfl rfl ?_
      refine g_aload_n 0 0 dX8_checkConstant_27 rfl rfl ?_
      refine g_callV (fc := fun sς => Ldr_isConstant sς x0 ) (ci := 8) (as := []) rfl rfl rfl q1712 qs66 mdX8_276 (ctX8_isConstant x0 ) rfl (Nat.le_of_ble_eq_true rfl) (Nat.le_of_ble_eq_true rfl) (Nat.le_of_ble_eq_true rfl) pu_I dX8_checkConstant_28 (fun r4 σ3 => ?_)
      refine g_bipush (v := 26) dX8_checkConstant_31 (by decide) ?_
      refine g_aload_n 0 0 dX8_checkConstant_33 rfl rfl ?_
      refine g_getR fdX8_35 dX8_checkConstant_34 ?_
      refine g_getI fdX8_279 dX8_checkConstant_37 ?_
      refine g_callVT (fc := fun sς => Ldr_need sς x0 r4 (26 : Int32) (gI σ3 (gR σ3 x0 6) 2)) (ci := 8) (as := [iv r4, iv (26 : Int32), iv (gI σ3 (gR σ3 x0 6) 2)]) rfl rfl rfl q1590 qs42 q1588 mdX8_132 (ctX8_need x0 r4 (26 : Int32) (gI σ3 (gR σ3 x0 6) 2)) rfl (Nat.le_of_ble_eq_true rfl) (Nat.le_of_ble_eq_true rfl) (Nat.le_of_ble_eq_true rfl) pu_V (by decide) dX8_checkConstant_40 (fun _ σ5 => ?_)
      refine g_goto 8 dX8_checkConstant_43 (by decide) ?_
      exact gX8_checkConstant_p8 n _ _ _ _ _
def V.Ldr_checkConstant (σ : HS) (x0 : Nat) (x1 : Int32) (x2 : Int32) (x3 : Int32) : Option ((Nat ⊕ Unit) × HS) :=
  ck (tg σ x0 = 9) <|
  ck (tg σ (gR σ x0 6) = 13) <| cl (Wlk_go σ (gR σ x0 6) x1) fun _ σ1 =>
  Ldr_checkConstant_p8 FU σ1 x0 x1 x2 x3
theorem V.ctX8_checkConstant (x0 : Nat) (x1 : Int32) (x2 : Int32) (x3 : Int32) : Ct yX8_checkConstant  cX8_checkConstant 6 none 8 130 eXV [av x0, iv x1, iv x2, iv x3] (fun σ => Ldr_checkConstant σ x0 x1 x2 x3) := by
  refine Ct.of (own := RX8) (nm := "checkConstant") (desc := "(III)V") rfl (by decide) (Nat.le_of_ble_eq_true rfl) (by decide) (fun X σ => ?_)
  show G X RX8 "checkConstant" cX8_checkConstant 6 none 8 130 (enX enV (cxz X)) 0 [(0, av x0), (1, iv x1), (2, iv x2), (3, iv x3)] [] σ (Ldr_checkConstant σ x0 x1 x2 x3)
  unfold Ldr_checkConstant
  refine g_aload_n 0 0 dX8_checkConstant_0 rfl rfl ?_
  refine g_getR fdX8_35 dX8_checkConstant_1 ?_
  refine g_iload_n 1 1 dX8_checkConstant_4 rfl rfl ?_
  refine g_callV (fc := fun sς => Wlk_go sς (gR σ x0 6) x1) (ci := 12) (as := [iv x1]) rfl rfl rfl q1572 q1573 mdX8_112 (ctX12_go (gR σ x0 6) x1) rfl (Nat.le_of_ble_eq_true rfl) (Nat.le_of_ble_eq_true rfl) (Nat.le_of_ble_eq_true rfl) pu_V dX8_checkConstant_5 (fun _ σ1 => ?_)
  exact gX8_checkConstant_p8 FU _ _ _ _ _
theorem V.dX8_checkElement_0 : decode cX8_checkElement 0 = .ok (.aload_n 0, 1) := by decide +kernel
theorem V.dX8_checkElement_1 : decode cX8_checkElement 1 = .ok (.getfield 57, 3) := by decide +kernel
theorem V.dX8_checkElement_4 : decode cX8_checkElement 4 = .ok (.getfield 155, 3) := by decide +kernel
theorem V.dX8_checkElement_7 : decode cX8_checkElement 7 = .ok (.astore_n 2, 1) := by decide +kernel
theorem V.dX8_checkElement_8 : decode cX8_checkElement 8 = .ok (.aload_n 2, 1) := by decide +kernel
theorem V.dX8_checkElement_9 : decode cX8_checkElement 9 = .ok (.iload_n 1, 1) := by decide +kernel
theorem V.dX8_checkElement_10 : decode cX8_checkElement 10 = .ok (.bipush 7, 2) := by decide +kernel
theorem V.dX8_checkElement_12 : decode cX8_checkElement 12 = .ok (.iadd, 1) := by decide +kernel
theorem V.dX8_checkElement_13 : decode cX8_checkElement 13 = .ok (.invokevirtual 174, 3) := by decide +kernel
theorem V.dX8_checkElement_16 : decode cX8_checkElement 16 = .ok (.istore_n 3, 1) := by decide +kernel
theorem V.dX8_checkElement_17 : decode cX8_checkElement 17 = .ok (.iconst 0, 1) := by decide +kernel
theorem V.dX8_checkElement_18 : decode cX8_checkElement 18 = .ok (.istore 4, 2) := by decide +kernel
theorem V.dX8_checkElement_20 : decode cX8_checkElement 20 = .ok (.iload 4, 2) := by decide +kernel
theorem V.dX8_checkElement_22 : decode cX8_checkElement 22 = .ok (.aload_n 2, 1) := by decide +kernel
theorem V.dX8_checkElement_23 : decode cX8_checkElement 23 = .ok (.iload_n 1, 1) := by decide +kernel
theorem V.dX8_checkElement_24 : decode cX8_checkElement 24 = .ok (.iconst 3, 1) := by decide +kernel
theorem V.dX8_checkElement_25 : decode cX8_checkElement 25 = .ok (.iadd, 1) := by decide +kernel
theorem V.dX8_checkElement_26 : decode cX8_checkElement 26 = .ok (.invokevirtual 174, 3) := by decide +kernel
theorem V.dX8_checkElement_29 : decode cX8_checkElement 29 = .ok (.if_icmp .ge 69, 3) := by decide +kernel
theorem V.dX8_checkElement_32 : decode cX8_checkElement 32 = .ok (.aload_n 2, 1) := by decide +kernel
theorem V.dX8_checkElement_33 : decode cX8_checkElement 33 = .ok (.iload_n 1, 1) := by decide +kernel
theorem V.dX8_checkElement_34 : decode cX8_checkElement 34 = .ok (.bipush 6, 2) := by decide +kernel
theorem V.dX8_checkElement_36 : decode cX8_checkElement 36 = .ok (.iadd, 1) := by decide +kernel
theorem V.dX8_checkElement_37 : decode cX8_checkElement 37 = .ok (.invokevirtual 174, 3) := by decide +kernel
theorem V.dX8_checkElement_40 : decode cX8_checkElement 40 = .ok (.ifCond .ne 58, 3) := by decide +kernel
theorem V.dX8_checkElement_43 : decode cX8_checkElement 43 = .ok (.aload_n 0, 1) := by decide +kernel
theorem V.dX8_checkElement_44 : decode cX8_checkElement 44 = .ok (.aload_n 0, 1) := by decide +kernel
theorem V.dX8_checkElement_45 : decode cX8_checkElement 45 = .ok (.getfield 57, 3) := by decide +kernel
theorem V.dX8_checkElement_48 : decode cX8_checkElement 48 = .ok (.getfield 271, 3) := by decide +kernel
theorem V.dX8_checkElement_51 : decode cX8_checkElement 51 = .ok (.iload_n 3, 1) := by decide +kernel
theorem V.dX8_checkElement_52 : decode cX8_checkElement 52 = .ok (.iload 4, 2) := by decide +kernel
theorem V.dX8_checkElement_54 : decode cX8_checkElement 54 = .ok (.iadd, 1) := by decide +kernel
theorem V.dX8_checkElement_55 : decode cX8_checkElement 55 = .ok (.invokevirtual 174, 3) := by decide +kernel
theorem V.dX8_checkElement_58 : decode cX8_checkElement 58 = .ok (.invokestatic 176, 3) := by decide +kernel
theorem V.dX8_checkElement_61 : decode cX8_checkElement 61 = .ok (.aload_n 0, 1) := by decide +kernel
theorem V.dX8_checkElement_62 : decode cX8_checkElement 62 = .ok (.getfield 19, 3) := by decide +kernel
theorem V.dX8_checkElement_65 : decode cX8_checkElement 65 = .ok (.getfield 233, 3) := by decide +kernel
theorem V.dX8_checkElement_68 : decode cX8_checkElement 68 = .ok (.invokevirtual 100, 3) := by decide +kernel
theorem V.dX8_checkElement_71 : decode cX8_checkElement 71 = .ok (.i2l, 1) := by decide +kernel
theorem V.dX8_checkElement_72 : decode cX8_checkElement 72 = .ok (.lcmp, 1) := by decide +kernel
theorem V.dX8_checkElement_73 : decode cX8_checkElement 73 = .ok (.ifCond .ge 7, 3) := by decide +kernel
theorem V.dX8_checkElement_76 : decode cX8_checkElement 76 = .ok (.iconst 1, 1) := by decide +kernel
theorem V.dX8_checkElement_77 : decode cX8_checkElement 77 = .ok (.goto 4, 3) := by decide +kernel
theorem V.dX8_checkElement_80 : decode cX8_checkElement 80 = .ok (.iconst 0, 1) := by decide +kernel
theorem V.dX8_checkElement_81 : decode cX8_checkElement 81 = .ok (.bipush 28, 2) := by decide +kernel
theorem V.dX8_checkElement_83 : decode cX8_checkElement 83 = .ok (.aload_n 0, 1) := by decide +kernel
theorem V.dX8_checkElement_84 : decode cX8_checkElement 84 = .ok (.bipush 9, 2) := by decide +kernel
theorem V.dX8_checkElement_86 : decode cX8_checkElement 86 = .ok (.invokevirtual 128, 3) := by decide +kernel
theorem V.dX8_checkElement_89 : decode cX8_checkElement 89 = .ok (.invokevirtual 132, 3) := by decide +kernel
theorem V.dX8_checkElement_92 : decode cX8_checkElement 92 = .ok (.iinc 4 1, 3) := by decide +kernel
theorem V.dX8_checkElement_95 : decode cX8_checkElement 95 = .ok (.goto (-75), 3) := by decide +kernel
theorem V.dX8_checkElement_98 : decode cX8_checkElement 98 = .ok (.aload_n 2, 1) := by decide +kernel
theorem V.dX8_checkElement_99 : decode cX8_checkElement 99 = .ok (.iload_n 1, 1) := by decide +kernel
theorem V.dX8_checkElement_100 : decode cX8_checkElement 100 = .ok (.invokevirtual 174, 3) := by decide +kernel
theorem V.dX8_checkElement_103 : decode cX8_checkElement 103 = .ok (.iconst 1, 1) := by decide +kernel
theorem V.dX8_checkElement_104 : decode cX8_checkElement 104 = .ok (.if_icmp .ne 91, 3) := by decide +kernel
theorem V.dX8_checkElement_107 : decode cX8_checkElement 107 = .ok (.aload_n 2, 1) := by decide +kernel
theorem V.dX8_checkElement_108 : decode cX8_checkElement 108 = .ok (.iload_n 1, 1) := by decide +kernel
theorem V.dX8_checkElement_109 : decode cX8_checkElement 109 = .ok (.iconst 2, 1) := by decide +kernel
theorem V.dX8_checkElement_110 : decode cX8_checkElement 110 = .ok (.iadd, 1) := by decide +kernel
theorem V.dX8_checkElement_111 : decode cX8_checkElement 111 = .ok (.invokevirtual 174, 3) := by decide +kernel
theorem V.dX8_checkElement_114 : decode cX8_checkElement 114 = .ok (.istore 4, 2) := by decide +kernel
theorem V.dX8_checkElement_116 : decode cX8_checkElement 116 = .ok (.aload_n 0, 1) := by decide +kernel
theorem V.dX8_checkElement_117 : decode cX8_checkElement 117 = .ok (.iload 4, 2) := by decide +kernel
theorem V.dX8_checkElement_119 : decode cX8_checkElement 119 = .ok (.invokestatic 176, 3) := by decide +kernel
theorem V.dX8_checkElement_122 : decode cX8_checkElement 122 = .ok (.aload_n 0, 1) := by decide +kernel
theorem V.dX8_checkElement_123 : decode cX8_checkElement 123 = .ok (.getfield 19, 3) := by decide +kernel
theorem V.dX8_checkElement_126 : decode cX8_checkElement 126 = .ok (.getfield 240, 3) := by decide +kernel
theorem V.dX8_checkElement_129 : decode cX8_checkElement 129 = .ok (.invokevirtual 100, 3) := by decide +kernel
theorem V.dX8_checkElement_132 : decode cX8_checkElement 132 = .ok (.i2l, 1) := by decide +kernel
theorem V.dX8_checkElement_133 : decode cX8_checkElement 133 = .ok (.lcmp, 1) := by decide +kernel
theorem V.dX8_checkElement_134 : decode cX8_checkElement 134 = .ok (.ifCond .ge 29, 3) := by decide +kernel
theorem V.dX8_checkElement_137 : decode cX8_checkElement 137 = .ok (.aload_n 0, 1) := by decide +kernel
theorem V.dX8_checkElement_138 : decode cX8_checkElement 138 = .ok (.getfield 19, 3) := by decide +kernel
theorem V.dX8_checkElement_141 : decode cX8_checkElement 141 = .ok (.getfield 240, 3) := by decide +kernel
theorem V.dX8_checkElement_144 : decode cX8_checkElement 144 = .ok (.iload 4, 2) := by decide +kernel
theorem V.dX8_checkElement_146 : decode cX8_checkElement 146 = .ok (.invokevirtual 174, 3) := by decide +kernel
theorem V.dX8_checkElement_149 : decode cX8_checkElement 149 = .ok (.aload_n 2, 1) := by decide +kernel
theorem V.dX8_checkElement_150 : decode cX8_checkElement 150 = .ok (.iload_n 1, 1) := by decide +kernel
theorem V.dX8_checkElement_151 : decode cX8_checkElement 151 = .ok (.iconst 1, 1) := by decide +kernel
theorem V.dX8_checkElement_152 : decode cX8_checkElement 152 = .ok (.iadd, 1) := by decide +kernel
theorem V.dX8_checkElement_153 : decode cX8_checkElement 153 = .ok (.invokevirtual 174, 3) := by decide +kernel
theorem V.dX8_checkElement_156 : decode cX8_checkElement 156 = .ok (.if_icmp .ne 7, 3) := by decide +kernel
theorem V.dX8_checkElement_159 : decode cX8_checkElement 159 = .ok (.iconst 1, 1) := by decide +kernel
theorem V.dX8_checkElement_160 : decode cX8_checkElement 160 = .ok (.goto 4, 3) := by decide +kernel
theorem V.dX8_checkElement_163 : decode cX8_checkElement 163 = .ok (.iconst 0, 1) := by decide +kernel
theorem V.dX8_checkElement_164 : decode cX8_checkElement 164 = .ok (.bipush 28, 2) := by decide +kernel
theorem V.dX8_checkElement_166 : decode cX8_checkElement 166 = .ok (.aload_n 0, 1) := by decide +kernel
theorem V.dX8_checkElement_167 : decode cX8_checkElement 167 = .ok (.bipush 9, 2) := by decide +kernel
theorem V.dX8_checkElement_169 : decode cX8_checkElement 169 = .ok (.invokevirtual 128, 3) := by decide +kernel
theorem V.dX8_checkElement_172 : decode cX8_checkElement 172 = .ok (.invokevirtual 132, 3) := by decide +kernel
theorem V.dX8_checkElement_175 : decode cX8_checkElement 175 = .ok (.aload_n 0, 1) := by decide +kernel
theorem V.dX8_checkElement_176 : decode cX8_checkElement 176 = .ok (.aload_n 2, 1) := by decide +kernel
theorem V.dX8_checkElement_177 : decode cX8_checkElement 177 = .ok (.iload_n 1, 1) := by decide +kernel
theorem V.dX8_checkElement_178 : decode cX8_checkElement 178 = .ok (.iconst 4, 1) := by decide +kernel
theorem V.dX8_checkElement_179 : decode cX8_checkElement 179 = .ok (.iadd, 1) := by decide +kernel
theorem V.dX8_checkElement_180 : decode cX8_checkElement 180 = .ok (.invokevirtual 174, 3) := by decide +kernel
theorem V.dX8_checkElement_183 : decode cX8_checkElement 183 = .ok (.aload_n 2, 1) := by decide +kernel
theorem V.dX8_checkElement_184 : decode cX8_checkElement 184 = .ok (.iload_n 1, 1) := by decide +kernel
theorem V.dX8_checkElement_185 : decode cX8_checkElement 185 = .ok (.iconst 5, 1) := by decide +kernel
theorem V.dX8_checkElement_186 : decode cX8_checkElement 186 = .ok (.iadd, 1) := by decide +kernel
theorem V.dX8_checkElement_187 : decode cX8_checkElement 187 = .ok (.invokevirtual 174, 3) := by decide +kernel
theorem V.dX8_checkElement_190 : decode cX8_checkElement 190 = .ok (.bipush 127, 2) := by decide +kernel
theorem V.dX8_checkElement_192 : decode cX8_checkElement 192 = .ok (.invokevirtual 283, 3) := by decide +kernel
theorem V.dX8_checkElement_195 : decode cX8_checkElement 195 = .ok (.iconst 0, 1) := by decide +kernel
theorem V.dX8_checkElement_196 : decode cX8_checkElement 196 = .ok (.istore 4, 2) := by decide +kernel
theorem V.dX8_checkElement_198 : decode cX8_checkElement 198 = .ok (.iload 4, 2) := by decide +kernel
theorem V.dX8_checkElement_200 : decode cX8_checkElement 200 = .ok (.aload_n 2, 1) := by decide +kernel
theorem V.dX8_checkElement_201 : decode cX8_checkElement 201 = .ok (.iload_n 1, 1) := by decide +kernel
theorem V.dX8_checkElement_202 : decode cX8_checkElement 202 = .ok (.iconst 3, 1) := by decide +kernel
theorem V.dX8_checkElement_203 : decode cX8_checkElement 203 = .ok (.iadd, 1) := by decide +kernel
theorem V.dX8_checkElement_204 : decode cX8_checkElement 204 = .ok (.invokevirtual 174, 3) := by decide +kernel
theorem V.dX8_checkElement_207 : decode cX8_checkElement 207 = .ok (.if_icmp .ge 66, 3) := by decide +kernel
theorem V.dX8_checkElement_210 : decode cX8_checkElement 210 = .ok (.aload_n 2, 1) := by decide +kernel
theorem V.dX8_checkElement_211 : decode cX8_checkElement 211 = .ok (.iload_n 1, 1) := by decide +kernel
theorem V.dX8_checkElement_212 : decode cX8_checkElement 212 = .ok (.bipush 6, 2) := by decide +kernel
theorem V.dX8_checkElement_214 : decode cX8_checkElement 214 = .ok (.iadd, 1) := by decide +kernel
theorem V.dX8_checkElement_215 : decode cX8_checkElement 215 = .ok (.invokevirtual 174, 3) := by decide +kernel
theorem V.dX8_checkElement_218 : decode cX8_checkElement 218 = .ok (.iconst 1, 1) := by decide +kernel
theorem V.dX8_checkElement_219 : decode cX8_checkElement 219 = .ok (.if_icmp .ne 54, 3) := by decide +kernel
theorem V.dX8_checkElement_222 : decode cX8_checkElement 222 = .ok (.aload_n 0, 1) := by decide +kernel
theorem V.dX8_checkElement_223 : decode cX8_checkElement 223 = .ok (.aload_n 0, 1) := by decide +kernel
theorem V.dX8_checkElement_224 : decode cX8_checkElement 224 = .ok (.getfield 57, 3) := by decide +kernel
theorem V.dX8_checkElement_227 : decode cX8_checkElement 227 = .ok (.getfield 271, 3) := by decide +kernel
theorem V.dX8_checkElement_230 : decode cX8_checkElement 230 = .ok (.iload_n 3, 1) := by decide +kernel
theorem V.dX8_checkElement_231 : decode cX8_checkElement 231 = .ok (.iconst 2, 1) := by decide +kernel
theorem V.dX8_checkElement_232 : decode cX8_checkElement 232 = .ok (.iload 4, 2) := by decide +kernel
theorem V.dX8_checkElement_234 : decode cX8_checkElement 234 = .ok (.imul, 1) := by decide +kernel
theorem V.dX8_checkElement_235 : decode cX8_checkElement 235 = .ok (.iadd, 1) := by decide +kernel
theorem V.dX8_checkElement_236 : decode cX8_checkElement 236 = .ok (.invokevirtual 174, 3) := by decide +kernel
theorem V.dX8_checkElement_239 : decode cX8_checkElement 239 = .ok (.aload_n 0, 1) := by decide +kernel
theorem V.dX8_checkElement_240 : decode cX8_checkElement 240 = .ok (.getfield 57, 3) := by decide +kernel
theorem V.dX8_checkElement_243 : decode cX8_checkElement 243 = .ok (.getfield 271, 3) := by decide +kernel
theorem V.dX8_checkElement_246 : decode cX8_checkElement 246 = .ok (.iload_n 3, 1) := by decide +kernel
theorem V.dX8_checkElement_247 : decode cX8_checkElement 247 = .ok (.iconst 2, 1) := by decide +kernel
theorem V.dX8_checkElement_248 : decode cX8_checkElement 248 = .ok (.iload 4, 2) := by decide +kernel
theorem V.dX8_checkElement_250 : decode cX8_checkElement 250 = .ok (.imul, 1) := by decide +kernel
theorem V.dX8_checkElement_251 : decode cX8_checkElement 251 = .ok (.iadd, 1) := by decide +kernel
theorem V.dX8_checkElement_252 : decode cX8_checkElement 252 = .ok (.iconst 1, 1) := by decide +kernel
theorem V.dX8_checkElement_253 : decode cX8_checkElement 253 = .ok (.iadd, 1) := by decide +kernel
theorem V.dX8_checkElement_254 : decode cX8_checkElement 254 = .ok (.invokevirtual 174, 3) := by decide +kernel
theorem V.dX8_checkElement_257 : decode cX8_checkElement 257 = .ok (.aload_n 2, 1) := by decide +kernel
theorem V.dX8_checkElement_258 : decode cX8_checkElement 258 = .ok (.iload_n 1, 1) := by decide +kernel
theorem V.dX8_checkElement_259 : decode cX8_checkElement 259 = .ok (.iconst 1, 1) := by decide +kernel
theorem V.dX8_checkElement_260 : decode cX8_checkElement 260 = .ok (.iadd, 1) := by decide +kernel
theorem V.dX8_checkElement_261 : decode cX8_checkElement 261 = .ok (.invokevirtual 174, 3) := by decide +kernel
theorem V.dX8_checkElement_264 : decode cX8_checkElement 264 = .ok (.invokevirtual 283, 3) := by decide +kernel
theorem V.dX8_checkElement_267 : decode cX8_checkElement 267 = .ok (.iinc 4 1, 3) := by decide +kernel
theorem V.dX8_checkElement_270 : decode cX8_checkElement 270 = .ok (.goto (-72), 3) := by decide +kernel
theorem V.dX8_checkElement_273 : decode cX8_checkElement 273 = .ok (.return_, 1) := by decide +kernel
theorem V.mdX8_283 : MD RX8 283 yX8_checkConstant cX8_checkConstant 6 none 3 := ⟨Or.inl q1706, q368, q1709, by decide, by decide, by decide +kernel⟩
/-! ModuleEngine$Loader.checkElement(I)V -/
def V.Ldr_checkElement_p198  : Nat → HS → Nat → Int32 → Nat → Int32 → Int32 → Option ((Nat ⊕ Unit) × HS)
  | 0, _, _, _, _, _, _ => none
  | n + 1, σ, x0, x1, x2, x3, x4 =>
    ck (tg σ x2 = 4) <| cl (Row_at σ x2 (x1 + (3 : Int32))) fun r2 σ1 =>
    if r2 ≤ x4 then (
      some (.inr (), σ1))
    else (
      ck (tg σ1 x2 = 4) <| cl (Row_at σ1 x2 (x1 + (6 : Int32))) fun r4 σ3 =>
      if r4 = (1 : Int32) then (
        ck (tg σ3 x0 = 9) <|
        ck (tg σ3 (gR σ3 x0 7) = 3) <|
        ck (tg σ3 (gR σ3 (gR σ3 x0 7) 10) = 4) <| cl (Row_at σ3 (gR σ3 (gR σ3 x0 7) 10) (x3 + ((2 : Int32) * x4))) fun r6 σ5 =>
        ck (tg σ5 x0 = 9) <|
        ck (tg σ5 (gR σ5 x0 7) = 3) <|
        ck (tg σ5 (gR σ5 (gR σ5 x0 7) 10) = 4) <| cl (Row_at σ5 (gR σ5 (gR σ5 x0 7) 10) ((x3 + ((2 : Int32) * x4)) + (1 : Int32))) fun r8 σ7 =>
        ck (tg σ7 x2 = 4) <| cl (Row_at σ7 x2 (x1 + (1 : Int32))) fun r10 σ9 =>
        ck (tg σ9 x0 = 9) <| clT (Ldr_checkConstant σ9 x0 r6 r8 r10) fun _ σ11 =>
        bn (x4 + (1 : Int32)) fun y12 =>
        Ldr_checkElement_p198 n σ11 x0 x1 x2 x3 y12)
      else (
        some (.inr (), σ3)))
theorem V.gX8_checkElement_p198 {X : CX}  : ∀ (n : Nat) (σ : HS) (x0 : Nat) (x1 : Int32) (x2 : Nat) (x3 : Int32) (x4 : Int32), G X RX8 "checkElement" cX8_checkElement 5 none 9 155 (enX enV (cxz X)) 198 [(0, av x0), (1, iv x1), (2, av x2), (3, iv x3), (4, iv x4)] [] σ (Ldr_checkElement_p198 n σ x0 x1 x2 x3 x4)
  | 0, σ, x0, x1, x2, x3, x4 => by rw [Ldr_checkElement_p198]; exact G.nul
  | n + 1, σ, x0, x1, x2, x3, x4 => by
    rw [Ldr_checkElement_p198]
    refine g_iload 4 dX8_checkElement_198 rfl ?_
    refine g_aload_n 2 2 dX8_checkElement_200 rfl rfl ?_
    refine g_iload_n 1 1 dX8_checkElement_201 rfl rfl ?_
    refine g_iconst (v := 3) dX8_checkElement_202 (by decide) ?_
    refine g_iadd dX8_checkElement_203 ?_
    refine g_callV (fc := fun sς => Row_at sς x2 (x1 + (3 : Int32))) (ci := 3) (as := [iv (x1 + (3 : Int32))]) rfl rfl rfl q1409 q1410 mdX8_174 (ctX3_at x2 (x1 + (3 : Int32))) rfl (Nat.le_of_ble_eq_true rfl) (Nat.le_of_ble_eq_true rfl) (Nat.le_of_ble_eq_true rfl) pu_I dX8_checkElement_204 (fun r2 σ1 => ?_)
    refine g_icmp_ge 273 dX8_checkElement_207 (by decide) ?_ ?_
    · exact g_return rfl dX8_checkElement_273
    · refine g_aload_n 2 2 dX8_checkElement_210 rfl rfl ?_
      refine g_iload_n 1 1 dX8_checkElement_211 rfl rfl ?_
      refine g_bipush (v := 6) dX8_checkElement_212 (by decide) ?_
      refine g_iadd dX8_checkElement_214 ?_
      refine g_callV (fc := fun sς => Row_at sς x2 (x1 + (6 : Int32))) (ci := 3) (as := [iv (x1 + (6 : Int32))]) rfl rfl rfl q1409 q1410 mdX8_174 (ctX3_at x2 (x1 + (6 : Int32))) rfl (Nat.le_of_ble_eq_true rfl) (Nat.le_of_ble_eq_true rfl) (Nat.le_of_ble_eq_true rfl) pu_I dX8_checkElement_215 (fun r4 σ3 => ?_)
      refine g_iconst (v := 1) dX8_checkElement_218 (by decide) ?_
      refine g_icmp_ne 273 dX8_checkElement_219 (by decide) ?_ ?_
      · exact g_return rfl dX8_checkElement_273
      · refine g_aload_n 0 0 dX8_checkElement_222 rfl rfl ?_
        refine g_aload_n 0 0 dX8_checkElement_223 rfl rfl ?_
        refine g_getR fdX8_57 dX8_checkElement_224 ?_
        refine g_getR fdX8_271 dX8_checkElement_227 ?_
        refine g_iload_n 3 3 dX8_checkElement_230 rfl rfl ?_
        refine g_iconst (v := 2) dX8_checkElement_231 (by decide) ?_
        refine g_iload 4 dX8_checkElement_232 rfl ?_
        refine g_imul dX8_checkElement_234 ?_
        refine g_iadd dX8_checkElement_235 ?_
        refine g_callV (fc := fun sς => Row_at sς (gR σ3 (gR σ3 x0 7) 10) (x3 + ((2 : Int32) * x4))) (ci := 3) (as := [iv (x3 + ((2 : Int32) * x4))]) rfl rfl rfl q1409 q1410 mdX8_174 (ctX3_at (gR σ3 (gR σ3 x0 7) 10) (x3 + ((2 : Int32) * x4))) rfl (Nat.le_of_ble_eq_true rfl) (Nat.le_of_ble_eq_true rfl) (Nat.le_of_ble_eq_true rfl) pu_I dX8_checkElement_236 (fun r6 σ5 => ?_)
        refine g_aload_n 0 0 dX8_checkElement_239 rfl rfl ?_
        refine g_getR fdX8_57 dX8_checkElement_240 ?_
        refine g_getR fdX8_271 dX8_checkElement_243 ?_
        refine g_iload_n 3 3 dX8_checkElement_246 rfl rfl ?_
        refine g_iconst (v := 2) dX8_checkElement_247 (by decide) ?_
        refine g_iload 4 dX8_checkElement_248 rfl ?_
        refine g_imul dX8_checkElement_250 ?_
        refine g_iadd dX8_checkElement_251 ?_
        refine g_iconst (v := 1) dX8_checkElement_252 (by decide) ?_
        refine g_iadd dX8_checkElement_253 ?_
        refine g_callV (fc := fun sς => Row_at sς (gR σ5 (gR σ5 x0 7) 10) ((x3 + ((2 : Int32) * x4)) + (1 : Int32))) (ci := 3) (as := [iv ((x3 + ((2 : Int32) * x4)) + (1 : Int32))]) rfl rfl rfl q1409 q1410 mdX8_174 (ctX3_at (gR σ5 (gR σ5 x0 7) 10) ((x3 + ((2 : Int32) * x4)) + (1 : Int32))) rfl (Nat.le_of_ble_eq_true rfl) (Nat.le_of_ble_eq_true rfl) (Nat.le_of_ble_eq_true rfl) pu_I dX8_checkElement_254 (fun r8 σ7 => ?_)
        refine g_aload_n 2 2 dX8_checkElement_257 rfl rfl ?_
        refine g_iload_n 1 1 dX8_checkElement_258 rfl rfl ?_
        refine g_iconst (v := 1) dX8_checkElement_259 (by decide) ?_
        refine g_iadd dX8_checkElement_260 ?_
        refine g_callV (fc := fun sς => Row_at sς x2 (x1 + (1 : Int32))) (ci := 3) (as := [iv (x1 + (1 : Int32))]) rfl rfl rfl q1409 q1410 mdX8_174 (ctX3_at x2 (x1 + (1 : Int32))) rfl (Nat.le_of_ble_eq_true rfl) (Nat.le_of_ble_eq_true rfl) (Nat.le_of_ble_eq_true rfl) pu_I dX8_checkElement_261 (fun r10 σ9 => ?_)
        refine g_callVT (fc := fun sς => Ldr_checkConstant sς x0 r6 r8 r10) (ci := 8) (as := [iv r6, iv r8, iv r10]) rfl rfl rfl q1708 qs65 q1706 mdX8_283 (ctX8_checkConstant x0 r6 r8 r10) rfl (Nat.le_of_ble_eq_true rfl) (Nat.le_of_ble_eq_true rfl) (Nat.le_of_ble_eq_true rfl) pu_V (by decide) dX8_checkElement_264 (fun _ σ11 => ?_)
        refine g_iincB (w := 1) 4 dX8_checkElement_267 rfl (by decide) (by decide) (fun _ => rfl) (fun y12 => ?_)
        refine g_goto 198 dX8_checkElement_270 (by decide) ?_
        refine G.sub [1, 2, 3, 4, 0] rfl ?_
        exact gX8_checkElement_p198 n _ _ _ _ _ _
def V.Ldr_checkElement_p195  (σ : HS) (x0 : Nat) (x1 : Int32) (x2 : Nat) (x3 : Int32) : Option ((Nat ⊕ Unit) × HS) :=
  Ldr_checkElement_p198 FU σ x0 x1 x2 x3 (0 : Int32)
theorem V.gX8_checkElement_p195 {X : CX}  (σ : HS) (x0 : Nat) (x1 : Int32) (x2 : Nat) (x3 : Int32) : G X RX8 "checkElement" cX8_checkElement 5 none 9 155 (enX enV (cxz X)) 195 [(0, av x0), (1, iv x1), (2, av x2), (3, iv x3)] [] σ (Ldr_checkElement_p195 σ x0 x1 x2 x3) := by
  unfold Ldr_checkElement_p195
  refine g_iconst (v := 0) dX8_checkElement_195 (by decide) ?_
  refine g_istore dX8_checkElement_196 (by decide) rfl ?_
  refine G.sub [1, 2, 3, 4, 0] rfl ?_
  exact gX8_checkElement_p198 FU _ _ _ _ _ _
def V.Ldr_checkElement_p164  (σ : HS) (x0 : Nat) (x1 : Int32) (x2 : Nat) (x3 : Int32) (s0 : Int32) (s1 : Nat) : Option ((Nat ⊕ Unit) × HS) :=
  ck (tg σ x0 = 9) <| cl (Ldr_section σ x0 (9 : Int32)) fun r2 σ1 =>
  ck (tg σ1 s1 = 9) <| clT (Ldr_need σ1 s1 s0 (28 : Int32) r2) fun _ σ3 =>
  ck (tg σ3 x2 = 4) <| cl (Row_at σ3 x2 (x1 + (4 : Int32))) fun r5 σ4 =>
  ck (tg σ4 x2 = 4) <| cl (Row_at σ4 x2 (x1 + (5 : Int32))) fun r7 σ6 =>
  ck (tg σ6 x0 = 9) <| clT (Ldr_checkConstant σ6 x0 r5 r7 (127 : Int32)) fun _ σ8 =>
  Ldr_checkElement_p195 σ8 x0 x1 x2 x3
theorem V.gX8_checkElement_p164 {X : CX}  (σ : HS) (x0 : Nat) (x1 : Int32) (x2 : Nat) (x3 : Int32) (s0 : Int32) (s1 : Nat) : G X RX8 "checkElement" cX8_checkElement 5 none 9 155 (enX enV (cxz X)) 164 [(0, av x0), (1, iv x1), (2, av x2), (3, iv x3)] [iv s0, av s1] σ (Ldr_checkElement_p164 σ x0 x1 x2 x3 s0 s1) := by
  unfold Ldr_checkElement_p164
  refine g_bipush (v := 28) dX8_checkElement_164 (by decide) ?_
  refine g_aload_n 0 0 dX8_checkElement_166 rfl rfl ?_
  refine g_bipush (v := 9) dX8_checkElement_167 (by decide) ?_
  refine g_callV (fc := fun sς => Ldr_section sς x0 (9 : Int32)) (ci := 8) (as := [iv (9 : Int32)]) rfl rfl rfl q1569 qs38 mdX8_128 (ctX8_section x0 (9 : Int32)) rfl (Nat.le_of_ble_eq_true rfl) (Nat.le_of_ble_eq_true rfl) (Nat.le_of_ble_eq_true rfl) pu_I dX8_checkElement_169 (fun r2 σ1 => ?_)
  refine g_callVT (fc := fun sς => Ldr_need sς s1 s0 (28 : Int32) r2) (ci := 8) (as := [iv s0, iv (28 : Int32), iv r2]) rfl rfl rfl q1590 qs42 q1588 mdX8_132 (ctX8_need s1 s0 (28 : Int32) r2) rfl (Nat.le_of_ble_eq_true rfl) (Nat.le_of_ble_eq_true rfl) (Nat.le_of_ble_eq_true rfl) pu_V (by decide) dX8_checkElement_172 (fun _ σ3 => ?_)
  refine g_aload_n 0 0 dX8_checkElement_175 rfl rfl ?_
  refine g_aload_n 2 2 dX8_checkElement_176 rfl rfl ?_
  refine g_iload_n 1 1 dX8_checkElement_177 rfl rfl ?_
  refine g_iconst (v := 4) dX8_checkElement_178 (by decide) ?_
  refine g_iadd dX8_checkElement_179 ?_
  refine g_callV (fc := fun sς => Row_at sς x2 (x1 + (4 : Int32))) (ci := 3) (as := [iv (x1 + (4 : Int32))]) rfl rfl rfl q1409 q1410 mdX8_174 (ctX3_at x2 (x1 + (4 : Int32))) rfl (Nat.le_of_ble_eq_true rfl) (Nat.le_of_ble_eq_true rfl) (Nat.le_of_ble_eq_true rfl) pu_I dX8_checkElement_180 (fun r5 σ4 => ?_)
  refine g_aload_n 2 2 dX8_checkElement_183 rfl rfl ?_
  refine g_iload_n 1 1 dX8_checkElement_184 rfl rfl ?_
  refine g_iconst (v := 5) dX8_checkElement_185 (by decide) ?_
  refine g_iadd dX8_checkElement_186 ?_
  refine g_callV (fc := fun sς => Row_at sς x2 (x1 + (5 : Int32))) (ci := 3) (as := [iv (x1 + (5 : Int32))]) rfl rfl rfl q1409 q1410 mdX8_174 (ctX3_at x2 (x1 + (5 : Int32))) rfl (Nat.le_of_ble_eq_true rfl) (Nat.le_of_ble_eq_true rfl) (Nat.le_of_ble_eq_true rfl) pu_I dX8_checkElement_187 (fun r7 σ6 => ?_)
  refine g_bipush (v := 127) dX8_checkElement_190 (by decide) ?_
  refine g_callVT (fc := fun sς => Ldr_checkConstant sς x0 r5 r7 (127 : Int32)) (ci := 8) (as := [iv r5, iv r7, iv (127 : Int32)]) rfl rfl rfl q1708 qs65 q1706 mdX8_283 (ctX8_checkConstant x0 r5 r7 (127 : Int32)) rfl (Nat.le_of_ble_eq_true rfl) (Nat.le_of_ble_eq_true rfl) (Nat.le_of_ble_eq_true rfl) pu_V (by decide) dX8_checkElement_192 (fun _ σ8 => ?_)
  exact gX8_checkElement_p195 _ _ _ _ _
def V.Ldr_checkElement_p163  (σ : HS) (x0 : Nat) (x1 : Int32) (x2 : Nat) (x3 : Int32) (s0 : Nat) : Option ((Nat ⊕ Unit) × HS) :=
  Ldr_checkElement_p164 σ x0 x1 x2 x3 (0 : Int32) s0
theorem V.gX8_checkElement_p163 {X : CX}  (σ : HS) (x0 : Nat) (x1 : Int32) (x2 : Nat) (x3 : Int32) (s0 : Nat) : G X RX8 "checkElement" cX8_checkElement 5 none 9 155 (enX enV (cxz X)) 163 [(0, av x0), (1, iv x1), (2, av x2), (3, iv x3)] [av s0] σ (Ldr_checkElement_p163 σ x0 x1 x2 x3 s0) := by
  unfold Ldr_checkElement_p163
  refine g_iconst (v := 0) dX8_checkElement_163 (by decide) ?_
  exact gX8_checkElement_p164 _ _ _ _ _ _ _
def V.Ldr_checkElement_p98  (σ : HS) (x0 : Nat) (x1 : Int32) (x2 : Nat) (x3 : Int32) : Option ((Nat ⊕ Unit) × HS) :=
  ck (tg σ x2 = 4) <| cl (Row_at σ x2 x1) fun r2 σ1 =>
  if r2 = (1 : Int32) then (
    ck (tg σ1 x2 = 4) <| cl (Row_at σ1 x2 (x1 + (2 : Int32))) fun r4 σ3 =>
    cl (Mod_wide σ3 r4) fun r6 σ5 =>
    ck (tg σ5 x0 = 9) <|
    ck (tg σ5 (gR σ5 x0 4) = 11) <|
    ck (tg σ5 (gR σ5 (gR σ5 x0 4) 2) = 4) <| cl (Row_size σ5 (gR σ5 (gR σ5 x0 4) 2) ) fun r8 σ7 =>
    if r8.toInt64 ≤ r6 then (
      Ldr_checkElement_p163 σ7 x0 x1 x2 x3 x0)
    else (
      ck (tg σ7 x0 = 9) <|
      ck (tg σ7 (gR σ7 x0 4) = 11) <|
      ck (tg σ7 (gR σ7 (gR σ7 x0 4) 2) = 4) <| cl (Row_at σ7 (gR σ7 (gR σ7 x0 4) 2) r4) fun r10 σ9 =>
      ck (tg σ9 x2 = 4) <| cl (Row_at σ9 x2 (x1 + (1 : Int32))) fun r12 σ11 =>
      if r10 = r12 then (
        Ldr_checkElement_p164 σ11 x0 x1 x2 x3 (1 : Int32) x0)
      else (
        Ldr_checkElement_p163 σ11 x0 x1 x2 x3 x0)))
  else (
    Ldr_checkElement_p195 σ1 x0 x1 x2 x3)
theorem V.gX8_checkElement_p98 {X : CX}  (σ : HS) (x0 : Nat) (x1 : Int32) (x2 : Nat) (x3 : Int32) : G X RX8 "checkElement" cX8_checkElement 5 none 9 155 (enX enV (cxz X)) 98 [(0, av x0), (1, iv x1), (2, av x2), (3, iv x3)] [] σ (Ldr_checkElement_p98 σ x0 x1 x2 x3) := by
  unfold Ldr_checkElement_p98
  refine g_aload_n 2 2 dX8_checkElement_98 rfl rfl ?_
  refine g_iload_n 1 1 dX8_checkElement_99 rfl rfl ?_
  refine g_callV (fc := fun sς => Row_at sς x2 x1) (ci := 3) (as := [iv x1]) rfl rfl rfl q1409 q1410 mdX8_174 (ctX3_at x2 x1) rfl (Nat.le_of_ble_eq_true rfl) (Nat.le_of_ble_eq_true rfl) (Nat.le_of_ble_eq_true rfl) pu_I dX8_checkElement_100 (fun r2 σ1 => ?_)
  refine g_iconst (v := 1) dX8_checkElement_103 (by decide) ?_
  refine g_icmp_ne 195 dX8_checkElement_104 (by decide) ?_ ?_
  · exact gX8_checkElement_p195 _ _ _ _ _
  · refine g_aload_n 2 2 dX8_checkElement_107 rfl rfl ?_
    refine g_iload_n 1 1 dX8_checkElement_108 rfl rfl ?_
    refine g_iconst (v := 2) dX8_checkElement_109 (by decide) ?_
    refine g_iadd dX8_checkElement_110 ?_
    refine g_callV (fc := fun sς => Row_at sς x2 (x1 + (2 : Int32))) (ci := 3) (as := [iv (x1 + (2 : Int32))]) rfl rfl rfl q1409 q1410 mdX8_174 (ctX3_at x2 (x1 + (2 : Int32))) rfl (Nat.le_of_ble_eq_true rfl) (Nat.le_of_ble_eq_true rfl) (Nat.le_of_ble_eq_true rfl) pu_I dX8_checkElement_111 (fun r4 σ3 => ?_)
    refine g_istore dX8_checkElement_114 (by decide) rfl ?_
    refine g_aload_n 0 1 dX8_checkElement_116 rfl rfl ?_
    refine g_iload 0 dX8_checkElement_117 rfl ?_
    refine g_callS (fc := fun sς => Mod_wide sς r4) (as := [iv r4]) q1376 mdX8_176 (ctX2_wide r4) rfl (Nat.le_of_ble_eq_true rfl) (Nat.le_of_ble_eq_true rfl) (Nat.le_of_ble_eq_true rfl) pu_J dX8_checkElement_119 (fun r6 σ5 => ?_)
    refine g_aload_n 0 1 dX8_checkElement_122 rfl rfl ?_
    refine g_getR fdX8_19 dX8_checkElement_123 ?_
    refine g_getR fdX8_240 dX8_checkElement_126 ?_
    refine g_callV (fc := fun sς => Row_size sς (gR σ5 (gR σ5 x0 4) 2) ) (ci := 3) (as := []) rfl rfl rfl q1421 q1422 mdX8_100 (ctX3_size (gR σ5 (gR σ5 x0 4) 2) ) rfl (Nat.le_of_ble_eq_true rfl) (Nat.le_of_ble_eq_true rfl) (Nat.le_of_ble_eq_true rfl) pu_I dX8_checkElement_129 (fun r8 σ7 => ?_)
    refine g_i2l dX8_checkElement_132 ?_
    refine g_lcmp_ge 163 dX8_checkElement_133 dX8_checkElement_134 (by decide) ?_ ?_
    · refine G.sub [1, 2, 3, 4] rfl ?_
      exact gX8_checkElement_p163 _ _ _ _ _ _
    · refine g_aload_n 0 1 dX8_checkElement_137 rfl rfl ?_
      refine g_getR fdX8_19 dX8_checkElement_138 ?_
      refine g_getR fdX8_240 dX8_checkElement_141 ?_
      refine g_iload 0 dX8_checkElement_144 rfl ?_
      refine g_callV (fc := fun sς => Row_at sς (gR σ7 (gR σ7 x0 4) 2) r4) (ci := 3) (as := [iv r4]) rfl rfl rfl q1409 q1410 mdX8_174 (ctX3_at (gR σ7 (gR σ7 x0 4) 2) r4) rfl (Nat.le_of_ble_eq_true rfl) (Nat.le_of_ble_eq_true rfl) (Nat.le_of_ble_eq_true rfl) pu_I dX8_checkElement_146 (fun r10 σ9 => ?_)
      refine g_aload_n 2 3 dX8_checkElement_149 rfl rfl ?_
      refine g_iload_n 1 2 dX8_checkElement_150 rfl rfl ?_
      refine g_iconst (v := 1) dX8_checkElement_151 (by decide) ?_
      refine g_iadd dX8_checkElement_152 ?_
      refine g_callV (fc := fun sς => Row_at sς x2 (x1 + (1 : Int32))) (ci := 3) (as := [iv (x1 + (1 : Int32))]) rfl rfl rfl q1409 q1410 mdX8_174 (ctX3_at x2 (x1 + (1 : Int32))) rfl (Nat.le_of_ble_eq_true rfl) (Nat.le_of_ble_eq_true rfl) (Nat.le_of_ble_eq_true rfl) pu_I dX8_checkElement_153 (fun r12 σ11 => ?_)
      refine g_icmp_ne 163 dX8_checkElement_156 (by decide) ?_ ?_
      · refine G.sub [1, 2, 3, 4] rfl ?_
        exact gX8_checkElement_p163 _ _ _ _ _ _
      · refine g_iconst (v := 1) dX8_checkElement_159 (by decide) ?_
        refine g_goto 164 dX8_checkElement_160 (by decide) ?_
        refine G.sub [1, 2, 3, 4] rfl ?_
        exact gX8_checkElement_p164 _ _ _ _ _ _ _
def V.Ldr_checkElement_p81 (rec20 : HS → Nat → Int32 → Nat → Int32 → Int32 → Option ((Nat ⊕ Unit) × HS)) (σ : HS) (x0 : Nat) (x1 : Int32) (x2 : Nat) (x3 : Int32) (x4 : Int32) (s0 : Int32) (s1 : Nat) : Option ((Nat ⊕ Unit) × HS) :=
  ck (tg σ x0 = 9) <| cl (Ldr_section σ x0 (9 : Int32)) fun r2 σ1 =>
  ck (tg σ1 s1 = 9) <| clT (Ldr_need σ1 s1 s0 (28 : Int32) r2) fun _ σ3 =>
  bn (x4 + (1 : Int32)) fun y4 =>
  rec20 σ3 x0 x1 x2 x3 y4
theorem V.gX8_checkElement_p81 {X : CX} (rec20 : HS → Nat → Int32 → Nat → Int32 → Int32 → Option ((Nat ⊕ Unit) × HS)) (hrec20 : ∀ (σ : HS) (x0 : Nat) (x1 : Int32) (x2 : Nat) (x3 : Int32) (x4 : Int32), G X RX8 "checkElement" cX8_checkElement 5 none 9 155 (enX enV (cxz X)) 20 [(0, av x0), (1, iv x1), (2, av x2), (3, iv x3), (4, iv x4)] [] σ (rec20 σ x0 x1 x2 x3 x4)) (σ : HS) (x0 : Nat) (x1 : Int32) (x2 : Nat) (x3 : Int32) (x4 : Int32) (s0 : Int32) (s1 : Nat) : G X RX8 "checkElement" cX8_checkElement 5 none 9 155 (enX enV (cxz X)) 81 [(0, av x0), (1, iv x1), (2, av x2), (3, iv x3), (4, iv x4)] [iv s0, av s1] σ (Ldr_checkElement_p81 rec20 σ x0 x1 x2 x3 x4 s0 s1) := by
  unfold Ldr_checkElement_p81
  refine g_bipush (v := 28) dX8_checkElement_81 (by decide) ?_
  refine g_aload_n 0 0 dX8_checkElement_83 rfl rfl ?_
  refine g_bipush (v := 9) dX8_checkElement_84 (by decide) ?_
  refine g_callV (fc := fun sς => Ldr_section sς x0 (9 : Int32)) (ci := 8) (as := [iv (9 : Int32)]) rfl rfl rfl q1569 qs38 mdX8_128 (ctX8_section x0 (9 : Int32)) rfl (Nat.le_of_ble_eq_true rfl) (Nat.le_of_ble_eq_true rfl) (Nat.le_of_ble_eq_true rfl) pu_I dX8_checkElement_86 (fun r2 σ1 => ?_)
  refine g_callVT (fc := fun sς => Ldr_need sς s1 s0 (28 : Int32) r2) (ci := 8) (as := [iv s0, iv (28 : Int32), iv r2]) rfl rfl rfl q1590 qs42 q1588 mdX8_132 (ctX8_need s1 s0 (28 : Int32) r2) rfl (Nat.le_of_ble_eq_true rfl) (Nat.le_of_ble_eq_true rfl) (Nat.le_of_ble_eq_true rfl) pu_V (by decide) dX8_checkElement_89 (fun _ σ3 => ?_)
  refine g_iincB (w := 1) 4 dX8_checkElement_92 rfl (by decide) (by decide) (fun _ => rfl) (fun y4 => ?_)
  refine g_goto 20 dX8_checkElement_95 (by decide) ?_
  refine G.sub [1, 2, 3, 4, 0] rfl ?_
  exact hrec20 _ _ _ _ _ _
def V.Ldr_checkElement_p20  : Nat → HS → Nat → Int32 → Nat → Int32 → Int32 → Option ((Nat ⊕ Unit) × HS)
  | 0, _, _, _, _, _, _ => none
  | n + 1, σ, x0, x1, x2, x3, x4 =>
    ck (tg σ x2 = 4) <| cl (Row_at σ x2 (x1 + (3 : Int32))) fun r2 σ1 =>
    if r2 ≤ x4 then (
      Ldr_checkElement_p98 σ1 x0 x1 x2 x3)
    else (
      ck (tg σ1 x2 = 4) <| cl (Row_at σ1 x2 (x1 + (6 : Int32))) fun r4 σ3 =>
      if r4 = 0 then (
        ck (tg σ3 x0 = 9) <|
        ck (tg σ3 (gR σ3 x0 7) = 3) <|
        ck (tg σ3 (gR σ3 (gR σ3 x0 7) 10) = 4) <| cl (Row_at σ3 (gR σ3 (gR σ3 x0 7) 10) (x3 + x4)) fun r6 σ5 =>
        cl (Mod_wide σ5 r6) fun r8 σ7 =>
        ck (tg σ7 x0 = 9) <|
        ck (tg σ7 (gR σ7 x0 4) = 11) <|
        ck (tg σ7 (gR σ7 (gR σ7 x0 4) 0) = 4) <| cl (Row_size σ7 (gR σ7 (gR σ7 x0 4) 0) ) fun r10 σ9 =>
        if r10.toInt64 ≤ r8 then (
          Ldr_checkElement_p81 (Ldr_checkElement_p20 n) σ9 x0 x1 x2 x3 x4 (0 : Int32) x0)
        else (
          Ldr_checkElement_p81 (Ldr_checkElement_p20 n) σ9 x0 x1 x2 x3 x4 (1 : Int32) x0))
      else (
        Ldr_checkElement_p98 σ3 x0 x1 x2 x3))
theorem V.gX8_checkElement_p20 {X : CX}  : ∀ (n : Nat) (σ : HS) (x0 : Nat) (x1 : Int32) (x2 : Nat) (x3 : Int32) (x4 : Int32), G X RX8 "checkElement" cX8_checkElement 5 none 9 155 (enX enV (cxz X)) 20 [(0, av x0), (1, iv x1), (2, av x2), (3, iv x3), (4, iv x4)] [] σ (Ldr_checkElement_p20 n σ x0 x1 x2 x3 x4)
  | 0, σ, x0, x1, x2, x3, x4 => by rw [Ldr_checkElement_p20]; exact G.nul
  | n + 1, σ, x0, x1, x2, x3, x4 => by
    rw [Ldr_checkElement_p20]
    refine g_iload 4 dX8_checkElement_20 rfl ?_
    refine g_aload_n 2 2 dX8_checkElement_22 rfl rfl ?_
    refine g_iload_n 1 1 dX8_checkElement_23 rfl rfl ?_
    refine g_iconst (v := 3) dX8_checkElement_24 (by decide) ?_
    refine g_iadd dX8_checkElement_25 ?_
    refine g_callV (fc := fun sς => Row_at sς x2 (x1 + (3 : Int32))) (ci := 3) (as := [iv (x1 + (3 : Int32))]) rfl rfl rfl q1409 q1410 mdX8_174 (ctX3_at x2 (x1 + (3 : Int32))) rfl (Nat.le_of_ble_eq_true rfl) (Nat.le_of_ble_eq_true rfl) (Nat.le_of_ble_eq_true rfl) pu_I dX8_checkElement_26 (fun r2 σ1 => ?_)
    refine g_icmp_ge 98 dX8_checkElement_29 (by decide) ?_ ?_
    · refine G.sub [0, 1, 2, 3] rfl ?_
      exact gX8_checkElement_p98 _ _ _ _ _
    · refine g_aload_n 2 2 dX8_checkElement_32 rfl rfl ?_
      refine g_iload_n 1 1 dX8_checkElement_33 rfl rfl ?_
      refine g_bipush (v := 6) dX8_checkElement_34 (by decide) ?_
      refine g_iadd dX8_checkElement_36 ?_
      refine g_callV (fc := fun sς => Row_at sς x2 (x1 + (6 : Int32))) (ci := 3) (as := [iv (x1 + (6 : Int32))]) rfl rfl rfl q1409 q1410 mdX8_174 (ctX3_at x2 (x1 + (6 : Int32))) rfl (Nat.le_of_ble_eq_true rfl) (Nat.le_of_ble_eq_true rfl) (Nat.le_of_ble_eq_true rfl) pu_I dX8_checkElement_37 (fun r4 σ3 => ?_)
      refine g_if_ne 98 dX8_checkElement_40 (by decide) ?_ ?_
      · refine G.sub [0, 1, 2, 3] rfl ?_
        exact gX8_checkElement_p98 _ _ _ _ _
      · refine g_aload_n 0 0 dX8_checkElement_43 rfl rfl ?_
        refine g_aload_n 0 0 dX8_checkElement_44 rfl rfl ?_
        refine g_getR fdX8_57 dX8_checkElement_45 ?_
        refine g_getR fdX8_271 dX8_checkElement_48 ?_
        refine g_iload_n 3 3 dX8_checkElement_51 rfl rfl ?_
        refine g_iload 4 dX8_checkElement_52 rfl ?_
        refine g_iadd dX8_checkElement_54 ?_
        refine g_callV (fc := fun sς => Row_at sς (gR σ3 (gR σ3 x0 7) 10) (x3 + x4)) (ci := 3) (as := [iv (x3 + x4)]) rfl rfl rfl q1409 q1410 mdX8_174 (ctX3_at (gR σ3 (gR σ3 x0 7) 10) (x3 + x4)) rfl (Nat.le_of_ble_eq_true rfl) (Nat.le_of_ble_eq_true rfl) (Nat.le_of_ble_eq_true rfl) pu_I dX8_checkElement_55 (fun r6 σ5 => ?_)
        refine g_callS (fc := fun sς => Mod_wide sς r6) (as := [iv r6]) q1376 mdX8_176 (ctX2_wide r6) rfl (Nat.le_of_ble_eq_true rfl) (Nat.le_of_ble_eq_true rfl) (Nat.le_of_ble_eq_true rfl) pu_J dX8_checkElement_58 (fun r8 σ7 => ?_)
        refine g_aload_n 0 0 dX8_checkElement_61 rfl rfl ?_
        refine g_getR fdX8_19 dX8_checkElement_62 ?_
        refine g_getR fdX8_233 dX8_checkElement_65 ?_
        refine g_callV (fc := fun sς => Row_size sς (gR σ7 (gR σ7 x0 4) 0) ) (ci := 3) (as := []) rfl rfl rfl q1421 q1422 mdX8_100 (ctX3_size (gR σ7 (gR σ7 x0 4) 0) ) rfl (Nat.le_of_ble_eq_true rfl) (Nat.le_of_ble_eq_true rfl) (Nat.le_of_ble_eq_true rfl) pu_I dX8_checkElement_68 (fun r10 σ9 => ?_)
        refine g_i2l dX8_checkElement_71 ?_
        refine g_lcmp_ge 80 dX8_checkElement_72 dX8_checkElement_73 (by decide) ?_ ?_
        · refine g_iconst (v := 0) dX8_checkElement_80 (by decide) ?_
          exact gX8_checkElement_p81 (Ldr_checkElement_p20 n) (gX8_checkElement_p20 n) _ _ _ _ _ _ _ _
        · refine g_iconst (v := 1) dX8_checkElement_76 (by decide) ?_
          refine g_goto 81 dX8_checkElement_77 (by decide) ?_
          exact gX8_checkElement_p81 (Ldr_checkElement_p20 n) (gX8_checkElement_p20 n) _ _ _ _ _ _ _ _
def V.Ldr_checkElement (σ : HS) (x0 : Nat) (x1 : Int32) : Option ((Nat ⊕ Unit) × HS) :=
  ck (tg σ x0 = 9) <|
  ck (tg σ (gR σ x0 7) = 3) <|
  bn (gR σ (gR σ x0 7) 9) fun y1 =>
  ck (tg σ y1 = 4) <| cl (Row_at σ y1 (x1 + (7 : Int32))) fun r3 σ2 =>
  Ldr_checkElement_p20 FU σ2 x0 x1 y1 r3 (0 : Int32)
theorem V.ctX8_checkElement (x0 : Nat) (x1 : Int32) : Ct yX8_checkElement  cX8_checkElement 5 none 9 155 eXV [av x0, iv x1] (fun σ => Ldr_checkElement σ x0 x1) := by
  refine Ct.of (own := RX8) (nm := "checkElement") (desc := "(I)V") rfl (by decide) (Nat.le_of_ble_eq_true rfl) (by decide) (fun X σ => ?_)
  show G X RX8 "checkElement" cX8_checkElement 5 none 9 155 (enX enV (cxz X)) 0 [(0, av x0), (1, iv x1)] [] σ (Ldr_checkElement σ x0 x1)
  unfold Ldr_checkElement
  refine g_aload_n 0 0 dX8_checkElement_0 rfl rfl ?_
  refine g_getR fdX8_57 dX8_checkElement_1 ?_
  refine g_getR fdX8_155 dX8_checkElement_4 ?_
  refine g_nmA (fun y1 => ?_)
  refine g_astore_n 2 dX8_checkElement_7 rfl (by decide) rfl ?_
  refine g_aload_n 2 0 dX8_checkElement_8 rfl rfl ?_
  refine g_iload_n 1 2 dX8_checkElement_9 rfl rfl ?_
  refine g_bipush (v := 7) dX8_checkElement_10 (by decide) ?_
  refine g_iadd dX8_checkElement_12 ?_
  refine g_callV (fc := fun sς => Row_at sς y1 (x1 + (7 : Int32))) (ci := 3) (as := [iv (x1 + (7 : Int32))]) rfl rfl rfl q1409 q1410 mdX8_174 (ctX3_at y1 (x1 + (7 : Int32))) rfl (Nat.le_of_ble_eq_true rfl) (Nat.le_of_ble_eq_true rfl) (Nat.le_of_ble_eq_true rfl) pu_I dX8_checkElement_13 (fun r3 σ2 => ?_)
  refine g_istore_n 3 dX8_checkElement_16 rfl (by decide) rfl ?_
  refine g_iconst (v := 0) dX8_checkElement_17 (by decide) ?_
  refine g_istore dX8_checkElement_18 (by decide) rfl ?_
  refine G.sub [3, 4, 2, 1, 0] rfl ?_
  exact gX8_checkElement_p20 FU _ _ _ _ _ _
theorem V.dX8_checkConstants_0 : decode cX8_checkConstants 0 = .ok (.aload_n 0, 1) := by decide +kernel
theorem V.dX8_checkConstants_1 : decode cX8_checkConstants 1 = .ok (.getfield 57, 3) := by decide +kernel
theorem V.dX8_checkConstants_4 : decode cX8_checkConstants 4 = .ok (.getfield 149, 3) := by decide +kernel
theorem V.dX8_checkConstants_7 : decode cX8_checkConstants 7 = .ok (.astore_n 1, 1) := by decide +kernel
theorem V.dX8_checkConstants_8 : decode cX8_checkConstants 8 = .ok (.iconst 0, 1) := by decide +kernel
theorem V.dX8_checkConstants_9 : decode cX8_checkConstants 9 = .ok (.istore_n 2, 1) := by decide +kernel
theorem V.dX8_checkConstants_10 : decode cX8_checkConstants 10 = .ok (.iload_n 2, 1) := by decide +kernel
theorem V.dX8_checkConstants_11 : decode cX8_checkConstants 11 = .ok (.aload_n 1, 1) := by decide +kernel
theorem V.dX8_checkConstants_12 : decode cX8_checkConstants 12 = .ok (.invokevirtual 100, 3) := by decide +kernel
theorem V.dX8_checkConstants_15 : decode cX8_checkConstants 15 = .ok (.if_icmp .ge 32, 3) := by decide +kernel
theorem V.dX8_checkConstants_18 : decode cX8_checkConstants 18 = .ok (.aload_n 0, 1) := by decide +kernel
theorem V.dX8_checkConstants_19 : decode cX8_checkConstants 19 = .ok (.aload_n 1, 1) := by decide +kernel
theorem V.dX8_checkConstants_20 : decode cX8_checkConstants 20 = .ok (.iload_n 2, 1) := by decide +kernel
theorem V.dX8_checkConstants_21 : decode cX8_checkConstants 21 = .ok (.iconst 2, 1) := by decide +kernel
theorem V.dX8_checkConstants_22 : decode cX8_checkConstants 22 = .ok (.iadd, 1) := by decide +kernel
theorem V.dX8_checkConstants_23 : decode cX8_checkConstants 23 = .ok (.invokevirtual 174, 3) := by decide +kernel
theorem V.dX8_checkConstants_26 : decode cX8_checkConstants 26 = .ok (.aload_n 1, 1) := by decide +kernel
theorem V.dX8_checkConstants_27 : decode cX8_checkConstants 27 = .ok (.iload_n 2, 1) := by decide +kernel
theorem V.dX8_checkConstants_28 : decode cX8_checkConstants 28 = .ok (.iconst 3, 1) := by decide +kernel
theorem V.dX8_checkConstants_29 : decode cX8_checkConstants 29 = .ok (.iadd, 1) := by decide +kernel
theorem V.dX8_checkConstants_30 : decode cX8_checkConstants 30 = .ok (.invokevirtual 174, 3) := by decide +kernel
theorem V.dX8_checkConstants_33 : decode cX8_checkConstants 33 = .ok (.aload_n 1, 1) := by decide +kernel
theorem V.dX8_checkConstants_34 : decode cX8_checkConstants 34 = .ok (.iload_n 2, 1) := by decide +kernel
theorem V.dX8_checkConstants_35 : decode cX8_checkConstants 35 = .ok (.invokevirtual 174, 3) := by decide +kernel
theorem V.dX8_checkConstants_38 : decode cX8_checkConstants 38 = .ok (.invokevirtual 283, 3) := by decide +kernel
theorem V.dX8_checkConstants_41 : decode cX8_checkConstants 41 = .ok (.iinc 2 4, 3) := by decide +kernel
theorem V.dX8_checkConstants_44 : decode cX8_checkConstants 44 = .ok (.goto (-34), 3) := by decide +kernel
theorem V.dX8_checkConstants_47 : decode cX8_checkConstants 47 = .ok (.aload_n 0, 1) := by decide +kernel
theorem V.dX8_checkConstants_48 : decode cX8_checkConstants 48 = .ok (.getfield 57, 3) := by decide +kernel
theorem V.dX8_checkConstants_51 : decode cX8_checkConstants 51 = .ok (.getfield 155, 3) := by decide +kernel
theorem V.dX8_checkConstants_54 : decode cX8_checkConstants 54 = .ok (.astore_n 2, 1) := by decide +kernel
theorem V.dX8_checkConstants_55 : decode cX8_checkConstants 55 = .ok (.iconst 0, 1) := by decide +kernel
theorem V.dX8_checkConstants_56 : decode cX8_checkConstants 56 = .ok (.istore_n 3, 1) := by decide +kernel
theorem V.dX8_checkConstants_57 : decode cX8_checkConstants 57 = .ok (.iload_n 3, 1) := by decide +kernel
theorem V.dX8_checkConstants_58 : decode cX8_checkConstants 58 = .ok (.aload_n 2, 1) := by decide +kernel
theorem V.dX8_checkConstants_59 : decode cX8_checkConstants 59 = .ok (.invokevirtual 100, 3) := by decide +kernel
theorem V.dX8_checkConstants_62 : decode cX8_checkConstants 62 = .ok (.if_icmp .ge 14, 3) := by decide +kernel
theorem V.dX8_checkConstants_65 : decode cX8_checkConstants 65 = .ok (.aload_n 0, 1) := by decide +kernel
theorem V.dX8_checkConstants_66 : decode cX8_checkConstants 66 = .ok (.iload_n 3, 1) := by decide +kernel
theorem V.dX8_checkConstants_67 : decode cX8_checkConstants 67 = .ok (.invokevirtual 287, 3) := by decide +kernel
theorem V.dX8_checkConstants_70 : decode cX8_checkConstants 70 = .ok (.iinc 3 8, 3) := by decide +kernel
theorem V.dX8_checkConstants_73 : decode cX8_checkConstants 73 = .ok (.goto (-16), 3) := by decide +kernel
theorem V.dX8_checkConstants_76 : decode cX8_checkConstants 76 = .ok (.aload_n 0, 1) := by decide +kernel
theorem V.dX8_checkConstants_77 : decode cX8_checkConstants 77 = .ok (.getfield 57, 3) := by decide +kernel
theorem V.dX8_checkConstants_80 : decode cX8_checkConstants 80 = .ok (.getfield 162, 3) := by decide +kernel
theorem V.dX8_checkConstants_83 : decode cX8_checkConstants 83 = .ok (.astore_n 3, 1) := by decide +kernel
theorem V.dX8_checkConstants_84 : decode cX8_checkConstants 84 = .ok (.iconst 0, 1) := by decide +kernel
theorem V.dX8_checkConstants_85 : decode cX8_checkConstants 85 = .ok (.istore 4, 2) := by decide +kernel
theorem V.dX8_checkConstants_87 : decode cX8_checkConstants 87 = .ok (.iload 4, 2) := by decide +kernel
theorem V.dX8_checkConstants_89 : decode cX8_checkConstants 89 = .ok (.aload_n 3, 1) := by decide +kernel
theorem V.dX8_checkConstants_90 : decode cX8_checkConstants 90 = .ok (.invokevirtual 100, 3) := by decide +kernel
theorem V.dX8_checkConstants_93 : decode cX8_checkConstants 93 = .ok (.if_icmp .ge 90, 3) := by decide +kernel
theorem V.dX8_checkConstants_96 : decode cX8_checkConstants 96 = .ok (.aload_n 0, 1) := by decide +kernel
theorem V.dX8_checkConstants_97 : decode cX8_checkConstants 97 = .ok (.aload_n 3, 1) := by decide +kernel
theorem V.dX8_checkConstants_98 : decode cX8_checkConstants 98 = .ok (.iload 4, 2) := by decide +kernel
theorem V.dX8_checkConstants_100 : decode cX8_checkConstants 100 = .ok (.invokevirtual 174, 3) := by decide +kernel
theorem V.dX8_checkConstants_103 : decode cX8_checkConstants 103 = .ok (.ifCond .eq 26, 3) := by decide +kernel
theorem V.dX8_checkConstants_106 : decode cX8_checkConstants 106 = .ok (.aload_n 3, 1) := by decide +kernel
theorem V.dX8_checkConstants_107 : decode cX8_checkConstants 107 = .ok (.iload 4, 2) := by decide +kernel
theorem V.dX8_checkConstants_109 : decode cX8_checkConstants 109 = .ok (.iconst 1, 1) := by decide +kernel
theorem V.dX8_checkConstants_110 : decode cX8_checkConstants 110 = .ok (.iadd, 1) := by decide +kernel
theorem V.dX8_checkConstants_111 : decode cX8_checkConstants 111 = .ok (.invokevirtual 174, 3) := by decide +kernel
theorem V.dX8_checkConstants_114 : decode cX8_checkConstants 114 = .ok (.invokestatic 176, 3) := by decide +kernel
theorem V.dX8_checkConstants_117 : decode cX8_checkConstants 117 = .ok (.aload_n 0, 1) := by decide +kernel
theorem V.dX8_checkConstants_118 : decode cX8_checkConstants 118 = .ok (.getfield 19, 3) := by decide +kernel
theorem V.dX8_checkConstants_121 : decode cX8_checkConstants 121 = .ok (.getfield 246, 3) := by decide +kernel
theorem V.dX8_checkConstants_124 : decode cX8_checkConstants 124 = .ok (.i2l, 1) := by decide +kernel
theorem V.dX8_checkConstants_125 : decode cX8_checkConstants 125 = .ok (.lcmp, 1) := by decide +kernel
theorem V.dX8_checkConstants_126 : decode cX8_checkConstants 126 = .ok (.ifCond .ge 7, 3) := by decide +kernel
theorem V.dX8_checkConstants_129 : decode cX8_checkConstants 129 = .ok (.iconst 1, 1) := by decide +kernel
theorem V.dX8_checkConstants_130 : decode cX8_checkConstants 130 = .ok (.goto 4, 3) := by decide +kernel
theorem V.dX8_checkConstants_133 : decode cX8_checkConstants 133 = .ok (.iconst 0, 1) := by decide +kernel
theorem V.dX8_checkConstants_134 : decode cX8_checkConstants 134 = .ok (.bipush 28, 2) := by decide +kernel
theorem V.dX8_checkConstants_136 : decode cX8_checkConstants 136 = .ok (.aload_n 0, 1) := by decide +kernel
theorem V.dX8_checkConstants_137 : decode cX8_checkConstants 137 = .ok (.bipush 11, 2) := by decide +kernel
theorem V.dX8_checkConstants_139 : decode cX8_checkConstants 139 = .ok (.invokevirtual 128, 3) := by decide +kernel
theorem V.dX8_checkConstants_142 : decode cX8_checkConstants 142 = .ok (.invokevirtual 132, 3) := by decide +kernel
theorem V.dX8_checkConstants_145 : decode cX8_checkConstants 145 = .ok (.aload_n 3, 1) := by decide +kernel
theorem V.dX8_checkConstants_146 : decode cX8_checkConstants 146 = .ok (.iload 4, 2) := by decide +kernel
theorem V.dX8_checkConstants_148 : decode cX8_checkConstants 148 = .ok (.invokevirtual 174, 3) := by decide +kernel
theorem V.dX8_checkConstants_151 : decode cX8_checkConstants 151 = .ok (.iconst 1, 1) := by decide +kernel
theorem V.dX8_checkConstants_152 : decode cX8_checkConstants 152 = .ok (.if_icmp .ne 25, 3) := by decide +kernel
theorem V.dX8_checkConstants_155 : decode cX8_checkConstants 155 = .ok (.aload_n 0, 1) := by decide +kernel
theorem V.dX8_checkConstants_156 : decode cX8_checkConstants 156 = .ok (.aload_n 3, 1) := by decide +kernel
theorem V.dX8_checkConstants_157 : decode cX8_checkConstants 157 = .ok (.iload 4, 2) := by decide +kernel
theorem V.dX8_checkConstants_159 : decode cX8_checkConstants 159 = .ok (.iconst 3, 1) := by decide +kernel
theorem V.dX8_checkConstants_160 : decode cX8_checkConstants 160 = .ok (.iadd, 1) := by decide +kernel
theorem V.dX8_checkConstants_161 : decode cX8_checkConstants 161 = .ok (.invokevirtual 174, 3) := by decide +kernel
theorem V.dX8_checkConstants_164 : decode cX8_checkConstants 164 = .ok (.aload_n 3, 1) := by decide +kernel
theorem V.dX8_checkConstants_165 : decode cX8_checkConstants 165 = .ok (.iload 4, 2) := by decide +kernel
theorem V.dX8_checkConstants_167 : decode cX8_checkConstants 167 = .ok (.iconst 4, 1) := by decide +kernel
theorem V.dX8_checkConstants_168 : decode cX8_checkConstants 168 = .ok (.iadd, 1) := by decide +kernel
theorem V.dX8_checkConstants_169 : decode cX8_checkConstants 169 = .ok (.invokevirtual 174, 3) := by decide +kernel
theorem V.dX8_checkConstants_172 : decode cX8_checkConstants 172 = .ok (.bipush 127, 2) := by decide +kernel
theorem V.dX8_checkConstants_174 : decode cX8_checkConstants 174 = .ok (.invokevirtual 283, 3) := by decide +kernel
theorem V.dX8_checkConstants_177 : decode cX8_checkConstants 177 = .ok (.iinc 4 6, 3) := by decide +kernel
theorem V.dX8_checkConstants_180 : decode cX8_checkConstants 180 = .ok (.goto (-93), 3) := by decide +kernel
theorem V.dX8_checkConstants_183 : decode cX8_checkConstants 183 = .ok (.return_, 1) := by decide +kernel
theorem V.mdX8_287 : MD RX8 287 yX8_checkElement cX8_checkElement 5 none 1 := ⟨Or.inl q1718, q368, q1721, by decide, by decide, by decide +kernel⟩
/-! ModuleEngine$Loader.checkConstants()V -/
def V.Ldr_checkConstants_p177 (rec87 : HS → Nat → Nat → Int32 → Option ((Nat ⊕ Unit) × HS)) (σ : HS) (x0 : Nat) (x3 : Nat) (x4 : Int32) : Option ((Nat ⊕ Unit) × HS) :=
  bn (x4 + (6 : Int32)) fun y1 =>
  rec87 σ x0 x3 y1
theorem V.gX8_checkConstants_p177 {X : CX} (rec87 : HS → Nat → Nat → Int32 → Option ((Nat ⊕ Unit) × HS)) (hrec87 : ∀ (σ : HS) (x0 : Nat) (x3 : Nat) (x4 : Int32), G X RX8 "checkConstants" cX8_checkConstants 5 none 10 179 (enX enV (cxz X)) 87 [(0, av x0), (3, av x3), (4, iv x4)] [] σ (rec87 σ x0 x3 x4)) (σ : HS) (x0 : Nat) (x3 : Nat) (x4 : Int32) : G X RX8 "checkConstants" cX8_checkConstants 5 none 10 179 (enX enV (cxz X)) 177 [(0, av x0), (3, av x3), (4, iv x4)] [] σ (Ldr_checkConstants_p177 rec87 σ x0 x3 x4) := by
  unfold Ldr_checkConstants_p177
  refine g_iincB (w := 6) 2 dX8_checkConstants_177 rfl (by decide) (by decide) (fun _ => rfl) (fun y1 => ?_)
  refine g_goto 87 dX8_checkConstants_180 (by decide) ?_
  refine G.sub [1, 2, 0] rfl ?_
  exact hrec87 _ _ _ _
def V.Ldr_checkConstants_p134 (rec87 : HS → Nat → Nat → Int32 → Option ((Nat ⊕ Unit) × HS)) (σ : HS) (x0 : Nat) (x3 : Nat) (x4 : Int32) (s0 : Int32) (s1 : Nat) : Option ((Nat ⊕ Unit) × HS) :=
  ck (tg σ x0 = 9) <| cl (Ldr_section σ x0 (11 : Int32)) fun r2 σ1 =>
  ck (tg σ1 s1 = 9) <| clT (Ldr_need σ1 s1 s0 (28 : Int32) r2) fun _ σ3 =>
  ck (tg σ3 x3 = 4) <| cl (Row_at σ3 x3 x4) fun r5 σ4 =>
  if r5 = (1 : Int32) then (
    ck (tg σ4 x3 = 4) <| cl (Row_at σ4 x3 (x4 + (3 : Int32))) fun r7 σ6 =>
    ck (tg σ6 x3 = 4) <| cl (Row_at σ6 x3 (x4 + (4 : Int32))) fun r9 σ8 =>
    ck (tg σ8 x0 = 9) <| clT (Ldr_checkConstant σ8 x0 r7 r9 (127 : Int32)) fun _ σ10 =>
    Ldr_checkConstants_p177 rec87 σ10 x0 x3 x4)
  else (
    Ldr_checkConstants_p177 rec87 σ4 x0 x3 x4)
theorem V.gX8_checkConstants_p134 {X : CX} (rec87 : HS → Nat → Nat → Int32 → Option ((Nat ⊕ Unit) × HS)) (hrec87 : ∀ (σ : HS) (x0 : Nat) (x3 : Nat) (x4 : Int32), G X RX8 "checkConstants" cX8_checkConstants 5 none 10 179 (enX enV (cxz X)) 87 [(0, av x0), (3, av x3), (4, iv x4)] [] σ (rec87 σ x0 x3 x4)) (σ : HS) (x0 : Nat) (x3 : Nat) (x4 : Int32) (s0 : Int32) (s1 : Nat) : G X RX8 "checkConstants" cX8_checkConstants 5 none 10 179 (enX enV (cxz X)) 134 [(0, av x0), (3, av x3), (4, iv x4)] [iv s0, av s1] σ (Ldr_checkConstants_p134 rec87 σ x0 x3 x4 s0 s1) := by
  unfold Ldr_checkConstants_p134
  refine g_bipush (v := 28) dX8_checkConstants_134 (by decide) ?_
  refine g_aload_n 0 0 dX8_checkConstants_136 rfl rfl ?_
  refine g_bipush (v := 11) dX8_checkConstants_137 (by decide) ?_
  refine g_callV (fc := fun sς => Ldr_section sς x0 (11 : Int32)) (ci := 8) (as := [iv (11 : Int32)]) rfl rfl rfl q1569 qs38 mdX8_128 (ctX8_section x0 (11 : Int32)) rfl (Nat.le_of_ble_eq_true rfl) (Nat.le_of_ble_eq_true rfl) (Nat.le_of_ble_eq_true rfl) pu_I dX8_checkConstants_139 (fun r2 σ1 => ?_)
  refine g_callVT (fc := fun sς => Ldr_need sς s1 s0 (28 : Int32) r2) (ci := 8) (as := [iv s0, iv (28 : Int32), iv r2]) rfl rfl rfl q1590 qs42 q1588 mdX8_132 (ctX8_need s1 s0 (28 : Int32) r2) rfl (Nat.le_of_ble_eq_true rfl) (Nat.le_of_ble_eq_true rfl) (Nat.le_of_ble_eq_true rfl) pu_V (by decide) dX8_checkConstants_142 (fun _ σ3 => ?_)
  refine g_aload_n 3 1 dX8_checkConstants_145 rfl rfl ?_
  refine g_iload 2 dX8_checkConstants_146 rfl ?_
  refine g_callV (fc := fun sς => Row_at sς x3 x4) (ci := 3) (as := [iv x4]) rfl rfl rfl q1409 q1410 mdX8_174 (ctX3_at x3 x4) rfl (Nat.le_of_ble_eq_true rfl) (Nat.le_of_ble_eq_true rfl) (Nat.le_of_ble_eq_true rfl) pu_I dX8_checkConstants_148 (fun r5 σ4 => ?_)
  refine g_iconst (v := 1) dX8_checkConstants_151 (by decide) ?_
  refine g_icmp_ne 177 dX8_checkConstants_152 (by decide) ?_ ?_
  · exact gX8_checkConstants_p177 rec87 hrec87 _ _ _ _
  · refine g_aload_n 0 0 dX8_checkConstants_155 rfl rfl ?_
    refine g_aload_n 3 1 dX8_checkConstants_156 rfl rfl ?_
    refine g_iload 2 dX8_checkConstants_157 rfl ?_
    refine g_iconst (v := 3) dX8_checkConstants_159 (by decide) ?_
    refine g_iadd dX8_checkConstants_160 ?_
    refine g_callV (fc := fun sς => Row_at sς x3 (x4 + (3 : Int32))) (ci := 3) (as := [iv (x4 + (3 : Int32))]) rfl rfl rfl q1409 q1410 mdX8_174 (ctX3_at x3 (x4 + (3 : Int32))) rfl (Nat.le_of_ble_eq_true rfl) (Nat.le_of_ble_eq_true rfl) (Nat.le_of_ble_eq_true rfl) pu_I dX8_checkConstants_161 (fun r7 σ6 => ?_)
    refine g_aload_n 3 1 dX8_checkConstants_164 rfl rfl ?_
    refine g_iload 2 dX8_checkConstants_165 rfl ?_
    refine g_iconst (v := 4) dX8_checkConstants_167 (by decide) ?_
    refine g_iadd dX8_checkConstants_168 ?_
    refine g_callV (fc := fun sς => Row_at sς x3 (x4 + (4 : Int32))) (ci := 3) (as := [iv (x4 + (4 : Int32))]) rfl rfl rfl q1409 q1410 mdX8_174 (ctX3_at x3 (x4 + (4 : Int32))) rfl (Nat.le_of_ble_eq_true rfl) (Nat.le_of_ble_eq_true rfl) (Nat.le_of_ble_eq_true rfl) pu_I dX8_checkConstants_169 (fun r9 σ8 => ?_)
    refine g_bipush (v := 127) dX8_checkConstants_172 (by decide) ?_
    refine g_callVT (fc := fun sς => Ldr_checkConstant sς x0 r7 r9 (127 : Int32)) (ci := 8) (as := [iv r7, iv r9, iv (127 : Int32)]) rfl rfl rfl q1708 qs65 q1706 mdX8_283 (ctX8_checkConstant x0 r7 r9 (127 : Int32)) rfl (Nat.le_of_ble_eq_true rfl) (Nat.le_of_ble_eq_true rfl) (Nat.le_of_ble_eq_true rfl) pu_V (by decide) dX8_checkConstants_174 (fun _ σ10 => ?_)
    exact gX8_checkConstants_p177 rec87 hrec87 _ _ _ _
def V.Ldr_checkConstants_p129 (rec87 : HS → Nat → Nat → Int32 → Option ((Nat ⊕ Unit) × HS)) (σ : HS) (x0 : Nat) (x3 : Nat) (x4 : Int32) (s0 : Nat) : Option ((Nat ⊕ Unit) × HS) :=
  Ldr_checkConstants_p134 rec87 σ x0 x3 x4 (1 : Int32) s0
theorem V.gX8_checkConstants_p129 {X : CX} (rec87 : HS → Nat → Nat → Int32 → Option ((Nat ⊕ Unit) × HS)) (hrec87 : ∀ (σ : HS) (x0 : Nat) (x3 : Nat) (x4 : Int32), G X RX8 "checkConstants" cX8_checkConstants 5 none 10 179 (enX enV (cxz X)) 87 [(0, av x0), (3, av x3), (4, iv x4)] [] σ (rec87 σ x0 x3 x4)) (σ : HS) (x0 : Nat) (x3 : Nat) (x4 : Int32) (s0 : Nat) : G X RX8 "checkConstants" cX8_checkConstants 5 none 10 179 (enX enV (cxz X)) 129 [(0, av x0), (3, av x3), (4, iv x4)] [av s0] σ (Ldr_checkConstants_p129 rec87 σ x0 x3 x4 s0) := by
  unfold Ldr_checkConstants_p129
  refine g_iconst (v := 1) dX8_checkConstants_129 (by decide) ?_
  refine g_goto 134 dX8_checkConstants_130 (by decide) ?_
  exact gX8_checkConstants_p134 rec87 hrec87 _ _ _ _ _ _
def V.Ldr_checkConstants_p87  : Nat → HS → Nat → Nat → Int32 → Option ((Nat ⊕ Unit) × HS)
  | 0, _, _, _, _ => none
  | n + 1, σ, x0, x3, x4 =>
    ck (tg σ x3 = 4) <| cl (Row_size σ x3 ) fun r2 σ1 =>
    if r2 ≤ x4 then (
      some (.inr (), σ1))
    else (
      ck (tg σ1 x3 = 4) <| cl (Row_at σ1 x3 x4) fun r4 σ3 =>
      if r4 = 0 then (
        Ldr_checkConstants_p129 (Ldr_checkConstants_p87 n) σ3 x0 x3 x4 x0)
      else (
        ck (tg σ3 x3 = 4) <| cl (Row_at σ3 x3 (x4 + (1 : Int32))) fun r6 σ5 =>
        cl (Mod_wide σ5 r6) fun r8 σ7 =>
        ck (tg σ7 x0 = 9) <|
        ck (tg σ7 (gR σ7 x0 4) = 11) <|
        if ((gI σ7 (gR σ7 x0 4) 6).toInt64) ≤ r8 then (
          Ldr_checkConstants_p134 (Ldr_checkConstants_p87 n) σ7 x0 x3 x4 (0 : Int32) x0)
        else (
          Ldr_checkConstants_p129 (Ldr_checkConstants_p87 n) σ7 x0 x3 x4 x0)))
theorem V.gX8_checkConstants_p87 {X : CX}  : ∀ (n : Nat) (σ : HS) (x0 : Nat) (x3 : Nat) (x4 : Int32), G X RX8 "checkConstants" cX8_checkConstants 5 none 10 179 (enX enV (cxz X)) 87 [(0, av x0), (3, av x3), (4, iv x4)] [] σ (Ldr_checkConstants_p87 n σ x0 x3 x4)
  | 0, σ, x0, x3, x4 => by rw [Ldr_checkConstants_p87]; exact G.nul
  | n + 1, σ, x0, x3, x4 => by
    rw [Ldr_checkConstants_p87]
    refine g_iload 2 dX8_checkConstants_87 rfl ?_
    refine g_aload_n 3 1 dX8_checkConstants_89 rfl rfl ?_
    refine g_callV (fc := fun sς => Row_size sς x3 ) (ci := 3) (as := []) rfl rfl rfl q1421 q1422 mdX8_100 (ctX3_size x3 ) rfl (Nat.le_of_ble_eq_true rfl) (Nat.le_of_ble_eq_true rfl) (Nat.le_of_ble_eq_true rfl) pu_I dX8_checkConstants_90 (fun r2 σ1 => ?_)
    refine g_icmp_ge 183 dX8_checkConstants_93 (by decide) ?_ ?_
    · exact g_return rfl dX8_checkConstants_183
    · refine g_aload_n 0 0 dX8_checkConstants_96 rfl rfl ?_
      refine g_aload_n 3 1 dX8_checkConstants_97 rfl rfl ?_
      refine g_iload 2 dX8_checkConstants_98 rfl ?_
      refine g_callV (fc := fun sς => Row_at sς x3 x4) (ci := 3) (as := [iv x4]) rfl rfl rfl q1409 q1410 mdX8_174 (ctX3_at x3 x4) rfl (Nat.le_of_ble_eq_true rfl) (Nat.le_of_ble_eq_true rfl) (Nat.le_of_ble_eq_true rfl) pu_I dX8_checkConstants_100 (fun r4 σ3 => ?_)
      refine g_if_eq 129 dX8_checkConstants_103 (by decide) ?_ ?_
      · exact gX8_checkConstants_p129 (Ldr_checkConstants_p87 n) (gX8_checkConstants_p87 n) _ _ _ _ _
      · refine g_aload_n 3 1 dX8_checkConstants_106 rfl rfl ?_
        refine g_iload 2 dX8_checkConstants_107 rfl ?_
        refine g_iconst (v := 1) dX8_checkConstants_109 (by decide) ?_
        refine g_iadd dX8_checkConstants_110 ?_
        refine g_callV (fc := fun sς => Row_at sς x3 (x4 + (1 : Int32))) (ci := 3) (as := [iv (x4 + (1 : Int32))]) rfl rfl rfl q1409 q1410 mdX8_174 (ctX3_at x3 (x4 + (1 : Int32))) rfl (Nat.le_of_ble_eq_true rfl) (Nat.le_of_ble_eq_true rfl) (Nat.le_of_ble_eq_true rfl) pu_I dX8_checkConstants_111 (fun r6 σ5 => ?_)
        refine g_callS (fc := fun sς => Mod_wide sς r6) (as := [iv r6]) q1376 mdX8_176 (ctX2_wide r6) rfl (Nat.le_of_ble_eq_true rfl) (Nat.le_of_ble_eq_true rfl) (Nat.le_of_ble_eq_true rfl) pu_J dX8_checkConstants_114 (fun r8 σ7 => ?_)
        refine g_aload_n 0 0 dX8_checkConstants_117 rfl rfl ?_
        refine g_getR fdX8_19 dX8_checkConstants_118 ?_
        refine g_getI fdX8_246 dX8_checkConstants_121 ?_
        refine g_i2l dX8_checkConstants_124 ?_
        refine g_lcmp_ge 133 dX8_checkConstants_125 dX8_checkConstants_126 (by decide) ?_ ?_
        · refine g_iconst (v := 0) dX8_checkConstants_133 (by decide) ?_
          exact gX8_checkConstants_p134 (Ldr_checkConstants_p87 n) (gX8_checkConstants_p87 n) _ _ _ _ _ _
        · exact gX8_checkConstants_p129 (Ldr_checkConstants_p87 n) (gX8_checkConstants_p87 n) _ _ _ _ _
def V.Ldr_checkConstants_p57  : Nat → HS → Nat → Nat → Int32 → Option ((Nat ⊕ Unit) × HS)
  | 0, _, _, _, _ => none
  | n + 1, σ, x0, x2, x3 =>
    ck (tg σ x2 = 4) <| cl (Row_size σ x2 ) fun r2 σ1 =>
    if r2 ≤ x3 then (
      ck (tg σ1 x0 = 9) <|
      ck (tg σ1 (gR σ1 x0 7) = 3) <|
      bn (gR σ1 (gR σ1 x0 7) 13) fun y3 =>
      Ldr_checkConstants_p87 FU σ1 x0 y3 (0 : Int32))
    else (
      ck (tg σ1 x0 = 9) <| clT (Ldr_checkElement σ1 x0 x3) fun _ σ4 =>
      bn (x3 + (8 : Int32)) fun y5 =>
      Ldr_checkConstants_p57 n σ4 x0 x2 y5)
theorem V.gX8_checkConstants_p57 {X : CX}  : ∀ (n : Nat) (σ : HS) (x0 : Nat) (x2 : Nat) (x3 : Int32), G X RX8 "checkConstants" cX8_checkConstants 5 none 10 179 (enX enV (cxz X)) 57 [(0, av x0), (2, av x2), (3, iv x3)] [] σ (Ldr_checkConstants_p57 n σ x0 x2 x3)
  | 0, σ, x0, x2, x3 => by rw [Ldr_checkConstants_p57]; exact G.nul
  | n + 1, σ, x0, x2, x3 => by
    rw [Ldr_checkConstants_p57]
    refine g_iload_n 3 2 dX8_checkConstants_57 rfl rfl ?_
    refine g_aload_n 2 1 dX8_checkConstants_58 rfl rfl ?_
    refine g_callV (fc := fun sς => Row_size sς x2 ) (ci := 3) (as := []) rfl rfl rfl q1421 q1422 mdX8_100 (ctX3_size x2 ) rfl (Nat.le_of_ble_eq_true rfl) (Nat.le_of_ble_eq_true rfl) (Nat.le_of_ble_eq_true rfl) pu_I dX8_checkConstants_59 (fun r2 σ1 => ?_)
    refine g_icmp_ge 76 dX8_checkConstants_62 (by decide) ?_ ?_
    · refine g_aload_n 0 0 dX8_checkConstants_76 rfl rfl ?_
      refine g_getR fdX8_57 dX8_checkConstants_77 ?_
      refine g_getR fdX8_162 dX8_checkConstants_80 ?_
      refine g_nmA (fun y3 => ?_)
      refine g_astore_n 3 dX8_checkConstants_83 rfl (by decide) rfl ?_
      refine g_iconst (v := 0) dX8_checkConstants_84 (by decide) ?_
      refine g_istore dX8_checkConstants_85 (by decide) rfl ?_
      refine G.sub [2, 1, 0] rfl ?_
      exact gX8_checkConstants_p87 FU _ _ _ _
    · refine g_aload_n 0 0 dX8_checkConstants_65 rfl rfl ?_
      refine g_iload_n 3 2 dX8_checkConstants_66 rfl rfl ?_
      refine g_callVT (fc := fun sς => Ldr_checkElement sς x0 x3) (ci := 8) (as := [iv x3]) rfl rfl rfl q1720 qs68 q1718 mdX8_287 (ctX8_checkElement x0 x3) rfl (Nat.le_of_ble_eq_true rfl) (Nat.le_of_ble_eq_true rfl) (Nat.le_of_ble_eq_true rfl) pu_V (by decide) dX8_checkConstants_67 (fun _ σ4 => ?_)
      refine g_iincB (w := 8) 2 dX8_checkConstants_70 rfl (by decide) (by decide) (fun _ => rfl) (fun y5 => ?_)
      refine g_goto 57 dX8_checkConstants_73 (by decide) ?_
      refine G.sub [1, 2, 0] rfl ?_
      exact gX8_checkConstants_p57 n _ _ _ _
def V.Ldr_checkConstants_p10  : Nat → HS → Nat → Nat → Int32 → Option ((Nat ⊕ Unit) × HS)
  | 0, _, _, _, _ => none
  | n + 1, σ, x0, x1, x2 =>
    ck (tg σ x1 = 4) <| cl (Row_size σ x1 ) fun r2 σ1 =>
    if r2 ≤ x2 then (
      ck (tg σ1 x0 = 9) <|
      ck (tg σ1 (gR σ1 x0 7) = 3) <|
      bn (gR σ1 (gR σ1 x0 7) 9) fun y3 =>
      Ldr_checkConstants_p57 FU σ1 x0 y3 (0 : Int32))
    else (
      ck (tg σ1 x1 = 4) <| cl (Row_at σ1 x1 (x2 + (2 : Int32))) fun r5 σ4 =>
      ck (tg σ4 x1 = 4) <| cl (Row_at σ4 x1 (x2 + (3 : Int32))) fun r7 σ6 =>
      ck (tg σ6 x1 = 4) <| cl (Row_at σ6 x1 x2) fun r9 σ8 =>
      ck (tg σ8 x0 = 9) <| clT (Ldr_checkConstant σ8 x0 r5 r7 r9) fun _ σ10 =>
      bn (x2 + (4 : Int32)) fun y11 =>
      Ldr_checkConstants_p10 n σ10 x0 x1 y11)
theorem V.gX8_checkConstants_p10 {X : CX}  : ∀ (n : Nat) (σ : HS) (x0 : Nat) (x1 : Nat) (x2 : Int32), G X RX8 "checkConstants" cX8_checkConstants 5 none 10 179 (enX enV (cxz X)) 10 [(0, av x0), (1, av x1), (2, iv x2)] [] σ (Ldr_checkConstants_p10 n σ x0 x1 x2)
  | 0, σ, x0, x1, x2 => by rw [Ldr_checkConstants_p10]; exact G.nul
  | n + 1, σ, x0, x1, x2 => by
    rw [Ldr_checkConstants_p10]
    refine g_iload_n 2 2 dX8_checkConstants_10 rfl rfl ?_
    refine g_aload_n 1 1 dX8_checkConstants_11 rfl rfl ?_
    refine g_callV (fc := fun sς => Row_size sς x1 ) (ci := 3) (as := []) rfl rfl rfl q1421 q1422 mdX8_100 (ctX3_size x1 ) rfl (Nat.le_of_ble_eq_true rfl) (Nat.le_of_ble_eq_true rfl) (Nat.le_of_ble_eq_true rfl) pu_I dX8_checkConstants_12 (fun r2 σ1 => ?_)
    refine g_icmp_ge 47 dX8_checkConstants_15 (by decide) ?_ ?_
    · refine g_aload_n 0 0 dX8_checkConstants_47 rfl rfl ?_
      refine g_getR fdX8_57 dX8_checkConstants_48 ?_
      refine g_getR fdX8_155 dX8_checkConstants_51 ?_
      refine g_nmA (fun y3 => ?_)
      refine g_astore_n 2 dX8_checkConstants_54 rfl (by decide) rfl ?_
      refine g_iconst (v := 0) dX8_checkConstants_55 (by decide) ?_
      refine g_istore_n 3 dX8_checkConstants_56 rfl (by decide) rfl ?_
      refine G.sub [2, 1, 0] rfl ?_
      exact gX8_checkConstants_p57 FU _ _ _ _
    · refine g_aload_n 0 0 dX8_checkConstants_18 rfl rfl ?_
      refine g_aload_n 1 1 dX8_checkConstants_19 rfl rfl ?_
      refine g_iload_n 2 2 dX8_checkConstants_20 rfl rfl ?_
      refine g_iconst (v := 2) dX8_checkConstants_21 (by decide) ?_
      refine g_iadd dX8_checkConstants_22 ?_
      refine g_callV (fc := fun sς => Row_at sς x1 (x2 + (2 : Int32))) (ci := 3) (as := [iv (x2 + (2 : Int32))]) rfl rfl rfl q1409 q1410 mdX8_174 (ctX3_at x1 (x2 + (2 : Int32))) rfl (Nat.le_of_ble_eq_true rfl) (Nat.le_of_ble_eq_true rfl) (Nat.le_of_ble_eq_true rfl) pu_I dX8_checkConstants_23 (fun r5 σ4 => ?_)
      refine g_aload_n 1 1 dX8_checkConstants_26 rfl rfl ?_
      refine g_iload_n 2 2 dX8_checkConstants_27 rfl rfl ?_
      refine g_iconst (v := 3) dX8_checkConstants_28 (by decide) ?_
      refine g_iadd dX8_checkConstants_29 ?_
      refine g_callV (fc := fun sς => Row_at sς x1 (x2 + (3 : Int32))) (ci := 3) (as := [iv (x2 + (3 : Int32))]) rfl rfl rfl q1409 q1410 mdX8_174 (ctX3_at x1 (x2 + (3 : Int32))) rfl (Nat.le_of_ble_eq_true rfl) (Nat.le_of_ble_eq_true rfl) (Nat.le_of_ble_eq_true rfl) pu_I dX8_checkConstants_30 (fun r7 σ6 => ?_)
      refine g_aload_n 1 1 dX8_checkConstants_33 rfl rfl ?_
      refine g_iload_n 2 2 dX8_checkConstants_34 rfl rfl ?_
      refine g_callV (fc := fun sς => Row_at sς x1 x2) (ci := 3) (as := [iv x2]) rfl rfl rfl q1409 q1410 mdX8_174 (ctX3_at x1 x2) rfl (Nat.le_of_ble_eq_true rfl) (Nat.le_of_ble_eq_true rfl) (Nat.le_of_ble_eq_true rfl) pu_I dX8_checkConstants_35 (fun r9 σ8 => ?_)
      refine g_callVT (fc := fun sς => Ldr_checkConstant sς x0 r5 r7 r9) (ci := 8) (as := [iv r5, iv r7, iv r9]) rfl rfl rfl q1708 qs65 q1706 mdX8_283 (ctX8_checkConstant x0 r5 r7 r9) rfl (Nat.le_of_ble_eq_true rfl) (Nat.le_of_ble_eq_true rfl) (Nat.le_of_ble_eq_true rfl) pu_V (by decide) dX8_checkConstants_38 (fun _ σ10 => ?_)
      refine g_iincB (w := 4) 2 dX8_checkConstants_41 rfl (by decide) (by decide) (fun _ => rfl) (fun y11 => ?_)
      refine g_goto 10 dX8_checkConstants_44 (by decide) ?_
      refine G.sub [1, 2, 0] rfl ?_
      exact gX8_checkConstants_p10 n _ _ _ _
def V.Ldr_checkConstants (σ : HS) (x0 : Nat) : Option ((Nat ⊕ Unit) × HS) :=
  ck (tg σ x0 = 9) <|
  ck (tg σ (gR σ x0 7) = 3) <|
  bn (gR σ (gR σ x0 7) 7) fun y1 =>
  Ldr_checkConstants_p10 FU σ x0 y1 (0 : Int32)
theorem V.ctX8_checkConstants (x0 : Nat) : Ct yX8_checkConstants  cX8_checkConstants 5 none 10 179 eXV [av x0] (fun σ => Ldr_checkConstants σ x0) := by
  refine Ct.of (own := RX8) (nm := "checkConstants") (desc := "()V") rfl (by decide) (Nat.le_of_ble_eq_true rfl) (by decide) (fun X σ => ?_)
  show G X RX8 "checkConstants" cX8_checkConstants 5 none 10 179 (enX enV (cxz X)) 0 [(0, av x0)] [] σ (Ldr_checkConstants σ x0)
  unfold Ldr_checkConstants
  refine g_aload_n 0 0 dX8_checkConstants_0 rfl rfl ?_
  refine g_getR fdX8_57 dX8_checkConstants_1 ?_
  refine g_getR fdX8_149 dX8_checkConstants_4 ?_
  refine g_nmA (fun y1 => ?_)
  refine g_astore_n 1 dX8_checkConstants_7 rfl (by decide) rfl ?_
  refine g_iconst (v := 0) dX8_checkConstants_8 (by decide) ?_
  refine g_istore_n 2 dX8_checkConstants_9 rfl (by decide) rfl ?_
  refine G.sub [2, 1, 0] rfl ?_
  exact gX8_checkConstants_p10 FU _ _ _ _
theorem V.dX8_beginBody_0 : decode cX8_beginBody 0 = .ok (.aload_n 0, 1) := by decide +kernel
theorem V.dX8_beginBody_1 : decode cX8_beginBody 1 = .ok (.getfield 28, 3) := by decide +kernel
theorem V.dX8_beginBody_4 : decode cX8_beginBody 4 = .ok (.aload_n 0, 1) := by decide +kernel
theorem V.dX8_beginBody_5 : decode cX8_beginBody 5 = .ok (.getfield 57, 3) := by decide +kernel
theorem V.dX8_beginBody_8 : decode cX8_beginBody 8 = .ok (.getfield 96, 3) := by decide +kernel
theorem V.dX8_beginBody_11 : decode cX8_beginBody 11 = .ok (.iload_n 1, 1) := by decide +kernel
theorem V.dX8_beginBody_12 : decode cX8_beginBody 12 = .ok (.invokevirtual 174, 3) := by decide +kernel
theorem V.dX8_beginBody_15 : decode cX8_beginBody 15 = .ok (.invokevirtual 290, 3) := by decide +kernel
theorem V.dX8_beginBody_18 : decode cX8_beginBody 18 = .ok (.iconst 5, 1) := by decide +kernel
theorem V.dX8_beginBody_19 : decode cX8_beginBody 19 = .ok (.iload_n 1, 1) := by decide +kernel
theorem V.dX8_beginBody_20 : decode cX8_beginBody 20 = .ok (.imul, 1) := by decide +kernel
theorem V.dX8_beginBody_21 : decode cX8_beginBody 21 = .ok (.istore_n 2, 1) := by decide +kernel
theorem V.dX8_beginBody_22 : decode cX8_beginBody 22 = .ok (.aload_n 0, 1) := by decide +kernel
theorem V.dX8_beginBody_23 : decode cX8_beginBody 23 = .ok (.getfield 57, 3) := by decide +kernel
theorem V.dX8_beginBody_26 : decode cX8_beginBody 26 = .ok (.getfield 171, 3) := by decide +kernel
theorem V.dX8_beginBody_29 : decode cX8_beginBody 29 = .ok (.iload_n 2, 1) := by decide +kernel
theorem V.dX8_beginBody_30 : decode cX8_beginBody 30 = .ok (.iconst 1, 1) := by decide +kernel
theorem V.dX8_beginBody_31 : decode cX8_beginBody 31 = .ok (.iadd, 1) := by decide +kernel
theorem V.dX8_beginBody_32 : decode cX8_beginBody 32 = .ok (.invokevirtual 174, 3) := by decide +kernel
theorem V.dX8_beginBody_35 : decode cX8_beginBody 35 = .ok (.istore_n 3, 1) := by decide +kernel
theorem V.dX8_beginBody_36 : decode cX8_beginBody 36 = .ok (.iconst 0, 1) := by decide +kernel
theorem V.dX8_beginBody_37 : decode cX8_beginBody 37 = .ok (.istore 4, 2) := by decide +kernel
theorem V.dX8_beginBody_39 : decode cX8_beginBody 39 = .ok (.iload 4, 2) := by decide +kernel
theorem V.dX8_beginBody_41 : decode cX8_beginBody 41 = .ok (.aload_n 0, 1) := by decide +kernel
theorem V.dX8_beginBody_42 : decode cX8_beginBody 42 = .ok (.getfield 57, 3) := by decide +kernel
theorem V.dX8_beginBody_45 : decode cX8_beginBody 45 = .ok (.getfield 171, 3) := by decide +kernel
theorem V.dX8_beginBody_48 : decode cX8_beginBody 48 = .ok (.iload_n 2, 1) := by decide +kernel
theorem V.dX8_beginBody_49 : decode cX8_beginBody 49 = .ok (.invokevirtual 174, 3) := by decide +kernel
theorem V.dX8_beginBody_52 : decode cX8_beginBody 52 = .ok (.if_icmp .ge 50, 3) := by decide +kernel
theorem V.dX8_beginBody_55 : decode cX8_beginBody 55 = .ok (.aload_n 0, 1) := by decide +kernel
theorem V.dX8_beginBody_56 : decode cX8_beginBody 56 = .ok (.getfield 28, 3) := by decide +kernel
theorem V.dX8_beginBody_59 : decode cX8_beginBody 59 = .ok (.aload_n 0, 1) := by decide +kernel
theorem V.dX8_beginBody_60 : decode cX8_beginBody 60 = .ok (.getfield 57, 3) := by decide +kernel
theorem V.dX8_beginBody_63 : decode cX8_beginBody 63 = .ok (.getfield 293, 3) := by decide +kernel
theorem V.dX8_beginBody_66 : decode cX8_beginBody 66 = .ok (.iload_n 3, 1) := by decide +kernel
theorem V.dX8_beginBody_67 : decode cX8_beginBody 67 = .ok (.iconst 2, 1) := by decide +kernel
theorem V.dX8_beginBody_68 : decode cX8_beginBody 68 = .ok (.iload 4, 2) := by decide +kernel
theorem V.dX8_beginBody_70 : decode cX8_beginBody 70 = .ok (.imul, 1) := by decide +kernel
theorem V.dX8_beginBody_71 : decode cX8_beginBody 71 = .ok (.iadd, 1) := by decide +kernel
theorem V.dX8_beginBody_72 : decode cX8_beginBody 72 = .ok (.iconst 1, 1) := by decide +kernel
theorem V.dX8_beginBody_73 : decode cX8_beginBody 73 = .ok (.iadd, 1) := by decide +kernel
theorem V.dX8_beginBody_74 : decode cX8_beginBody 74 = .ok (.invokevirtual 174, 3) := by decide +kernel
theorem V.dX8_beginBody_77 : decode cX8_beginBody 77 = .ok (.aload_n 0, 1) := by decide +kernel
theorem V.dX8_beginBody_78 : decode cX8_beginBody 78 = .ok (.getfield 57, 3) := by decide +kernel
theorem V.dX8_beginBody_81 : decode cX8_beginBody 81 = .ok (.getfield 293, 3) := by decide +kernel
theorem V.dX8_beginBody_84 : decode cX8_beginBody 84 = .ok (.iload_n 3, 1) := by decide +kernel
theorem V.dX8_beginBody_85 : decode cX8_beginBody 85 = .ok (.iconst 2, 1) := by decide +kernel
theorem V.dX8_beginBody_86 : decode cX8_beginBody 86 = .ok (.iload 4, 2) := by decide +kernel
theorem V.dX8_beginBody_88 : decode cX8_beginBody 88 = .ok (.imul, 1) := by decide +kernel
theorem V.dX8_beginBody_89 : decode cX8_beginBody 89 = .ok (.iadd, 1) := by decide +kernel
theorem V.dX8_beginBody_90 : decode cX8_beginBody 90 = .ok (.invokevirtual 174, 3) := by decide +kernel
theorem V.dX8_beginBody_93 : decode cX8_beginBody 93 = .ok (.invokevirtual 296, 3) := by decide +kernel
theorem V.dX8_beginBody_96 : decode cX8_beginBody 96 = .ok (.iinc 4 1, 3) := by decide +kernel
theorem V.dX8_beginBody_99 : decode cX8_beginBody 99 = .ok (.goto (-60), 3) := by decide +kernel
theorem V.dX8_beginBody_102 : decode cX8_beginBody 102 = .ok (.aload_n 0, 1) := by decide +kernel
theorem V.dX8_beginBody_103 : decode cX8_beginBody 103 = .ok (.getfield 35, 3) := by decide +kernel
theorem V.dX8_beginBody_106 : decode cX8_beginBody 106 = .ok (.aload_n 0, 1) := by decide +kernel
theorem V.dX8_beginBody_107 : decode cX8_beginBody 107 = .ok (.getfield 57, 3) := by decide +kernel
theorem V.dX8_beginBody_110 : decode cX8_beginBody 110 = .ok (.getfield 171, 3) := by decide +kernel
theorem V.dX8_beginBody_113 : decode cX8_beginBody 113 = .ok (.iload_n 2, 1) := by decide +kernel
theorem V.dX8_beginBody_114 : decode cX8_beginBody 114 = .ok (.iconst 3, 1) := by decide +kernel
theorem V.dX8_beginBody_115 : decode cX8_beginBody 115 = .ok (.iadd, 1) := by decide +kernel
theorem V.dX8_beginBody_116 : decode cX8_beginBody 116 = .ok (.invokevirtual 174, 3) := by decide +kernel
theorem V.dX8_beginBody_119 : decode cX8_beginBody 119 = .ok (.invokevirtual 112, 3) := by decide +kernel
theorem V.dX8_beginBody_122 : decode cX8_beginBody 122 = .ok (.return_, 1) := by decide +kernel
theorem V.fdX8_28 : FD RX8 28 8 5 2 := ⟨(RX8, TX8, 9), tyX8, rfl, rfl, in_X8, by decide, Or.inl q919, rfl⟩
theorem V.mdX8_290 : MD RX8 290 yX11_beginBody cX11_beginBody 3 none 1 := ⟨Or.inl q1730, q371, q1733, by decide, by decide, by decide +kernel⟩
theorem V.fdX8_293 : FD RX8 293 2 12 2 := ⟨(RX2, TX2, 21), tyX2, rfl, rfl, in_X2, by decide, Or.inr ⟨_, q470⟩, rfl⟩
theorem V.mdX8_296 : MD RX8 296 yX11_addLocals cX11_addLocals 3 none 2 := ⟨Or.inl q1783, q371, q1782, by decide, by decide, by decide +kernel⟩
/-! ModuleEngine$Loader.beginBody(I)V -/
def V.Ldr_beginBody_p39  : Nat → HS → Nat → Int32 → Int32 → Int32 → Option ((Nat ⊕ Unit) × HS)
  | 0, _, _, _, _, _ => none
  | n + 1, σ, x0, x2, x3, x4 =>
    ck (tg σ x0 = 9) <|
    ck (tg σ (gR σ x0 7) = 3) <|
    ck (tg σ (gR σ (gR σ x0 7) 11) = 4) <| cl (Row_at σ (gR σ (gR σ x0 7) 11) x2) fun r2 σ1 =>
    if r2 ≤ x4 then (
      ck (tg σ1 x0 = 9) <|
      ck (tg σ1 x0 = 9) <|
      ck (tg σ1 (gR σ1 x0 7) = 3) <|
      ck (tg σ1 (gR σ1 (gR σ1 x0 7) 11) = 4) <| cl (Row_at σ1 (gR σ1 (gR σ1 x0 7) 11) (x2 + (3 : Int32))) fun r4 σ3 =>
      ck (tg σ3 (gR σ1 x0 6) = 13) <| cl (Wlk_go σ3 (gR σ1 x0 6) r4) fun _ σ5 =>
      some (.inr (), σ5))
    else (
      ck (tg σ1 x0 = 9) <|
      ck (tg σ1 x0 = 9) <|
      ck (tg σ1 (gR σ1 x0 7) = 3) <|
      ck (tg σ1 (gR σ1 (gR σ1 x0 7) 12) = 4) <| cl (Row_at σ1 (gR σ1 (gR σ1 x0 7) 12) ((x3 + ((2 : Int32) * x4)) + (1 : Int32))) fun r7 σ6 =>
      ck (tg σ6 x0 = 9) <|
      ck (tg σ6 (gR σ6 x0 7) = 3) <|
      ck (tg σ6 (gR σ6 (gR σ6 x0 7) 12) = 4) <| cl (Row_at σ6 (gR σ6 (gR σ6 x0 7) 12) (x3 + ((2 : Int32) * x4))) fun r9 σ8 =>
      ck (tg σ8 (gR σ1 x0 5) = 12) <| cl (Chk_addLocals σ8 (gR σ1 x0 5) r7 r9) fun _ σ10 =>
      bn (x4 + (1 : Int32)) fun y11 =>
      Ldr_beginBody_p39 n σ10 x0 x2 x3 y11)
theorem V.gX8_beginBody_p39 {X : CX}  : ∀ (n : Nat) (σ : HS) (x0 : Nat) (x2 : Int32) (x3 : Int32) (x4 : Int32), G X RX8 "beginBody" cX8_beginBody 5 none 11 193 (enX enV (cxz X)) 39 [(0, av x0), (2, iv x2), (3, iv x3), (4, iv x4)] [] σ (Ldr_beginBody_p39 n σ x0 x2 x3 x4)
  | 0, σ, x0, x2, x3, x4 => by rw [Ldr_beginBody_p39]; exact G.nul
  | n + 1, σ, x0, x2, x3, x4 => by
    rw [Ldr_beginBody_p39]
    refine g_iload 3 dX8_beginBody_39 rfl ?_
    refine g_aload_n 0 0 dX8_beginBody_41 rfl rfl ?_
    refine g_getR fdX8_57 dX8_beginBody_42 ?_
    refine g_getR fdX8_171 dX8_beginBody_45 ?_
    refine g_iload_n 2 1 dX8_beginBody_48 rfl rfl ?_
    refine g_callV (fc := fun sς => Row_at sς (gR σ (gR σ x0 7) 11) x2) (ci := 3) (as := [iv x2]) rfl rfl rfl q1409 q1410 mdX8_174 (ctX3_at (gR σ (gR σ x0 7) 11) x2) rfl (Nat.le_of_ble_eq_true rfl) (Nat.le_of_ble_eq_true rfl) (Nat.le_of_ble_eq_true rfl) pu_I dX8_beginBody_49 (fun r2 σ1 => ?_)
    refine g_icmp_ge 102 dX8_beginBody_52 (by decide) ?_ ?_
    · refine g_aload_n 0 0 dX8_beginBody_102 rfl rfl ?_
      refine g_getR fdX8_35 dX8_beginBody_103 ?_
      refine g_aload_n 0 0 dX8_beginBody_106 rfl rfl ?_
      refine g_getR fdX8_57 dX8_beginBody_107 ?_
      refine g_getR fdX8_171 dX8_beginBody_110 ?_
      refine g_iload_n 2 1 dX8_beginBody_113 rfl rfl ?_
      refine g_iconst (v := 3) dX8_beginBody_114 (by decide) ?_
      refine g_iadd dX8_beginBody_115 ?_
      refine g_callV (fc := fun sς => Row_at sς (gR σ1 (gR σ1 x0 7) 11) (x2 + (3 : Int32))) (ci := 3) (as := [iv (x2 + (3 : Int32))]) rfl rfl rfl q1409 q1410 mdX8_174 (ctX3_at (gR σ1 (gR σ1 x0 7) 11) (x2 + (3 : Int32))) rfl (Nat.le_of_ble_eq_true rfl) (Nat.le_of_ble_eq_true rfl) (Nat.le_of_ble_eq_true rfl) pu_I dX8_beginBody_116 (fun r4 σ3 => ?_)
      refine g_callV (fc := fun sς => Wlk_go sς (gR σ1 x0 6) r4) (ci := 12) (as := [iv r4]) rfl rfl rfl q1572 q1573 mdX8_112 (ctX12_go (gR σ1 x0 6) r4) rfl (Nat.le_of_ble_eq_true rfl) (Nat.le_of_ble_eq_true rfl) (Nat.le_of_ble_eq_true rfl) pu_V dX8_beginBody_119 (fun _ σ5 => ?_)
      exact g_return rfl dX8_beginBody_122
    · refine g_aload_n 0 0 dX8_beginBody_55 rfl rfl ?_
      refine g_getR fdX8_28 dX8_beginBody_56 ?_
      refine g_aload_n 0 0 dX8_beginBody_59 rfl rfl ?_
      refine g_getR fdX8_57 dX8_beginBody_60 ?_
      refine g_getR fdX8_293 dX8_beginBody_63 ?_
      refine g_iload_n 3 2 dX8_beginBody_66 rfl rfl ?_
      refine g_iconst (v := 2) dX8_beginBody_67 (by decide) ?_
      refine g_iload 3 dX8_beginBody_68 rfl ?_
      refine g_imul dX8_beginBody_70 ?_
      refine g_iadd dX8_beginBody_71 ?_
      refine g_iconst (v := 1) dX8_beginBody_72 (by decide) ?_
      refine g_iadd dX8_beginBody_73 ?_
      refine g_callV (fc := fun sς => Row_at sς (gR σ1 (gR σ1 x0 7) 12) ((x3 + ((2 : Int32) * x4)) + (1 : Int32))) (ci := 3) (as := [iv ((x3 + ((2 : Int32) * x4)) + (1 : Int32))]) rfl rfl rfl q1409 q1410 mdX8_174 (ctX3_at (gR σ1 (gR σ1 x0 7) 12) ((x3 + ((2 : Int32) * x4)) + (1 : Int32))) rfl (Nat.le_of_ble_eq_true rfl) (Nat.le_of_ble_eq_true rfl) (Nat.le_of_ble_eq_true rfl) pu_I dX8_beginBody_74 (fun r7 σ6 => ?_)
      refine g_aload_n 0 0 dX8_beginBody_77 rfl rfl ?_
      refine g_getR fdX8_57 dX8_beginBody_78 ?_
      refine g_getR fdX8_293 dX8_beginBody_81 ?_
      refine g_iload_n 3 2 dX8_beginBody_84 rfl rfl ?_
      refine g_iconst (v := 2) dX8_beginBody_85 (by decide) ?_
      refine g_iload 3 dX8_beginBody_86 rfl ?_
      refine g_imul dX8_beginBody_88 ?_
      refine g_iadd dX8_beginBody_89 ?_
      refine g_callV (fc := fun sς => Row_at sς (gR σ6 (gR σ6 x0 7) 12) (x3 + ((2 : Int32) * x4))) (ci := 3) (as := [iv (x3 + ((2 : Int32) * x4))]) rfl rfl rfl q1409 q1410 mdX8_174 (ctX3_at (gR σ6 (gR σ6 x0 7) 12) (x3 + ((2 : Int32) * x4))) rfl (Nat.le_of_ble_eq_true rfl) (Nat.le_of_ble_eq_true rfl) (Nat.le_of_ble_eq_true rfl) pu_I dX8_beginBody_90 (fun r9 σ8 => ?_)
      refine g_callV (fc := fun sς => Chk_addLocals sς (gR σ1 x0 5) r7 r9) (ci := 11) (as := [iv r7, iv r9]) rfl rfl rfl q1780 q1781 mdX8_296 (ctX11_addLocals (gR σ1 x0 5) r7 r9) rfl (Nat.le_of_ble_eq_true rfl) (Nat.le_of_ble_eq_true rfl) (Nat.le_of_ble_eq_true rfl) pu_V dX8_beginBody_93 (fun _ σ10 => ?_)
      refine g_iincB (w := 1) 3 dX8_beginBody_96 rfl (by decide) (by decide) (fun _ => rfl) (fun y11 => ?_)
      refine g_goto 39 dX8_beginBody_99 (by decide) ?_
      refine G.sub [1, 2, 3, 0] rfl ?_
      exact gX8_beginBody_p39 n _ _ _ _ _
def V.Ldr_beginBody (σ : HS) (x0 : Nat) (x1 : Int32) : Option ((Nat ⊕ Unit) × HS) :=
  ck (tg σ x0 = 9) <|
  ck (tg σ x0 = 9) <|
  ck (tg σ (gR σ x0 7) = 3) <|
  ck (tg σ (gR σ (gR σ x0 7) 4) = 4) <| cl (Row_at σ (gR σ (gR σ x0 7) 4) x1) fun r2 σ1 =>
  ck (tg σ1 (gR σ x0 5) = 12) <| clT (Chk_beginBody σ1 (gR σ x0 5) r2) fun _ σ3 =>
  bn ((5 : Int32) * x1) fun y4 =>
  ck (tg σ3 x0 = 9) <|
  ck (tg σ3 (gR σ3 x0 7) = 3) <|
  ck (tg σ3 (gR σ3 (gR σ3 x0 7) 11) = 4) <| cl (Row_at σ3 (gR σ3 (gR σ3 x0 7) 11) (y4 + (1 : Int32))) fun r6 σ5 =>
  Ldr_beginBody_p39 FU σ5 x0 y4 r6 (0 : Int32)
theorem V.ctX8_beginBody (x0 : Nat) (x1 : Int32) : Ct yX8_beginBody  cX8_beginBody 5 none 11 193 eXV [av x0, iv x1] (fun σ => Ldr_beginBody σ x0 x1) := by
  refine Ct.of (own := RX8) (nm := "beginBody") (desc := "(I)V") rfl (by decide) (Nat.le_of_ble_eq_true rfl) (by decide) (fun X σ => ?_)
  show G X RX8 "beginBody" cX8_beginBody 5 none 11 193 (enX enV (cxz X)) 0 [(0, av x0), (1, iv x1)] [] σ (Ldr_beginBody σ x0 x1)
  unfold Ldr_beginBody
  refine g_aload_n 0 0 dX8_beginBody_0 rfl rfl ?_
  refine g_getR fdX8_28 dX8_beginBody_1 ?_
  refine g_aload_n 0 0 dX8_beginBody_4 rfl rfl ?_
  refine g_getR fdX8_57 dX8_beginBody_5 ?_
  refine g_getR fdX8_96 dX8_beginBody_8 ?_
  refine g_iload_n 1 1 dX8_beginBody_11 rfl rfl ?_
  refine g_callV (fc := fun sς => Row_at sς (gR σ (gR σ x0 7) 4) x1) (ci := 3) (as := [iv x1]) rfl rfl rfl q1409 q1410 mdX8_174 (ctX3_at (gR σ (gR σ x0 7) 4) x1) rfl (Nat.le_of_ble_eq_true rfl) (Nat.le_of_ble_eq_true rfl) (Nat.le_of_ble_eq_true rfl) pu_I dX8_beginBody_12 (fun r2 σ1 => ?_)
  refine g_callVT (fc := fun sς => Chk_beginBody sς (gR σ x0 5) r2) (ci := 11) (as := [iv r2]) rfl rfl rfl q1731 q1732 q1730 mdX8_290 (ctX11_beginBody (gR σ x0 5) r2) rfl (Nat.le_of_ble_eq_true rfl) (Nat.le_of_ble_eq_true rfl) (Nat.le_of_ble_eq_true rfl) pu_V (by decide) dX8_beginBody_15 (fun _ σ3 => ?_)
  refine g_iconst (v := 5) dX8_beginBody_18 (by decide) ?_
  refine g_iload_n 1 1 dX8_beginBody_19 rfl rfl ?_
  refine g_imul dX8_beginBody_20 ?_
  refine g_nmI (fun y4 => ?_)
  refine g_istore_n 2 dX8_beginBody_21 rfl (by decide) rfl ?_
  refine g_aload_n 0 1 dX8_beginBody_22 rfl rfl ?_
  refine g_getR fdX8_57 dX8_beginBody_23 ?_
  refine g_getR fdX8_171 dX8_beginBody_26 ?_
  refine g_iload_n 2 0 dX8_beginBody_29 rfl rfl ?_
  refine g_iconst (v := 1) dX8_beginBody_30 (by decide) ?_
  refine g_iadd dX8_beginBody_31 ?_
  refine g_callV (fc := fun sς => Row_at sς (gR σ3 (gR σ3 x0 7) 11) (y4 + (1 : Int32))) (ci := 3) (as := [iv (y4 + (1 : Int32))]) rfl rfl rfl q1409 q1410 mdX8_174 (ctX3_at (gR σ3 (gR σ3 x0 7) 11) (y4 + (1 : Int32))) rfl (Nat.le_of_ble_eq_true rfl) (Nat.le_of_ble_eq_true rfl) (Nat.le_of_ble_eq_true rfl) pu_I dX8_beginBody_32 (fun r6 σ5 => ?_)
  refine g_istore_n 3 dX8_beginBody_35 rfl (by decide) rfl ?_
  refine g_iconst (v := 0) dX8_beginBody_36 (by decide) ?_
  refine g_istore dX8_beginBody_37 (by decide) rfl ?_
  refine G.sub [3, 2, 1, 0] rfl ?_
  exact gX8_beginBody_p39 FU _ _ _ _ _
